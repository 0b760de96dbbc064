/-! WaterWorksModel.<init>()V -/
abbrev y_Mo_init : MethodName := ⟨"WaterWorksModel", "<init>", "()V"⟩
abbrev rm_Mo_init : Room := { frames := 1, cells := 23, slots := 1466, locals := 40 }
theorem h_Mo_init : y_Mo_init.cls ≠ "java/lang/invoke/MethodHandle" ∧ y_Mo_init.cls ≠ "java/lang/invoke/VarHandle" := by decide +kernel
theorem n_Mo_init : (parseMethodDescriptor y_Mo_init.desc).map (fun d => d.parameters.length) = some 0 := by decide +kernel
theorem d_Mo_init_0 : decode prog_15_method_1_code 0 = .ok (.aload_n 0, 1) := by decide +kernel
theorem d_Mo_init_1 : decode prog_15_method_1_code 1 = .ok (.invokespecial 1, 3) := by decide +kernel
theorem d_Mo_init_4 : decode prog_15_method_1_code 4 = .ok (.aload_n 0, 1) := by decide +kernel
theorem d_Mo_init_5 : decode prog_15_method_1_code 5 = .ok (.bipush 12, 2) := by decide +kernel
theorem d_Mo_init_7 : decode prog_15_method_1_code 7 = .ok (.newarray .boolean, 2) := by decide +kernel
theorem d_Mo_init_9 : decode prog_15_method_1_code 9 = .ok (.putfield 7, 3) := by decide +kernel
theorem d_Mo_init_12 : decode prog_15_method_1_code 12 = .ok (.aload_n 0, 1) := by decide +kernel
theorem d_Mo_init_13 : decode prog_15_method_1_code 13 = .ok (.bipush 32, 2) := by decide +kernel
theorem d_Mo_init_15 : decode prog_15_method_1_code 15 = .ok (.newarray .int, 2) := by decide +kernel
theorem d_Mo_init_17 : decode prog_15_method_1_code 17 = .ok (.putfield 13, 3) := by decide +kernel
theorem d_Mo_init_20 : decode prog_15_method_1_code 20 = .ok (.aload_n 0, 1) := by decide +kernel
theorem d_Mo_init_21 : decode prog_15_method_1_code 21 = .ok (.bipush 32, 2) := by decide +kernel
theorem d_Mo_init_23 : decode prog_15_method_1_code 23 = .ok (.newarray .boolean, 2) := by decide +kernel
theorem d_Mo_init_25 : decode prog_15_method_1_code 25 = .ok (.putfield 17, 3) := by decide +kernel
theorem d_Mo_init_28 : decode prog_15_method_1_code 28 = .ok (.aload_n 0, 1) := by decide +kernel
theorem d_Mo_init_29 : decode prog_15_method_1_code 29 = .ok (.bipush 32, 2) := by decide +kernel
theorem d_Mo_init_31 : decode prog_15_method_1_code 31 = .ok (.newarray .boolean, 2) := by decide +kernel
theorem d_Mo_init_33 : decode prog_15_method_1_code 33 = .ok (.putfield 20, 3) := by decide +kernel
theorem d_Mo_init_36 : decode prog_15_method_1_code 36 = .ok (.aload_n 0, 1) := by decide +kernel
theorem d_Mo_init_37 : decode prog_15_method_1_code 37 = .ok (.bipush 32, 2) := by decide +kernel
theorem d_Mo_init_39 : decode prog_15_method_1_code 39 = .ok (.newarray .boolean, 2) := by decide +kernel
theorem d_Mo_init_41 : decode prog_15_method_1_code 41 = .ok (.putfield 23, 3) := by decide +kernel
theorem d_Mo_init_44 : decode prog_15_method_1_code 44 = .ok (.aload_n 0, 1) := by decide +kernel
theorem d_Mo_init_45 : decode prog_15_method_1_code 45 = .ok (.bipush 10, 2) := by decide +kernel
theorem d_Mo_init_47 : decode prog_15_method_1_code 47 = .ok (.newarray .int, 2) := by decide +kernel
theorem d_Mo_init_49 : decode prog_15_method_1_code 49 = .ok (.putfield 26, 3) := by decide +kernel
theorem d_Mo_init_52 : decode prog_15_method_1_code 52 = .ok (.aload_n 0, 1) := by decide +kernel
theorem d_Mo_init_53 : decode prog_15_method_1_code 53 = .ok (.bipush 28, 2) := by decide +kernel
theorem d_Mo_init_55 : decode prog_15_method_1_code 55 = .ok (.newarray .boolean, 2) := by decide +kernel
theorem d_Mo_init_57 : decode prog_15_method_1_code 57 = .ok (.putfield 29, 3) := by decide +kernel
theorem d_Mo_init_60 : decode prog_15_method_1_code 60 = .ok (.aload_n 0, 1) := by decide +kernel
theorem d_Mo_init_61 : decode prog_15_method_1_code 61 = .ok (.bipush 32, 2) := by decide +kernel
theorem d_Mo_init_63 : decode prog_15_method_1_code 63 = .ok (.newarray .boolean, 2) := by decide +kernel
theorem d_Mo_init_65 : decode prog_15_method_1_code 65 = .ok (.putfield 32, 3) := by decide +kernel
theorem d_Mo_init_68 : decode prog_15_method_1_code 68 = .ok (.aload_n 0, 1) := by decide +kernel
theorem d_Mo_init_69 : decode prog_15_method_1_code 69 = .ok (.bipush 28, 2) := by decide +kernel
theorem d_Mo_init_71 : decode prog_15_method_1_code 71 = .ok (.newarray .boolean, 2) := by decide +kernel
theorem d_Mo_init_73 : decode prog_15_method_1_code 73 = .ok (.putfield 35, 3) := by decide +kernel
theorem d_Mo_init_76 : decode prog_15_method_1_code 76 = .ok (.aload_n 0, 1) := by decide +kernel
theorem d_Mo_init_77 : decode prog_15_method_1_code 77 = .ok (.bipush 32, 2) := by decide +kernel
theorem d_Mo_init_79 : decode prog_15_method_1_code 79 = .ok (.newarray .boolean, 2) := by decide +kernel
theorem d_Mo_init_81 : decode prog_15_method_1_code 81 = .ok (.putfield 38, 3) := by decide +kernel
theorem d_Mo_init_84 : decode prog_15_method_1_code 84 = .ok (.aload_n 0, 1) := by decide +kernel
theorem d_Mo_init_85 : decode prog_15_method_1_code 85 = .ok (.bipush 10, 2) := by decide +kernel
theorem d_Mo_init_87 : decode prog_15_method_1_code 87 = .ok (.newarray .boolean, 2) := by decide +kernel
theorem d_Mo_init_89 : decode prog_15_method_1_code 89 = .ok (.putfield 41, 3) := by decide +kernel
theorem d_Mo_init_92 : decode prog_15_method_1_code 92 = .ok (.aload_n 0, 1) := by decide +kernel
theorem d_Mo_init_93 : decode prog_15_method_1_code 93 = .ok (.bipush 10, 2) := by decide +kernel
theorem d_Mo_init_95 : decode prog_15_method_1_code 95 = .ok (.newarray .int, 2) := by decide +kernel
theorem d_Mo_init_97 : decode prog_15_method_1_code 97 = .ok (.putfield 44, 3) := by decide +kernel
theorem d_Mo_init_100 : decode prog_15_method_1_code 100 = .ok (.aload_n 0, 1) := by decide +kernel
theorem d_Mo_init_101 : decode prog_15_method_1_code 101 = .ok (.sipush 240, 3) := by decide +kernel
theorem d_Mo_init_104 : decode prog_15_method_1_code 104 = .ok (.newarray .int, 2) := by decide +kernel
theorem d_Mo_init_106 : decode prog_15_method_1_code 106 = .ok (.putfield 47, 3) := by decide +kernel
theorem d_Mo_init_109 : decode prog_15_method_1_code 109 = .ok (.aload_n 0, 1) := by decide +kernel
theorem d_Mo_init_110 : decode prog_15_method_1_code 110 = .ok (.sipush 240, 3) := by decide +kernel
theorem d_Mo_init_113 : decode prog_15_method_1_code 113 = .ok (.newarray .int, 2) := by decide +kernel
theorem d_Mo_init_115 : decode prog_15_method_1_code 115 = .ok (.putfield 50, 3) := by decide +kernel
theorem d_Mo_init_118 : decode prog_15_method_1_code 118 = .ok (.aload_n 0, 1) := by decide +kernel
theorem d_Mo_init_119 : decode prog_15_method_1_code 119 = .ok (.sipush 240, 3) := by decide +kernel
theorem d_Mo_init_122 : decode prog_15_method_1_code 122 = .ok (.newarray .int, 2) := by decide +kernel
theorem d_Mo_init_124 : decode prog_15_method_1_code 124 = .ok (.putfield 53, 3) := by decide +kernel
theorem d_Mo_init_127 : decode prog_15_method_1_code 127 = .ok (.aload_n 0, 1) := by decide +kernel
theorem d_Mo_init_128 : decode prog_15_method_1_code 128 = .ok (.sipush 240, 3) := by decide +kernel
theorem d_Mo_init_131 : decode prog_15_method_1_code 131 = .ok (.newarray .boolean, 2) := by decide +kernel
theorem d_Mo_init_133 : decode prog_15_method_1_code 133 = .ok (.putfield 56, 3) := by decide +kernel
theorem d_Mo_init_136 : decode prog_15_method_1_code 136 = .ok (.aload_n 0, 1) := by decide +kernel
theorem d_Mo_init_137 : decode prog_15_method_1_code 137 = .ok (.bipush 8, 2) := by decide +kernel
theorem d_Mo_init_139 : decode prog_15_method_1_code 139 = .ok (.newarray .int, 2) := by decide +kernel
theorem d_Mo_init_141 : decode prog_15_method_1_code 141 = .ok (.putfield 59, 3) := by decide +kernel
theorem d_Mo_init_144 : decode prog_15_method_1_code 144 = .ok (.aload_n 0, 1) := by decide +kernel
theorem d_Mo_init_145 : decode prog_15_method_1_code 145 = .ok (.bipush 8, 2) := by decide +kernel
theorem d_Mo_init_147 : decode prog_15_method_1_code 147 = .ok (.newarray .long, 2) := by decide +kernel
theorem d_Mo_init_149 : decode prog_15_method_1_code 149 = .ok (.putfield 62, 3) := by decide +kernel
theorem d_Mo_init_152 : decode prog_15_method_1_code 152 = .ok (.aload_n 0, 1) := by decide +kernel
theorem d_Mo_init_153 : decode prog_15_method_1_code 153 = .ok (.bipush 10, 2) := by decide +kernel
theorem d_Mo_init_155 : decode prog_15_method_1_code 155 = .ok (.newarray .int, 2) := by decide +kernel
theorem d_Mo_init_157 : decode prog_15_method_1_code 157 = .ok (.putfield 66, 3) := by decide +kernel
theorem d_Mo_init_160 : decode prog_15_method_1_code 160 = .ok (.aload_n 0, 1) := by decide +kernel
theorem d_Mo_init_161 : decode prog_15_method_1_code 161 = .ok (.bipush 60, 2) := by decide +kernel
theorem d_Mo_init_163 : decode prog_15_method_1_code 163 = .ok (.newarray .int, 2) := by decide +kernel
theorem d_Mo_init_165 : decode prog_15_method_1_code 165 = .ok (.putfield 69, 3) := by decide +kernel
theorem d_Mo_init_168 : decode prog_15_method_1_code 168 = .ok (.aload_n 0, 1) := by decide +kernel
theorem d_Mo_init_169 : decode prog_15_method_1_code 169 = .ok (.bipush 60, 2) := by decide +kernel
theorem d_Mo_init_171 : decode prog_15_method_1_code 171 = .ok (.newarray .int, 2) := by decide +kernel
theorem d_Mo_init_173 : decode prog_15_method_1_code 173 = .ok (.putfield 72, 3) := by decide +kernel
theorem d_Mo_init_176 : decode prog_15_method_1_code 176 = .ok (.aload_n 0, 1) := by decide +kernel
theorem d_Mo_init_177 : decode prog_15_method_1_code 177 = .ok (.bipush 60, 2) := by decide +kernel
theorem d_Mo_init_179 : decode prog_15_method_1_code 179 = .ok (.newarray .long, 2) := by decide +kernel
theorem d_Mo_init_181 : decode prog_15_method_1_code 181 = .ok (.putfield 75, 3) := by decide +kernel
theorem d_Mo_init_184 : decode prog_15_method_1_code 184 = .ok (.aload_n 0, 1) := by decide +kernel
theorem d_Mo_init_185 : decode prog_15_method_1_code 185 = .ok (.bipush 10, 2) := by decide +kernel
theorem d_Mo_init_187 : decode prog_15_method_1_code 187 = .ok (.newarray .long, 2) := by decide +kernel
theorem d_Mo_init_189 : decode prog_15_method_1_code 189 = .ok (.putfield 78, 3) := by decide +kernel
theorem d_Mo_init_192 : decode prog_15_method_1_code 192 = .ok (.return_, 1) := by decide +kernel
def wp_Mo_init (po : Option Value → Pic → Prop) (th : String → Pic → Prop) (P : Pic) (a0 : Nat) : Prop := ∀ (q101 : Nat), p_z P ≤ q101 → p_k (s_arr P q101 2 (Int32.toNatClampNeg (12 : Int32))) a0 = 13 ∧ ∀ (P104 : Pic), P104 = s_r (s_arr P q101 2 (Int32.toNatClampNeg (12 : Int32))) 484 a0 (some q101) → ∀ (q105 : Nat), p_z P104 ≤ q105 → ∀ (P107 : Pic), P107 = s_r (s_arr P104 q105 0 (Int32.toNatClampNeg (32 : Int32))) 485 a0 (some q105) → ∀ (q108 : Nat), p_z P107 ≤ q108 → ∀ (P110 : Pic), P110 = s_r (s_arr P107 q108 2 (Int32.toNatClampNeg (32 : Int32))) 486 a0 (some q108) → ∀ (q111 : Nat), p_z P110 ≤ q111 → ∀ (P113 : Pic), P113 = s_r (s_arr P110 q111 2 (Int32.toNatClampNeg (32 : Int32))) 487 a0 (some q111) → ∀ (q114 : Nat), p_z P113 ≤ q114 → ∀ (P116 : Pic), P116 = s_r (s_arr P113 q114 2 (Int32.toNatClampNeg (32 : Int32))) 488 a0 (some q114) → ∀ (q117 : Nat), p_z P116 ≤ q117 → ∀ (P119 : Pic), P119 = s_r (s_arr P116 q117 0 (Int32.toNatClampNeg (10 : Int32))) 489 a0 (some q117) → ∀ (q120 : Nat), p_z P119 ≤ q120 → ∀ (P122 : Pic), P122 = s_r (s_arr P119 q120 2 (Int32.toNatClampNeg (28 : Int32))) 490 a0 (some q120) → ∀ (q123 : Nat), p_z P122 ≤ q123 → ∀ (P125 : Pic), P125 = s_r (s_arr P122 q123 2 (Int32.toNatClampNeg (32 : Int32))) 491 a0 (some q123) → ∀ (q126 : Nat), p_z P125 ≤ q126 → ∀ (P128 : Pic), P128 = s_r (s_arr P125 q126 2 (Int32.toNatClampNeg (28 : Int32))) 492 a0 (some q126) → ∀ (q129 : Nat), p_z P128 ≤ q129 → ∀ (P131 : Pic), P131 = s_r (s_arr P128 q129 2 (Int32.toNatClampNeg (32 : Int32))) 493 a0 (some q129) → ∀ (q132 : Nat), p_z P131 ≤ q132 → ∀ (P134 : Pic), P134 = s_r (s_arr P131 q132 2 (Int32.toNatClampNeg (10 : Int32))) 494 a0 (some q132) → ∀ (q135 : Nat), p_z P134 ≤ q135 → ∀ (P137 : Pic), P137 = s_r (s_arr P134 q135 0 (Int32.toNatClampNeg (10 : Int32))) 496 a0 (some q135) → ∀ (q138 : Nat), p_z P137 ≤ q138 → ∀ (P140 : Pic), P140 = s_r (s_arr P137 q138 0 (Int32.toNatClampNeg (240 : Int32))) 497 a0 (some q138) → ∀ (q141 : Nat), p_z P140 ≤ q141 → ∀ (P143 : Pic), P143 = s_r (s_arr P140 q141 0 (Int32.toNatClampNeg (240 : Int32))) 498 a0 (some q141) → ∀ (q144 : Nat), p_z P143 ≤ q144 → ∀ (P146 : Pic), P146 = s_r (s_arr P143 q144 0 (Int32.toNatClampNeg (240 : Int32))) 499 a0 (some q144) → ∀ (q147 : Nat), p_z P146 ≤ q147 → ∀ (P149 : Pic), P149 = s_r (s_arr P146 q147 2 (Int32.toNatClampNeg (240 : Int32))) 500 a0 (some q147) → ∀ (q150 : Nat), p_z P149 ≤ q150 → ∀ (P152 : Pic), P152 = s_r (s_arr P149 q150 0 (Int32.toNatClampNeg (8 : Int32))) 502 a0 (some q150) → ∀ (q153 : Nat), p_z P152 ≤ q153 → ∀ (P155 : Pic), P155 = s_r (s_arr P152 q153 1 (Int32.toNatClampNeg (8 : Int32))) 503 a0 (some q153) → ∀ (q156 : Nat), p_z P155 ≤ q156 → ∀ (P158 : Pic), P158 = s_r (s_arr P155 q156 0 (Int32.toNatClampNeg (10 : Int32))) 504 a0 (some q156) → ∀ (q159 : Nat), p_z P158 ≤ q159 → ∀ (P161 : Pic), P161 = s_r (s_arr P158 q159 0 (Int32.toNatClampNeg (60 : Int32))) 505 a0 (some q159) → ∀ (q162 : Nat), p_z P161 ≤ q162 → ∀ (P164 : Pic), P164 = s_r (s_arr P161 q162 0 (Int32.toNatClampNeg (60 : Int32))) 506 a0 (some q162) → ∀ (q165 : Nat), p_z P164 ≤ q165 → ∀ (P167 : Pic), P167 = s_r (s_arr P164 q165 1 (Int32.toNatClampNeg (60 : Int32))) 507 a0 (some q165) → ∀ (q168 : Nat), p_z P167 ≤ q168 → ∀ (P170 : Pic), P170 = s_r (s_arr P167 q168 1 (Int32.toNatClampNeg (10 : Int32))) 508 a0 (some q168) → po none P170
set_option maxHeartbeats 4000000 in
set_option maxRecDepth 100000 in
theorem ct_Mo_init {l : Launch} (hfl : l.flags = flags0) (D : pq_D) {po : Option Value → Pic → Prop} {th : String → Pic → Prop} {P : Pic} {a0 : Nat} (h : wp_Mo_init po th P a0) : CT l D y_Mo_init (.code y_Mo_init prog_15_method_1_code 1 none) rm_Mo_init false [.ref a0] P po th := by
  refine ct_of (hs := []) hfl (by decide +kernel) (Or.inl ⟨rfl, rfl⟩) (Nat.le_of_ble_eq_true rfl) ?_
  intro p e s m below meth c C hmg hr hin htab ls hl
  have hl : lv_has ls 1 [(0, .ref a0)] := hl
  generalize hargs : ([.ref a0] : List Value).toArray = args at C ⊢
  obtain ⟨hx, hb, hml, hown, hlocks, htr, hT, hK, hSt, hN, hP0⟩ := id C
  have hP : Pi D P s.heap := hP0
  have hS : Sg (cq_A P s) s.heap s.heap P [] := Sg.start hP0
  unfold wp_Mo_init at h
  refine lv_aload_n (pc := 0) hx hb d_Mo_init_0 rfl (lv_at hl 0 rfl) ?_
  refine W.objInit hx hb hown (hT _ k_1103 _) (hT _ k_43 _) (hT _ k_44 _) rfl (by rw [hml]; exact hl.1) rfl d_Mo_init_1 (Nat.le_of_ble_eq_true rfl) (Nat.le_of_ble_eq_true rfl) ?_
  refine W.eq (g2 := F0 m 4 ls []) rfl ?_
  refine lv_aload_n (pc := 4) hx hb d_Mo_init_4 rfl (lv_at hl 0 rfl) ?_
  refine lv_bipush (pc := 5) (v := 12) hx hb d_Mo_init_5 (by decide) ?_
  refine pq_newa (pc := 7) (atype := .boolean) (t := 2) (N := 12) (ty := .boolean) hx hb hK hP hS (hT _ k_1192 _) rfl (by simp) (by decide +kernel) (by decide +kernel) (by decide) (show 0 + 1 ≤ 23 by omega) (show 0 + 12 ≤ 1466 by omega) d_Mo_init_7 (fun q101 H hq101 hP1 hS => ?_)
  replace h := h q101 hq101
  have hkq101 : p_k (s_arr P q101 2 (Int32.toNatClampNeg (12 : Int32))) q101 = 103 := pk_arrq _ _ _ _
  replace hP := hP1
  clear hP1
  obtain ⟨hk103, h⟩ := h
  refine pq_putRa (pc := 9) (f := 484) hx hb hT hK hP hS hown hin (k := 12) (j := 4) rfl (by decide) (by decide) (hT _ k_1108 _) hk103 rfl rfl rfl rfl d_Mo_init_9 (fun H locs hP hS => ?_)
  have hk103 : p_k (s_r (s_arr P q101 2 (Int32.toNatClampNeg (12 : Int32))) 484 a0 (some q101)) a0 = 13 := by rw [pk_r]; exact hk103
  obtain ⟨P104, eP104⟩ : ∃ z : Pic, z = s_r (s_arr P q101 2 (Int32.toNatClampNeg (12 : Int32))) 484 a0 (some q101) := ⟨_, rfl⟩
  replace h := h P104 eP104
  rw [← eP104] at hP hS
  have hk103 : p_k P104 a0 = 13 := by rw [eP104]; exact hk103
  refine lv_aload_n (pc := 12) hx hb d_Mo_init_12 rfl (lv_at hl 0 rfl) ?_
  refine lv_bipush (pc := 13) (v := 32) hx hb d_Mo_init_13 (by decide) ?_
  refine pq_newa (pc := 15) (atype := .int) (t := 0) (N := 32) (ty := .int) hx hb hK hP hS (hT _ k_1193 _) rfl (by simp) (by decide +kernel) (by decide +kernel) (by decide) (show 0 + 1 + 1 ≤ 23 by omega) (show 0 + 12 + 32 ≤ 1466 by omega) d_Mo_init_15 (fun q105 H hq105 hP1 hS => ?_)
  replace h := h q105 hq105
  have hk103 : p_k (s_arr P104 q105 0 (Int32.toNatClampNeg (32 : Int32))) a0 = 13 := pq_olda (k := 12) hP hk103 hq105
  have hkq105 : p_k (s_arr P104 q105 0 (Int32.toNatClampNeg (32 : Int32))) q105 = 101 := pk_arrq _ _ _ _
  replace hP := hP1
  clear hP1
  refine pq_putRa (pc := 17) (f := 485) hx hb hT hK hP hS hown hin (k := 12) (j := 5) rfl (by decide) (by decide) (hT _ k_1109 _) hk103 rfl rfl rfl rfl d_Mo_init_17 (fun H locs hP hS => ?_)
  have hk103 : p_k (s_r (s_arr P104 q105 0 (Int32.toNatClampNeg (32 : Int32))) 485 a0 (some q105)) a0 = 13 := by rw [pk_r]; exact hk103
  obtain ⟨P107, eP107⟩ : ∃ z : Pic, z = s_r (s_arr P104 q105 0 (Int32.toNatClampNeg (32 : Int32))) 485 a0 (some q105) := ⟨_, rfl⟩
  replace h := h P107 eP107
  rw [← eP107] at hP hS
  have hk103 : p_k P107 a0 = 13 := by rw [eP107]; exact hk103
  refine lv_aload_n (pc := 20) hx hb d_Mo_init_20 rfl (lv_at hl 0 rfl) ?_
  refine lv_bipush (pc := 21) (v := 32) hx hb d_Mo_init_21 (by decide) ?_
  refine pq_newa (pc := 23) (atype := .boolean) (t := 2) (N := 32) (ty := .boolean) hx hb hK hP hS (hT _ k_1192 _) rfl (by simp) (by decide +kernel) (by decide +kernel) (by decide) (show 0 + 1 + 1 + 1 ≤ 23 by omega) (show 0 + 12 + 32 + 32 ≤ 1466 by omega) d_Mo_init_23 (fun q108 H hq108 hP1 hS => ?_)
  replace h := h q108 hq108
  have hk103 : p_k (s_arr P107 q108 2 (Int32.toNatClampNeg (32 : Int32))) a0 = 13 := pq_olda (k := 12) hP hk103 hq108
  have hkq108 : p_k (s_arr P107 q108 2 (Int32.toNatClampNeg (32 : Int32))) q108 = 103 := pk_arrq _ _ _ _
  replace hP := hP1
  clear hP1
  refine pq_putRa (pc := 25) (f := 486) hx hb hT hK hP hS hown hin (k := 12) (j := 6) rfl (by decide) (by decide) (hT _ k_1110 _) hk103 rfl rfl rfl rfl d_Mo_init_25 (fun H locs hP hS => ?_)
  have hk103 : p_k (s_r (s_arr P107 q108 2 (Int32.toNatClampNeg (32 : Int32))) 486 a0 (some q108)) a0 = 13 := by rw [pk_r]; exact hk103
  obtain ⟨P110, eP110⟩ : ∃ z : Pic, z = s_r (s_arr P107 q108 2 (Int32.toNatClampNeg (32 : Int32))) 486 a0 (some q108) := ⟨_, rfl⟩
  replace h := h P110 eP110
  rw [← eP110] at hP hS
  have hk103 : p_k P110 a0 = 13 := by rw [eP110]; exact hk103
  refine lv_aload_n (pc := 28) hx hb d_Mo_init_28 rfl (lv_at hl 0 rfl) ?_
  refine lv_bipush (pc := 29) (v := 32) hx hb d_Mo_init_29 (by decide) ?_
  refine pq_newa (pc := 31) (atype := .boolean) (t := 2) (N := 32) (ty := .boolean) hx hb hK hP hS (hT _ k_1192 _) rfl (by simp) (by decide +kernel) (by decide +kernel) (by decide) (show 0 + 1 + 1 + 1 + 1 ≤ 23 by omega) (show 0 + 12 + 32 + 32 + 32 ≤ 1466 by omega) d_Mo_init_31 (fun q111 H hq111 hP1 hS => ?_)
  replace h := h q111 hq111
  have hk103 : p_k (s_arr P110 q111 2 (Int32.toNatClampNeg (32 : Int32))) a0 = 13 := pq_olda (k := 12) hP hk103 hq111
  have hkq111 : p_k (s_arr P110 q111 2 (Int32.toNatClampNeg (32 : Int32))) q111 = 103 := pk_arrq _ _ _ _
  replace hP := hP1
  clear hP1
  refine pq_putRa (pc := 33) (f := 487) hx hb hT hK hP hS hown hin (k := 12) (j := 7) rfl (by decide) (by decide) (hT _ k_1111 _) hk103 rfl rfl rfl rfl d_Mo_init_33 (fun H locs hP hS => ?_)
  have hk103 : p_k (s_r (s_arr P110 q111 2 (Int32.toNatClampNeg (32 : Int32))) 487 a0 (some q111)) a0 = 13 := by rw [pk_r]; exact hk103
  obtain ⟨P113, eP113⟩ : ∃ z : Pic, z = s_r (s_arr P110 q111 2 (Int32.toNatClampNeg (32 : Int32))) 487 a0 (some q111) := ⟨_, rfl⟩
  replace h := h P113 eP113
  rw [← eP113] at hP hS
  have hk103 : p_k P113 a0 = 13 := by rw [eP113]; exact hk103
  refine lv_aload_n (pc := 36) hx hb d_Mo_init_36 rfl (lv_at hl 0 rfl) ?_
  refine lv_bipush (pc := 37) (v := 32) hx hb d_Mo_init_37 (by decide) ?_
  refine pq_newa (pc := 39) (atype := .boolean) (t := 2) (N := 32) (ty := .boolean) hx hb hK hP hS (hT _ k_1192 _) rfl (by simp) (by decide +kernel) (by decide +kernel) (by decide) (show 0 + 1 + 1 + 1 + 1 + 1 ≤ 23 by omega) (show 0 + 12 + 32 + 32 + 32 + 32 ≤ 1466 by omega) d_Mo_init_39 (fun q114 H hq114 hP1 hS => ?_)
  replace h := h q114 hq114
  have hk103 : p_k (s_arr P113 q114 2 (Int32.toNatClampNeg (32 : Int32))) a0 = 13 := pq_olda (k := 12) hP hk103 hq114
  have hkq114 : p_k (s_arr P113 q114 2 (Int32.toNatClampNeg (32 : Int32))) q114 = 103 := pk_arrq _ _ _ _
  replace hP := hP1
  clear hP1
  refine pq_putRa (pc := 41) (f := 488) hx hb hT hK hP hS hown hin (k := 12) (j := 8) rfl (by decide) (by decide) (hT _ k_1112 _) hk103 rfl rfl rfl rfl d_Mo_init_41 (fun H locs hP hS => ?_)
  have hk103 : p_k (s_r (s_arr P113 q114 2 (Int32.toNatClampNeg (32 : Int32))) 488 a0 (some q114)) a0 = 13 := by rw [pk_r]; exact hk103
  obtain ⟨P116, eP116⟩ : ∃ z : Pic, z = s_r (s_arr P113 q114 2 (Int32.toNatClampNeg (32 : Int32))) 488 a0 (some q114) := ⟨_, rfl⟩
  replace h := h P116 eP116
  rw [← eP116] at hP hS
  have hk103 : p_k P116 a0 = 13 := by rw [eP116]; exact hk103
  refine lv_aload_n (pc := 44) hx hb d_Mo_init_44 rfl (lv_at hl 0 rfl) ?_
  refine lv_bipush (pc := 45) (v := 10) hx hb d_Mo_init_45 (by decide) ?_
  refine pq_newa (pc := 47) (atype := .int) (t := 0) (N := 10) (ty := .int) hx hb hK hP hS (hT _ k_1193 _) rfl (by simp) (by decide +kernel) (by decide +kernel) (by decide) (show 0 + 1 + 1 + 1 + 1 + 1 + 1 ≤ 23 by omega) (show 0 + 12 + 32 + 32 + 32 + 32 + 10 ≤ 1466 by omega) d_Mo_init_47 (fun q117 H hq117 hP1 hS => ?_)
  replace h := h q117 hq117
  have hk103 : p_k (s_arr P116 q117 0 (Int32.toNatClampNeg (10 : Int32))) a0 = 13 := pq_olda (k := 12) hP hk103 hq117
  have hkq117 : p_k (s_arr P116 q117 0 (Int32.toNatClampNeg (10 : Int32))) q117 = 101 := pk_arrq _ _ _ _
  replace hP := hP1
  clear hP1
  refine pq_putRa (pc := 49) (f := 489) hx hb hT hK hP hS hown hin (k := 12) (j := 9) rfl (by decide) (by decide) (hT _ k_1113 _) hk103 rfl rfl rfl rfl d_Mo_init_49 (fun H locs hP hS => ?_)
  have hk103 : p_k (s_r (s_arr P116 q117 0 (Int32.toNatClampNeg (10 : Int32))) 489 a0 (some q117)) a0 = 13 := by rw [pk_r]; exact hk103
  obtain ⟨P119, eP119⟩ : ∃ z : Pic, z = s_r (s_arr P116 q117 0 (Int32.toNatClampNeg (10 : Int32))) 489 a0 (some q117) := ⟨_, rfl⟩
  replace h := h P119 eP119
  rw [← eP119] at hP hS
  have hk103 : p_k P119 a0 = 13 := by rw [eP119]; exact hk103
  refine lv_aload_n (pc := 52) hx hb d_Mo_init_52 rfl (lv_at hl 0 rfl) ?_
  refine lv_bipush (pc := 53) (v := 28) hx hb d_Mo_init_53 (by decide) ?_
  refine pq_newa (pc := 55) (atype := .boolean) (t := 2) (N := 28) (ty := .boolean) hx hb hK hP hS (hT _ k_1192 _) rfl (by simp) (by decide +kernel) (by decide +kernel) (by decide) (show 0 + 1 + 1 + 1 + 1 + 1 + 1 + 1 ≤ 23 by omega) (show 0 + 12 + 32 + 32 + 32 + 32 + 10 + 28 ≤ 1466 by omega) d_Mo_init_55 (fun q120 H hq120 hP1 hS => ?_)
  replace h := h q120 hq120
  have hk103 : p_k (s_arr P119 q120 2 (Int32.toNatClampNeg (28 : Int32))) a0 = 13 := pq_olda (k := 12) hP hk103 hq120
  have hkq120 : p_k (s_arr P119 q120 2 (Int32.toNatClampNeg (28 : Int32))) q120 = 103 := pk_arrq _ _ _ _
  replace hP := hP1
  clear hP1
  refine pq_putRa (pc := 57) (f := 490) hx hb hT hK hP hS hown hin (k := 12) (j := 10) rfl (by decide) (by decide) (hT _ k_1114 _) hk103 rfl rfl rfl rfl d_Mo_init_57 (fun H locs hP hS => ?_)
  have hk103 : p_k (s_r (s_arr P119 q120 2 (Int32.toNatClampNeg (28 : Int32))) 490 a0 (some q120)) a0 = 13 := by rw [pk_r]; exact hk103
  obtain ⟨P122, eP122⟩ : ∃ z : Pic, z = s_r (s_arr P119 q120 2 (Int32.toNatClampNeg (28 : Int32))) 490 a0 (some q120) := ⟨_, rfl⟩
  replace h := h P122 eP122
  rw [← eP122] at hP hS
  have hk103 : p_k P122 a0 = 13 := by rw [eP122]; exact hk103
  refine lv_aload_n (pc := 60) hx hb d_Mo_init_60 rfl (lv_at hl 0 rfl) ?_
  refine lv_bipush (pc := 61) (v := 32) hx hb d_Mo_init_61 (by decide) ?_
  refine pq_newa (pc := 63) (atype := .boolean) (t := 2) (N := 32) (ty := .boolean) hx hb hK hP hS (hT _ k_1192 _) rfl (by simp) (by decide +kernel) (by decide +kernel) (by decide) (show 0 + 1 + 1 + 1 + 1 + 1 + 1 + 1 + 1 ≤ 23 by omega) (show 0 + 12 + 32 + 32 + 32 + 32 + 10 + 28 + 32 ≤ 1466 by omega) d_Mo_init_63 (fun q123 H hq123 hP1 hS => ?_)
  replace h := h q123 hq123
  have hk103 : p_k (s_arr P122 q123 2 (Int32.toNatClampNeg (32 : Int32))) a0 = 13 := pq_olda (k := 12) hP hk103 hq123
  have hkq123 : p_k (s_arr P122 q123 2 (Int32.toNatClampNeg (32 : Int32))) q123 = 103 := pk_arrq _ _ _ _
  replace hP := hP1
  clear hP1
  refine pq_putRa (pc := 65) (f := 491) hx hb hT hK hP hS hown hin (k := 12) (j := 11) rfl (by decide) (by decide) (hT _ k_1115 _) hk103 rfl rfl rfl rfl d_Mo_init_65 (fun H locs hP hS => ?_)
  have hk103 : p_k (s_r (s_arr P122 q123 2 (Int32.toNatClampNeg (32 : Int32))) 491 a0 (some q123)) a0 = 13 := by rw [pk_r]; exact hk103
  obtain ⟨P125, eP125⟩ : ∃ z : Pic, z = s_r (s_arr P122 q123 2 (Int32.toNatClampNeg (32 : Int32))) 491 a0 (some q123) := ⟨_, rfl⟩
  replace h := h P125 eP125
  rw [← eP125] at hP hS
  have hk103 : p_k P125 a0 = 13 := by rw [eP125]; exact hk103
  refine lv_aload_n (pc := 68) hx hb d_Mo_init_68 rfl (lv_at hl 0 rfl) ?_
  refine lv_bipush (pc := 69) (v := 28) hx hb d_Mo_init_69 (by decide) ?_
  refine pq_newa (pc := 71) (atype := .boolean) (t := 2) (N := 28) (ty := .boolean) hx hb hK hP hS (hT _ k_1192 _) rfl (by simp) (by decide +kernel) (by decide +kernel) (by decide) (show 0 + 1 + 1 + 1 + 1 + 1 + 1 + 1 + 1 + 1 ≤ 23 by omega) (show 0 + 12 + 32 + 32 + 32 + 32 + 10 + 28 + 32 + 28 ≤ 1466 by omega) d_Mo_init_71 (fun q126 H hq126 hP1 hS => ?_)
  replace h := h q126 hq126
  have hk103 : p_k (s_arr P125 q126 2 (Int32.toNatClampNeg (28 : Int32))) a0 = 13 := pq_olda (k := 12) hP hk103 hq126
  have hkq126 : p_k (s_arr P125 q126 2 (Int32.toNatClampNeg (28 : Int32))) q126 = 103 := pk_arrq _ _ _ _
  replace hP := hP1
  clear hP1
  refine pq_putRa (pc := 73) (f := 492) hx hb hT hK hP hS hown hin (k := 12) (j := 12) rfl (by decide) (by decide) (hT _ k_1116 _) hk103 rfl rfl rfl rfl d_Mo_init_73 (fun H locs hP hS => ?_)
  have hk103 : p_k (s_r (s_arr P125 q126 2 (Int32.toNatClampNeg (28 : Int32))) 492 a0 (some q126)) a0 = 13 := by rw [pk_r]; exact hk103
  obtain ⟨P128, eP128⟩ : ∃ z : Pic, z = s_r (s_arr P125 q126 2 (Int32.toNatClampNeg (28 : Int32))) 492 a0 (some q126) := ⟨_, rfl⟩
  replace h := h P128 eP128
  rw [← eP128] at hP hS
  have hk103 : p_k P128 a0 = 13 := by rw [eP128]; exact hk103
  refine lv_aload_n (pc := 76) hx hb d_Mo_init_76 rfl (lv_at hl 0 rfl) ?_
  refine lv_bipush (pc := 77) (v := 32) hx hb d_Mo_init_77 (by decide) ?_
  refine pq_newa (pc := 79) (atype := .boolean) (t := 2) (N := 32) (ty := .boolean) hx hb hK hP hS (hT _ k_1192 _) rfl (by simp) (by decide +kernel) (by decide +kernel) (by decide) (show 0 + 1 + 1 + 1 + 1 + 1 + 1 + 1 + 1 + 1 + 1 ≤ 23 by omega) (show 0 + 12 + 32 + 32 + 32 + 32 + 10 + 28 + 32 + 28 + 32 ≤ 1466 by omega) d_Mo_init_79 (fun q129 H hq129 hP1 hS => ?_)
  replace h := h q129 hq129
  have hk103 : p_k (s_arr P128 q129 2 (Int32.toNatClampNeg (32 : Int32))) a0 = 13 := pq_olda (k := 12) hP hk103 hq129
  have hkq129 : p_k (s_arr P128 q129 2 (Int32.toNatClampNeg (32 : Int32))) q129 = 103 := pk_arrq _ _ _ _
  replace hP := hP1
  clear hP1
  refine pq_putRa (pc := 81) (f := 493) hx hb hT hK hP hS hown hin (k := 12) (j := 13) rfl (by decide) (by decide) (hT _ k_1117 _) hk103 rfl rfl rfl rfl d_Mo_init_81 (fun H locs hP hS => ?_)
  have hk103 : p_k (s_r (s_arr P128 q129 2 (Int32.toNatClampNeg (32 : Int32))) 493 a0 (some q129)) a0 = 13 := by rw [pk_r]; exact hk103
  obtain ⟨P131, eP131⟩ : ∃ z : Pic, z = s_r (s_arr P128 q129 2 (Int32.toNatClampNeg (32 : Int32))) 493 a0 (some q129) := ⟨_, rfl⟩
  replace h := h P131 eP131
  rw [← eP131] at hP hS
  have hk103 : p_k P131 a0 = 13 := by rw [eP131]; exact hk103
  refine lv_aload_n (pc := 84) hx hb d_Mo_init_84 rfl (lv_at hl 0 rfl) ?_
  refine lv_bipush (pc := 85) (v := 10) hx hb d_Mo_init_85 (by decide) ?_
  refine pq_newa (pc := 87) (atype := .boolean) (t := 2) (N := 10) (ty := .boolean) hx hb hK hP hS (hT _ k_1192 _) rfl (by simp) (by decide +kernel) (by decide +kernel) (by decide) (show 0 + 1 + 1 + 1 + 1 + 1 + 1 + 1 + 1 + 1 + 1 + 1 ≤ 23 by omega) (show 0 + 12 + 32 + 32 + 32 + 32 + 10 + 28 + 32 + 28 + 32 + 10 ≤ 1466 by omega) d_Mo_init_87 (fun q132 H hq132 hP1 hS => ?_)
  replace h := h q132 hq132
  have hk103 : p_k (s_arr P131 q132 2 (Int32.toNatClampNeg (10 : Int32))) a0 = 13 := pq_olda (k := 12) hP hk103 hq132
  have hkq132 : p_k (s_arr P131 q132 2 (Int32.toNatClampNeg (10 : Int32))) q132 = 103 := pk_arrq _ _ _ _
  replace hP := hP1
  clear hP1
  refine pq_putRa (pc := 89) (f := 494) hx hb hT hK hP hS hown hin (k := 12) (j := 14) rfl (by decide) (by decide) (hT _ k_1118 _) hk103 rfl rfl rfl rfl d_Mo_init_89 (fun H locs hP hS => ?_)
  have hk103 : p_k (s_r (s_arr P131 q132 2 (Int32.toNatClampNeg (10 : Int32))) 494 a0 (some q132)) a0 = 13 := by rw [pk_r]; exact hk103
  obtain ⟨P134, eP134⟩ : ∃ z : Pic, z = s_r (s_arr P131 q132 2 (Int32.toNatClampNeg (10 : Int32))) 494 a0 (some q132) := ⟨_, rfl⟩
  replace h := h P134 eP134
  rw [← eP134] at hP hS
  have hk103 : p_k P134 a0 = 13 := by rw [eP134]; exact hk103
  refine lv_aload_n (pc := 92) hx hb d_Mo_init_92 rfl (lv_at hl 0 rfl) ?_
  refine lv_bipush (pc := 93) (v := 10) hx hb d_Mo_init_93 (by decide) ?_
  refine pq_newa (pc := 95) (atype := .int) (t := 0) (N := 10) (ty := .int) hx hb hK hP hS (hT _ k_1193 _) rfl (by simp) (by decide +kernel) (by decide +kernel) (by decide) (show 0 + 1 + 1 + 1 + 1 + 1 + 1 + 1 + 1 + 1 + 1 + 1 + 1 ≤ 23 by omega) (show 0 + 12 + 32 + 32 + 32 + 32 + 10 + 28 + 32 + 28 + 32 + 10 + 10 ≤ 1466 by omega) d_Mo_init_95 (fun q135 H hq135 hP1 hS => ?_)
  replace h := h q135 hq135
  have hk103 : p_k (s_arr P134 q135 0 (Int32.toNatClampNeg (10 : Int32))) a0 = 13 := pq_olda (k := 12) hP hk103 hq135
  have hkq135 : p_k (s_arr P134 q135 0 (Int32.toNatClampNeg (10 : Int32))) q135 = 101 := pk_arrq _ _ _ _
  replace hP := hP1
  clear hP1
  refine pq_putRa (pc := 97) (f := 496) hx hb hT hK hP hS hown hin (k := 12) (j := 16) rfl (by decide) (by decide) (hT _ k_1120 _) hk103 rfl rfl rfl rfl d_Mo_init_97 (fun H locs hP hS => ?_)
  have hk103 : p_k (s_r (s_arr P134 q135 0 (Int32.toNatClampNeg (10 : Int32))) 496 a0 (some q135)) a0 = 13 := by rw [pk_r]; exact hk103
  obtain ⟨P137, eP137⟩ : ∃ z : Pic, z = s_r (s_arr P134 q135 0 (Int32.toNatClampNeg (10 : Int32))) 496 a0 (some q135) := ⟨_, rfl⟩
  replace h := h P137 eP137
  rw [← eP137] at hP hS
  have hk103 : p_k P137 a0 = 13 := by rw [eP137]; exact hk103
  refine lv_aload_n (pc := 100) hx hb d_Mo_init_100 rfl (lv_at hl 0 rfl) ?_
  refine lv_sipush (pc := 101) (v := 240) hx hb d_Mo_init_101 (by decide) ?_
  refine pq_newa (pc := 104) (atype := .int) (t := 0) (N := 240) (ty := .int) hx hb hK hP hS (hT _ k_1193 _) rfl (by simp) (by decide +kernel) (by decide +kernel) (by decide) (show 0 + 1 + 1 + 1 + 1 + 1 + 1 + 1 + 1 + 1 + 1 + 1 + 1 + 1 ≤ 23 by omega) (show 0 + 12 + 32 + 32 + 32 + 32 + 10 + 28 + 32 + 28 + 32 + 10 + 10 + 240 ≤ 1466 by omega) d_Mo_init_104 (fun q138 H hq138 hP1 hS => ?_)
  replace h := h q138 hq138
  have hk103 : p_k (s_arr P137 q138 0 (Int32.toNatClampNeg (240 : Int32))) a0 = 13 := pq_olda (k := 12) hP hk103 hq138
  have hkq138 : p_k (s_arr P137 q138 0 (Int32.toNatClampNeg (240 : Int32))) q138 = 101 := pk_arrq _ _ _ _
  replace hP := hP1
  clear hP1
  refine pq_putRa (pc := 106) (f := 497) hx hb hT hK hP hS hown hin (k := 12) (j := 17) rfl (by decide) (by decide) (hT _ k_1121 _) hk103 rfl rfl rfl rfl d_Mo_init_106 (fun H locs hP hS => ?_)
  have hk103 : p_k (s_r (s_arr P137 q138 0 (Int32.toNatClampNeg (240 : Int32))) 497 a0 (some q138)) a0 = 13 := by rw [pk_r]; exact hk103
  obtain ⟨P140, eP140⟩ : ∃ z : Pic, z = s_r (s_arr P137 q138 0 (Int32.toNatClampNeg (240 : Int32))) 497 a0 (some q138) := ⟨_, rfl⟩
  replace h := h P140 eP140
  rw [← eP140] at hP hS
  have hk103 : p_k P140 a0 = 13 := by rw [eP140]; exact hk103
  refine lv_aload_n (pc := 109) hx hb d_Mo_init_109 rfl (lv_at hl 0 rfl) ?_
  refine lv_sipush (pc := 110) (v := 240) hx hb d_Mo_init_110 (by decide) ?_
  refine pq_newa (pc := 113) (atype := .int) (t := 0) (N := 240) (ty := .int) hx hb hK hP hS (hT _ k_1193 _) rfl (by simp) (by decide +kernel) (by decide +kernel) (by decide) (show 0 + 1 + 1 + 1 + 1 + 1 + 1 + 1 + 1 + 1 + 1 + 1 + 1 + 1 + 1 ≤ 23 by omega) (show 0 + 12 + 32 + 32 + 32 + 32 + 10 + 28 + 32 + 28 + 32 + 10 + 10 + 240 + 240 ≤ 1466 by omega) d_Mo_init_113 (fun q141 H hq141 hP1 hS => ?_)
  replace h := h q141 hq141
  have hk103 : p_k (s_arr P140 q141 0 (Int32.toNatClampNeg (240 : Int32))) a0 = 13 := pq_olda (k := 12) hP hk103 hq141
  have hkq141 : p_k (s_arr P140 q141 0 (Int32.toNatClampNeg (240 : Int32))) q141 = 101 := pk_arrq _ _ _ _
  replace hP := hP1
  clear hP1
  refine pq_putRa (pc := 115) (f := 498) hx hb hT hK hP hS hown hin (k := 12) (j := 18) rfl (by decide) (by decide) (hT _ k_1122 _) hk103 rfl rfl rfl rfl d_Mo_init_115 (fun H locs hP hS => ?_)
  have hk103 : p_k (s_r (s_arr P140 q141 0 (Int32.toNatClampNeg (240 : Int32))) 498 a0 (some q141)) a0 = 13 := by rw [pk_r]; exact hk103
  obtain ⟨P143, eP143⟩ : ∃ z : Pic, z = s_r (s_arr P140 q141 0 (Int32.toNatClampNeg (240 : Int32))) 498 a0 (some q141) := ⟨_, rfl⟩
  replace h := h P143 eP143
  rw [← eP143] at hP hS
  have hk103 : p_k P143 a0 = 13 := by rw [eP143]; exact hk103
  refine lv_aload_n (pc := 118) hx hb d_Mo_init_118 rfl (lv_at hl 0 rfl) ?_
  refine lv_sipush (pc := 119) (v := 240) hx hb d_Mo_init_119 (by decide) ?_
  refine pq_newa (pc := 122) (atype := .int) (t := 0) (N := 240) (ty := .int) hx hb hK hP hS (hT _ k_1193 _) rfl (by simp) (by decide +kernel) (by decide +kernel) (by decide) (show 0 + 1 + 1 + 1 + 1 + 1 + 1 + 1 + 1 + 1 + 1 + 1 + 1 + 1 + 1 + 1 ≤ 23 by omega) (show 0 + 12 + 32 + 32 + 32 + 32 + 10 + 28 + 32 + 28 + 32 + 10 + 10 + 240 + 240 + 240 ≤ 1466 by omega) d_Mo_init_122 (fun q144 H hq144 hP1 hS => ?_)
  replace h := h q144 hq144
  have hk103 : p_k (s_arr P143 q144 0 (Int32.toNatClampNeg (240 : Int32))) a0 = 13 := pq_olda (k := 12) hP hk103 hq144
  have hkq144 : p_k (s_arr P143 q144 0 (Int32.toNatClampNeg (240 : Int32))) q144 = 101 := pk_arrq _ _ _ _
  replace hP := hP1
  clear hP1
  refine pq_putRa (pc := 124) (f := 499) hx hb hT hK hP hS hown hin (k := 12) (j := 19) rfl (by decide) (by decide) (hT _ k_1123 _) hk103 rfl rfl rfl rfl d_Mo_init_124 (fun H locs hP hS => ?_)
  have hk103 : p_k (s_r (s_arr P143 q144 0 (Int32.toNatClampNeg (240 : Int32))) 499 a0 (some q144)) a0 = 13 := by rw [pk_r]; exact hk103
  obtain ⟨P146, eP146⟩ : ∃ z : Pic, z = s_r (s_arr P143 q144 0 (Int32.toNatClampNeg (240 : Int32))) 499 a0 (some q144) := ⟨_, rfl⟩
  replace h := h P146 eP146
  rw [← eP146] at hP hS
  have hk103 : p_k P146 a0 = 13 := by rw [eP146]; exact hk103
  refine lv_aload_n (pc := 127) hx hb d_Mo_init_127 rfl (lv_at hl 0 rfl) ?_
  refine lv_sipush (pc := 128) (v := 240) hx hb d_Mo_init_128 (by decide) ?_
  refine pq_newa (pc := 131) (atype := .boolean) (t := 2) (N := 240) (ty := .boolean) hx hb hK hP hS (hT _ k_1192 _) rfl (by simp) (by decide +kernel) (by decide +kernel) (by decide) (show 0 + 1 + 1 + 1 + 1 + 1 + 1 + 1 + 1 + 1 + 1 + 1 + 1 + 1 + 1 + 1 + 1 ≤ 23 by omega) (show 0 + 12 + 32 + 32 + 32 + 32 + 10 + 28 + 32 + 28 + 32 + 10 + 10 + 240 + 240 + 240 + 240 ≤ 1466 by omega) d_Mo_init_131 (fun q147 H hq147 hP1 hS => ?_)
  replace h := h q147 hq147
  have hk103 : p_k (s_arr P146 q147 2 (Int32.toNatClampNeg (240 : Int32))) a0 = 13 := pq_olda (k := 12) hP hk103 hq147
  have hkq147 : p_k (s_arr P146 q147 2 (Int32.toNatClampNeg (240 : Int32))) q147 = 103 := pk_arrq _ _ _ _
  replace hP := hP1
  clear hP1
  refine pq_putRa (pc := 133) (f := 500) hx hb hT hK hP hS hown hin (k := 12) (j := 20) rfl (by decide) (by decide) (hT _ k_1124 _) hk103 rfl rfl rfl rfl d_Mo_init_133 (fun H locs hP hS => ?_)
  have hk103 : p_k (s_r (s_arr P146 q147 2 (Int32.toNatClampNeg (240 : Int32))) 500 a0 (some q147)) a0 = 13 := by rw [pk_r]; exact hk103
  obtain ⟨P149, eP149⟩ : ∃ z : Pic, z = s_r (s_arr P146 q147 2 (Int32.toNatClampNeg (240 : Int32))) 500 a0 (some q147) := ⟨_, rfl⟩
  replace h := h P149 eP149
  rw [← eP149] at hP hS
  have hk103 : p_k P149 a0 = 13 := by rw [eP149]; exact hk103
  refine lv_aload_n (pc := 136) hx hb d_Mo_init_136 rfl (lv_at hl 0 rfl) ?_
  refine lv_bipush (pc := 137) (v := 8) hx hb d_Mo_init_137 (by decide) ?_
  refine pq_newa (pc := 139) (atype := .int) (t := 0) (N := 8) (ty := .int) hx hb hK hP hS (hT _ k_1193 _) rfl (by simp) (by decide +kernel) (by decide +kernel) (by decide) (show 0 + 1 + 1 + 1 + 1 + 1 + 1 + 1 + 1 + 1 + 1 + 1 + 1 + 1 + 1 + 1 + 1 + 1 ≤ 23 by omega) (show 0 + 12 + 32 + 32 + 32 + 32 + 10 + 28 + 32 + 28 + 32 + 10 + 10 + 240 + 240 + 240 + 240 + 8 ≤ 1466 by omega) d_Mo_init_139 (fun q150 H hq150 hP1 hS => ?_)
  replace h := h q150 hq150
  have hk103 : p_k (s_arr P149 q150 0 (Int32.toNatClampNeg (8 : Int32))) a0 = 13 := pq_olda (k := 12) hP hk103 hq150
  have hkq150 : p_k (s_arr P149 q150 0 (Int32.toNatClampNeg (8 : Int32))) q150 = 101 := pk_arrq _ _ _ _
  replace hP := hP1
  clear hP1
  refine pq_putRa (pc := 141) (f := 502) hx hb hT hK hP hS hown hin (k := 12) (j := 22) rfl (by decide) (by decide) (hT _ k_1126 _) hk103 rfl rfl rfl rfl d_Mo_init_141 (fun H locs hP hS => ?_)
  have hk103 : p_k (s_r (s_arr P149 q150 0 (Int32.toNatClampNeg (8 : Int32))) 502 a0 (some q150)) a0 = 13 := by rw [pk_r]; exact hk103
  obtain ⟨P152, eP152⟩ : ∃ z : Pic, z = s_r (s_arr P149 q150 0 (Int32.toNatClampNeg (8 : Int32))) 502 a0 (some q150) := ⟨_, rfl⟩
  replace h := h P152 eP152
  rw [← eP152] at hP hS
  have hk103 : p_k P152 a0 = 13 := by rw [eP152]; exact hk103
  refine lv_aload_n (pc := 144) hx hb d_Mo_init_144 rfl (lv_at hl 0 rfl) ?_
  refine lv_bipush (pc := 145) (v := 8) hx hb d_Mo_init_145 (by decide) ?_
  refine pq_newa (pc := 147) (atype := .long) (t := 1) (N := 8) (ty := .long) hx hb hK hP hS (hT _ k_1194 _) rfl (by simp) (by decide +kernel) (by decide +kernel) (by decide) (show 0 + 1 + 1 + 1 + 1 + 1 + 1 + 1 + 1 + 1 + 1 + 1 + 1 + 1 + 1 + 1 + 1 + 1 + 1 ≤ 23 by omega) (show 0 + 12 + 32 + 32 + 32 + 32 + 10 + 28 + 32 + 28 + 32 + 10 + 10 + 240 + 240 + 240 + 240 + 8 + 8 ≤ 1466 by omega) d_Mo_init_147 (fun q153 H hq153 hP1 hS => ?_)
  replace h := h q153 hq153
  have hk103 : p_k (s_arr P152 q153 1 (Int32.toNatClampNeg (8 : Int32))) a0 = 13 := pq_olda (k := 12) hP hk103 hq153
  have hkq153 : p_k (s_arr P152 q153 1 (Int32.toNatClampNeg (8 : Int32))) q153 = 102 := pk_arrq _ _ _ _
  replace hP := hP1
  clear hP1
  refine pq_putRa (pc := 149) (f := 503) hx hb hT hK hP hS hown hin (k := 12) (j := 23) rfl (by decide) (by decide) (hT _ k_1127 _) hk103 rfl rfl rfl rfl d_Mo_init_149 (fun H locs hP hS => ?_)
  have hk103 : p_k (s_r (s_arr P152 q153 1 (Int32.toNatClampNeg (8 : Int32))) 503 a0 (some q153)) a0 = 13 := by rw [pk_r]; exact hk103
  obtain ⟨P155, eP155⟩ : ∃ z : Pic, z = s_r (s_arr P152 q153 1 (Int32.toNatClampNeg (8 : Int32))) 503 a0 (some q153) := ⟨_, rfl⟩
  replace h := h P155 eP155
  rw [← eP155] at hP hS
  have hk103 : p_k P155 a0 = 13 := by rw [eP155]; exact hk103
  refine lv_aload_n (pc := 152) hx hb d_Mo_init_152 rfl (lv_at hl 0 rfl) ?_
  refine lv_bipush (pc := 153) (v := 10) hx hb d_Mo_init_153 (by decide) ?_
  refine pq_newa (pc := 155) (atype := .int) (t := 0) (N := 10) (ty := .int) hx hb hK hP hS (hT _ k_1193 _) rfl (by simp) (by decide +kernel) (by decide +kernel) (by decide) (show 0 + 1 + 1 + 1 + 1 + 1 + 1 + 1 + 1 + 1 + 1 + 1 + 1 + 1 + 1 + 1 + 1 + 1 + 1 + 1 ≤ 23 by omega) (show 0 + 12 + 32 + 32 + 32 + 32 + 10 + 28 + 32 + 28 + 32 + 10 + 10 + 240 + 240 + 240 + 240 + 8 + 8 + 10 ≤ 1466 by omega) d_Mo_init_155 (fun q156 H hq156 hP1 hS => ?_)
  replace h := h q156 hq156
  have hk103 : p_k (s_arr P155 q156 0 (Int32.toNatClampNeg (10 : Int32))) a0 = 13 := pq_olda (k := 12) hP hk103 hq156
  have hkq156 : p_k (s_arr P155 q156 0 (Int32.toNatClampNeg (10 : Int32))) q156 = 101 := pk_arrq _ _ _ _
  replace hP := hP1
  clear hP1
  refine pq_putRa (pc := 157) (f := 504) hx hb hT hK hP hS hown hin (k := 12) (j := 24) rfl (by decide) (by decide) (hT _ k_1128 _) hk103 rfl rfl rfl rfl d_Mo_init_157 (fun H locs hP hS => ?_)
  have hk103 : p_k (s_r (s_arr P155 q156 0 (Int32.toNatClampNeg (10 : Int32))) 504 a0 (some q156)) a0 = 13 := by rw [pk_r]; exact hk103
  obtain ⟨P158, eP158⟩ : ∃ z : Pic, z = s_r (s_arr P155 q156 0 (Int32.toNatClampNeg (10 : Int32))) 504 a0 (some q156) := ⟨_, rfl⟩
  replace h := h P158 eP158
  rw [← eP158] at hP hS
  have hk103 : p_k P158 a0 = 13 := by rw [eP158]; exact hk103
  refine lv_aload_n (pc := 160) hx hb d_Mo_init_160 rfl (lv_at hl 0 rfl) ?_
  refine lv_bipush (pc := 161) (v := 60) hx hb d_Mo_init_161 (by decide) ?_
  refine pq_newa (pc := 163) (atype := .int) (t := 0) (N := 60) (ty := .int) hx hb hK hP hS (hT _ k_1193 _) rfl (by simp) (by decide +kernel) (by decide +kernel) (by decide) (show 0 + 1 + 1 + 1 + 1 + 1 + 1 + 1 + 1 + 1 + 1 + 1 + 1 + 1 + 1 + 1 + 1 + 1 + 1 + 1 + 1 ≤ 23 by omega) (show 0 + 12 + 32 + 32 + 32 + 32 + 10 + 28 + 32 + 28 + 32 + 10 + 10 + 240 + 240 + 240 + 240 + 8 + 8 + 10 + 60 ≤ 1466 by omega) d_Mo_init_163 (fun q159 H hq159 hP1 hS => ?_)
  replace h := h q159 hq159
  have hk103 : p_k (s_arr P158 q159 0 (Int32.toNatClampNeg (60 : Int32))) a0 = 13 := pq_olda (k := 12) hP hk103 hq159
  have hkq159 : p_k (s_arr P158 q159 0 (Int32.toNatClampNeg (60 : Int32))) q159 = 101 := pk_arrq _ _ _ _
  replace hP := hP1
  clear hP1
  refine pq_putRa (pc := 165) (f := 505) hx hb hT hK hP hS hown hin (k := 12) (j := 25) rfl (by decide) (by decide) (hT _ k_1129 _) hk103 rfl rfl rfl rfl d_Mo_init_165 (fun H locs hP hS => ?_)
  have hk103 : p_k (s_r (s_arr P158 q159 0 (Int32.toNatClampNeg (60 : Int32))) 505 a0 (some q159)) a0 = 13 := by rw [pk_r]; exact hk103
  obtain ⟨P161, eP161⟩ : ∃ z : Pic, z = s_r (s_arr P158 q159 0 (Int32.toNatClampNeg (60 : Int32))) 505 a0 (some q159) := ⟨_, rfl⟩
  replace h := h P161 eP161
  rw [← eP161] at hP hS
  have hk103 : p_k P161 a0 = 13 := by rw [eP161]; exact hk103
  refine lv_aload_n (pc := 168) hx hb d_Mo_init_168 rfl (lv_at hl 0 rfl) ?_
  refine lv_bipush (pc := 169) (v := 60) hx hb d_Mo_init_169 (by decide) ?_
  refine pq_newa (pc := 171) (atype := .int) (t := 0) (N := 60) (ty := .int) hx hb hK hP hS (hT _ k_1193 _) rfl (by simp) (by decide +kernel) (by decide +kernel) (by decide) (show 0 + 1 + 1 + 1 + 1 + 1 + 1 + 1 + 1 + 1 + 1 + 1 + 1 + 1 + 1 + 1 + 1 + 1 + 1 + 1 + 1 + 1 ≤ 23 by omega) (show 0 + 12 + 32 + 32 + 32 + 32 + 10 + 28 + 32 + 28 + 32 + 10 + 10 + 240 + 240 + 240 + 240 + 8 + 8 + 10 + 60 + 60 ≤ 1466 by omega) d_Mo_init_171 (fun q162 H hq162 hP1 hS => ?_)
  replace h := h q162 hq162
  have hk103 : p_k (s_arr P161 q162 0 (Int32.toNatClampNeg (60 : Int32))) a0 = 13 := pq_olda (k := 12) hP hk103 hq162
  have hkq162 : p_k (s_arr P161 q162 0 (Int32.toNatClampNeg (60 : Int32))) q162 = 101 := pk_arrq _ _ _ _
  replace hP := hP1
  clear hP1
  refine pq_putRa (pc := 173) (f := 506) hx hb hT hK hP hS hown hin (k := 12) (j := 26) rfl (by decide) (by decide) (hT _ k_1130 _) hk103 rfl rfl rfl rfl d_Mo_init_173 (fun H locs hP hS => ?_)
  have hk103 : p_k (s_r (s_arr P161 q162 0 (Int32.toNatClampNeg (60 : Int32))) 506 a0 (some q162)) a0 = 13 := by rw [pk_r]; exact hk103
  obtain ⟨P164, eP164⟩ : ∃ z : Pic, z = s_r (s_arr P161 q162 0 (Int32.toNatClampNeg (60 : Int32))) 506 a0 (some q162) := ⟨_, rfl⟩
  replace h := h P164 eP164
  rw [← eP164] at hP hS
  have hk103 : p_k P164 a0 = 13 := by rw [eP164]; exact hk103
  refine lv_aload_n (pc := 176) hx hb d_Mo_init_176 rfl (lv_at hl 0 rfl) ?_
  refine lv_bipush (pc := 177) (v := 60) hx hb d_Mo_init_177 (by decide) ?_
  refine pq_newa (pc := 179) (atype := .long) (t := 1) (N := 60) (ty := .long) hx hb hK hP hS (hT _ k_1194 _) rfl (by simp) (by decide +kernel) (by decide +kernel) (by decide) (show 0 + 1 + 1 + 1 + 1 + 1 + 1 + 1 + 1 + 1 + 1 + 1 + 1 + 1 + 1 + 1 + 1 + 1 + 1 + 1 + 1 + 1 + 1 ≤ 23 by omega) (show 0 + 12 + 32 + 32 + 32 + 32 + 10 + 28 + 32 + 28 + 32 + 10 + 10 + 240 + 240 + 240 + 240 + 8 + 8 + 10 + 60 + 60 + 60 ≤ 1466 by omega) d_Mo_init_179 (fun q165 H hq165 hP1 hS => ?_)
  replace h := h q165 hq165
  have hk103 : p_k (s_arr P164 q165 1 (Int32.toNatClampNeg (60 : Int32))) a0 = 13 := pq_olda (k := 12) hP hk103 hq165
  have hkq165 : p_k (s_arr P164 q165 1 (Int32.toNatClampNeg (60 : Int32))) q165 = 102 := pk_arrq _ _ _ _
  replace hP := hP1
  clear hP1
  refine pq_putRa (pc := 181) (f := 507) hx hb hT hK hP hS hown hin (k := 12) (j := 27) rfl (by decide) (by decide) (hT _ k_1131 _) hk103 rfl rfl rfl rfl d_Mo_init_181 (fun H locs hP hS => ?_)
  have hk103 : p_k (s_r (s_arr P164 q165 1 (Int32.toNatClampNeg (60 : Int32))) 507 a0 (some q165)) a0 = 13 := by rw [pk_r]; exact hk103
  obtain ⟨P167, eP167⟩ : ∃ z : Pic, z = s_r (s_arr P164 q165 1 (Int32.toNatClampNeg (60 : Int32))) 507 a0 (some q165) := ⟨_, rfl⟩
  replace h := h P167 eP167
  rw [← eP167] at hP hS
  have hk103 : p_k P167 a0 = 13 := by rw [eP167]; exact hk103
  refine lv_aload_n (pc := 184) hx hb d_Mo_init_184 rfl (lv_at hl 0 rfl) ?_
  refine lv_bipush (pc := 185) (v := 10) hx hb d_Mo_init_185 (by decide) ?_
  refine pq_newa (pc := 187) (atype := .long) (t := 1) (N := 10) (ty := .long) hx hb hK hP hS (hT _ k_1194 _) rfl (by simp) (by decide +kernel) (by decide +kernel) (by decide) (show 0 + 1 + 1 + 1 + 1 + 1 + 1 + 1 + 1 + 1 + 1 + 1 + 1 + 1 + 1 + 1 + 1 + 1 + 1 + 1 + 1 + 1 + 1 + 1 ≤ 23 by omega) (show 0 + 12 + 32 + 32 + 32 + 32 + 10 + 28 + 32 + 28 + 32 + 10 + 10 + 240 + 240 + 240 + 240 + 8 + 8 + 10 + 60 + 60 + 60 + 10 ≤ 1466 by omega) d_Mo_init_187 (fun q168 H hq168 hP1 hS => ?_)
  replace h := h q168 hq168
  have hk103 : p_k (s_arr P167 q168 1 (Int32.toNatClampNeg (10 : Int32))) a0 = 13 := pq_olda (k := 12) hP hk103 hq168
  have hkq168 : p_k (s_arr P167 q168 1 (Int32.toNatClampNeg (10 : Int32))) q168 = 102 := pk_arrq _ _ _ _
  replace hP := hP1
  clear hP1
  refine pq_putRa (pc := 189) (f := 508) hx hb hT hK hP hS hown hin (k := 12) (j := 28) rfl (by decide) (by decide) (hT _ k_1132 _) hk103 rfl rfl rfl rfl d_Mo_init_189 (fun H locs hP hS => ?_)
  have hk103 : p_k (s_r (s_arr P167 q168 1 (Int32.toNatClampNeg (10 : Int32))) 508 a0 (some q168)) a0 = 13 := by rw [pk_r]; exact hk103
  obtain ⟨P170, eP170⟩ : ∃ z : Pic, z = s_r (s_arr P167 q168 1 (Int32.toNatClampNeg (10 : Int32))) 508 a0 (some q168) := ⟨_, rfl⟩
  replace h := h P170 eP170
  rw [← eP170] at hP hS
  have hk103 : p_k P170 a0 = 13 := by rw [eP170]; exact hk103
  exact we_v (pc := 192) hx hb hlocks hr hP hS (show 0 + 1 + 1 + 1 + 1 + 1 + 1 + 1 + 1 + 1 + 1 + 1 + 1 + 1 + 1 + 1 + 1 + 1 + 1 + 1 + 1 + 1 + 1 + 1 + 0 ≤ 23 by omega) (show 0 + 12 + 32 + 32 + 32 + 32 + 10 + 28 + 32 + 28 + 32 + 10 + 10 + 240 + 240 + 240 + 240 + 8 + 8 + 10 + 60 + 60 + 60 + 10 + 0 ≤ 1466 by omega) h d_Mo_init_192
