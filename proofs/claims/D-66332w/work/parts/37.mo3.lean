/-! the reference's methods: readings, pipes -/
theorem p10 {d : Nat} (h : 1 ≤ d) (h' : d ≤ 4) : 10 ^ d ≤ 10000 := by
  have : d = 1 ∨ d = 2 ∨ d = 3 ∨ d = 4 := by omega
  rcases this with c | c | c | c <;> subst c <;> decide
theorem mo_install_tail {P0 P : Pic} {m : Nat} {ar : Nat → Nat} {A : Nat → Nat → Nat} {B : Nat → Nat → Int64} {po : Option Value → Pic → Prop} {th : String → Pic → Prop} {c : Nat} {x3 t0 : Int32} {all : Nat} (h : MM P0 P m ar A B) (ok : Ok A B) (hc : c < A 483 0) (ht : t0 = nI all) (hall : all ≤ 10000)
    (h2 : (∀ w, w < all → x3 ≠ nI w) → ∀ P', MM P0 P' m ar (up2 A 480 0 2) B → po (some (.int 0)) P')
    (h3 : ∀ w, w < all → x3 = nI w → (A 496 c = 24 ∨ (0 < A 496 c ∧ A 497 (24 * c + A 496 c - 1) = A 495 0 ∧ A 500 (24 * c + A 496 c - 1) ≠ 0)) → ∀ P', MM P0 P' m ar (up2 A 480 0 3) B → po (some (.int 0)) P')
    (h0 : ∀ w, w < all → x3 = nI w → ¬ (A 496 c = 24 ∨ (0 < A 496 c ∧ A 497 (24 * c + A 496 c - 1) = A 495 0 ∧ A 500 (24 * c + A 496 c - 1) ≠ 0)) → ∀ P', MM P0 P' m ar (up2 (up2 (up2 (up2 (up2 (up2 A 480 0 0) 497 (24 * c + A 496 c) (A 495 0)) 498 (24 * c + A 496 c) w) 499 (24 * c + A 496 c) all) 500 (24 * c + A 496 c) 1) 496 c (A 496 c + 1)) B → po (some (.int (nI (A 496 c + 1)))) P') : wb_Mo_install_58 po th P m (nI c) x3 t0 := by
  subst ht
  have hc10 : c < 10 := by have := ok.2.1.1; omega
  have hr := ok.2.2.1 c hc
  have key : ∀ tw : Int32, (tw = 0 ∨ tw = 1) → (tw ≠ 0 ↔ (0 < A 496 c ∧ A 497 (24 * c + A 496 c - 1) = A 495 0 ∧ A 500 (24 * c + A 496 c - 1) ≠ 0)) → wb_Mo_install_113 po th P m (nI c) x3 (nI all) (nI (A 496 c)) tw := by
    intro tw htw htw'
    have bad : (∀ w, w < all → x3 ≠ nI w) → wb_Mo_install_126 po th P m (nI c) x3 (nI all) m := fun e => mg_no h 2 rfl (by decide) (by decide) (fun h' => h2 e _ h')
    refine ⟨fun e => bad (fun w hw z => ?_), fun e => ⟨fun e2 => ?_, fun e2 => bad (fun w hw z => e2 ?_)⟩⟩
    · rw [z] at e; exact nI_pos (by omega) e
    · obtain ⟨w, hw, hx⟩ := nI_of e
      have hwa : w < all := by rw [hx] at e2; exact (nI_ltI (by omega) (by omega)).mp e2
      refine ⟨fun e3 => ?_, fun e3 => ⟨fun e4 => ?_, fun e4 => ?_⟩⟩
      · have : A 496 c = 24 := (nI_eq (b := 24) (by omega) (by omega)).mp e3
        exact mg_no h 3 rfl (by decide) (by decide) (fun h' => h3 w hwa hx (Or.inl this) _ h')
      · have hne : A 496 c ≠ 24 := fun z => e3 (by rw [z]; rfl)
        refine mg_ok h (fun h' => ?_)
        refine mo_note h' hc10 (by rw [up2_ne _ _ (Or.inl (by decide))]; omega) rfl rfl hx rfl (Nat.le_refl 1) (fun P' hP' => ⟨_, rfl, ?_⟩)
        simp only [up2_ne A (x := 480) (y := 496) _ (Or.inl (by decide)), up2_ne A (x := 480) (y := 495) _ (Or.inl (by decide))] at hP' ⊢
        refine h0 w hwa hx (fun z => ?_) _ hP'
        rcases z with z | z
        · exact hne z
        · exact htw'.mpr z e4
      · have hne : A 496 c ≠ 24 := fun z => e3 (by rw [z]; rfl)
        exact mg_no h 3 rfl (by decide) (by decide) (fun h' => h3 w hwa hx (Or.inr (htw'.mp e4)) _ h')
    · rw [z]; exact nI_lt hw (by omega)
  refine ⟨h.k, mg_r h 496 101 10 rfl hc10 ?_⟩
  intro z hz
  rw [nI_clamp (by omega), h.ai 496 101 10 hc10] at hz
  subst hz
  intro z hz
  refine ⟨fun e => ?_, fun e => ?_⟩
  · refine key 0 (Or.inl rfl) ⟨fun z => absurd rfl z, fun z => absurd e (nI_nle z.1 (by omega))⟩
  · have hn0 : 0 < A 496 c := by
      rcases Nat.eq_zero_or_pos (A 496 c) with q | q
      · exact absurd (by rw [q]; decide) e
      · exact q
    have hz' : z = nI (24 * c + A 496 c - 1) := by
      rw [hz]; show nI 24 * nI c + _ - nI 1 = _; rw [pk_mul, nI_add, pk_sub (by omega)]
    subst hz'
    have hl := hr.2.1 (A 496 c - 1) (by omega)
    have el : 24 * c + (A 496 c - 1) = 24 * c + A 496 c - 1 := by omega
    rw [el] at hl
    have ht := ok.2.1.2.1
    refine mg_r h 497 101 240 rfl (by omega) ?_
    rw [nI_clamp (by omega), h.ai 497 101 240 (by omega), h.i 495, nI_eq (by omega) (by omega)]
    refine ⟨fun e2 => key 0 (Or.inl rfl) ⟨fun z => absurd rfl z, fun z => absurd z.2.1 e2⟩, fun e2 => mg_r h 500 103 240 rfl (by omega) ?_⟩
    rw [h.ai 500 103 240 (by omega), b0 (by omega)]
    exact ⟨fun e3 => key 0 (Or.inl rfl) ⟨fun z => absurd rfl z, fun z => absurd e3 z.2.2⟩, fun e3 => key 1 (Or.inr rfl) ⟨fun _ => ⟨hn0, e2, e3⟩, fun _ => by decide⟩⟩
theorem mo_install {P0 P : Pic} {m : Nat} {ar : Nat → Nat} {A : Nat → Nat → Nat} {B : Nat → Nat → Int64} {po : Option Value → Pic → Prop} {th : String → Pic → Prop} {x1 x2 x3 : Int32} (h : MM P0 P m ar A B) (ok : Ok A B)
    (h1 : (∀ j, j < A 483 0 → x1 ≠ nI j) → ∀ P', MM P0 P' m ar (up2 A 480 0 1) B → po (some (.int 0)) P')
    (h2 : ∀ c, c < A 483 0 → x1 = nI c → (∀ d w, 1 ≤ d → d ≤ 4 → w < 10 ^ d → ¬ (x2 = nI d ∧ x3 = nI w)) → ∀ P', MM P0 P' m ar (up2 A 480 0 2) B → po (some (.int 0)) P')
    (h3 : ∀ c d w, c < A 483 0 → x1 = nI c → 1 ≤ d → d ≤ 4 → w < 10 ^ d → x2 = nI d → x3 = nI w → (A 496 c = 24 ∨ (0 < A 496 c ∧ A 497 (24 * c + A 496 c - 1) = A 495 0 ∧ A 500 (24 * c + A 496 c - 1) ≠ 0)) → ∀ P', MM P0 P' m ar (up2 A 480 0 3) B → po (some (.int 0)) P')
    (h0 : ∀ c d w, c < A 483 0 → x1 = nI c → 1 ≤ d → d ≤ 4 → w < 10 ^ d → x2 = nI d → x3 = nI w → ¬ (A 496 c = 24 ∨ (0 < A 496 c ∧ A 497 (24 * c + A 496 c - 1) = A 495 0 ∧ A 500 (24 * c + A 496 c - 1) ≠ 0)) → ∀ P', MM P0 P' m ar (up2 (up2 (up2 (up2 (up2 (up2 A 480 0 0) 497 (24 * c + A 496 c) (A 495 0)) 498 (24 * c + A 496 c) w) 499 (24 * c + A 496 c) (10 ^ d)) 500 (24 * c + A 496 c) 1) 496 c (A 496 c + 1)) B → po (some (.int (nI (A 496 c + 1)))) P') : wp_Mo_install po th P m x1 x2 x3 := by
  have hcb := ok.2.1.1
  refine ⟨h.k, mo_noCustomer h (by omega) (fun e => ⟨_, rfl, fun z => absurd z (by decide), fun _ => h1 e _ (h.si 480 1)⟩) (fun c hc hx => ⟨_, rfl, fun _ => ?_, fun z => absurd rfl z⟩)⟩
  subst hx
  have one : ∀ d, 1 ≤ d → d ≤ 4 → ∀ t0 : Int32, x2 = nI d → t0 = nI (10 ^ d) → wb_Mo_install_58 po th P m (nI c) x3 t0 := by
    intro d hd1 hd4 t0 hx2 ht0
    refine mo_install_tail h ok hc ht0 (p10 hd1 hd4) (fun hn => h2 c hc rfl (fun d' w' a1 a2 a3 a4 => ?_)) (fun w hw hx => h3 c d w hc rfl hd1 hd4 hw hx2 hx) (fun w hw hx => h0 c d w hc rfl hd1 hd4 hw hx2 hx)
    have : d = d' := (nI_eq (by omega) (by omega)).mp (hx2.symm.trans a4.1)
    subst this
    exact hn w' a3 a4.2
  refine ⟨fun e1 => ⟨fun e2 => ⟨fun e3 => ⟨fun e4 => ?_, fun e4 => one 4 (by decide) (by decide) _ e4 rfl⟩, fun e3 => one 3 (by decide) (by decide) _ e3 rfl⟩, fun e2 => one 2 (by decide) (by decide) _ e2 rfl⟩, fun e1 => one 1 (by decide) (by decide) _ e1 rfl⟩
  refine mo_install_tail (all := 0) h ok hc rfl (by decide) (fun _ => h2 c hc rfl (fun d' w' a1 a2 a3 a4 => ?_)) (fun w hw => absurd hw (Nat.not_lt_zero w)) (fun w hw => absurd hw (Nat.not_lt_zero w))
  have : d' = 1 ∨ d' = 2 ∨ d' = 3 ∨ d' = 4 := by omega
  rcases this with q | q | q | q <;> subst q
  · exact e1 a4.1
  · exact e2 a4.1
  · exact e3 a4.1
  · exact e4 a4.1
theorem mo_read {P0 P : Pic} {m : Nat} {ar : Nat → Nat} {A : Nat → Nat → Nat} {B : Nat → Nat → Int64} {po : Option Value → Pic → Prop} {th : String → Pic → Prop} {x1 x2 : Int32} (h : MM P0 P m ar A B) (ok : Ok A B)
    (h1 : (∀ j, j < A 483 0 → x1 ≠ nI j) → ∀ P', MM P0 P' m ar (up2 A 480 0 1) B → po (some (.int 0)) P')
    (h2 : ∀ c, c < A 483 0 → x1 = nI c → (A 496 c = 0 ∨ A 496 c = 24 ∨ A 497 (24 * c + A 496 c - 1) = A 495 0) → ∀ P', MM P0 P' m ar (up2 A 480 0 2) B → po (some (.int 0)) P')
    (h3 : ∀ c, c < A 483 0 → x1 = nI c → ¬ (A 496 c = 0 ∨ A 496 c = 24 ∨ A 497 (24 * c + A 496 c - 1) = A 495 0) → (∀ w, w < A 499 (24 * c + A 496 c - 1) → x2 ≠ nI w) → ∀ P', MM P0 P' m ar (up2 A 480 0 3) B → po (some (.int 0)) P')
    (h0 : ∀ c w, c < A 483 0 → x1 = nI c → ¬ (A 496 c = 0 ∨ A 496 c = 24 ∨ A 497 (24 * c + A 496 c - 1) = A 495 0) → w < A 499 (24 * c + A 496 c - 1) → x2 = nI w → ∀ P', MM P0 P' m ar (up2 (up2 (up2 (up2 (up2 (up2 A 480 0 0) 497 (24 * c + A 496 c) (A 495 0)) 498 (24 * c + A 496 c) w) 499 (24 * c + A 496 c) (A 499 (24 * c + A 496 c - 1))) 500 (24 * c + A 496 c) 0) 496 c (A 496 c + 1)) B → po (some (.int (nI (A 496 c + 1)))) P') : wp_Mo_read po th P m x1 x2 := by
  have hcb := ok.2.1.1
  have ht := ok.2.1.2.1
  refine ⟨h.k, mo_noCustomer h (by omega) (fun e => ⟨_, rfl, fun z => absurd z (by decide), fun _ => h1 e _ (h.si 480 1)⟩) (fun c hc hx => ⟨_, rfl, fun _ => ?_, fun z => absurd rfl z⟩)⟩
  subst hx
  have hr := ok.2.2.1 c hc
  refine mg_r h 496 101 10 rfl (by omega) ?_
  intro z hz
  rw [nI_clamp (by omega), h.ai 496 101 10 (by omega)] at hz
  subst hz
  intro y hy
  have bad : (A 496 c = 0 ∨ A 496 c = 24 ∨ A 497 (24 * c + A 496 c - 1) = A 495 0) → wb_Mo_read_57 po th P m (nI c) x2 y m := fun e => mg_no h 2 rfl (by decide) (by decide) (fun h' => h2 c hc rfl e _ h')
  refine ⟨fun e => bad (Or.inl ((nI_eq (b := 0) (by omega) (by omega)).mp e)), fun e => ⟨fun e2 => bad (Or.inr (Or.inl ((nI_eq (b := 24) (by omega) (by omega)).mp e2))), fun e2 => ?_⟩⟩
  have n0 : A 496 c ≠ 0 := fun z => e (by rw [z]; rfl)
  have n24 : A 496 c ≠ 24 := fun z => e2 (by rw [z]; rfl)
  have hy' : y = nI (24 * c + A 496 c - 1) := by
    rw [hy]; show nI 24 * nI c + _ - nI 1 = _; rw [pk_mul, nI_add, pk_sub (by omega)]
  have hl := hr.2.1 (A 496 c - 1) (by omega)
  have el : 24 * c + (A 496 c - 1) = 24 * c + A 496 c - 1 := by omega
  rw [el] at hl
  subst hy'
  refine mg_r h 497 101 240 rfl (by omega) ?_
  rw [nI_clamp (by omega), h.ai 497 101 240 (by omega), h.i 495, nI_eq (by omega) (by omega)]
  refine ⟨fun e3 => ?_, fun e3 => bad (Or.inr (Or.inr e3))⟩
  have hne : ¬ (A 496 c = 0 ∨ A 496 c = 24 ∨ A 497 (24 * c + A 496 c - 1) = A 495 0) := by omega
  have bad3 : (∀ w, w < A 499 (24 * c + A 496 c - 1) → x2 ≠ nI w) → wb_Mo_read_76 po th P m (nI c) x2 (nI (24 * c + A 496 c - 1)) m := fun e => mg_no h 3 rfl (by decide) (by decide) (fun h' => h3 c hc rfl hne e _ h')
  refine ⟨fun e4 => bad3 (fun w hw z => ?_), fun e4 => mg_r h 499 101 240 rfl (by omega) ?_⟩
  · rw [z] at e4; exact nI_pos (by omega) e4
  · rw [h.ai 499 101 240 (by omega)]
    refine ⟨fun e5 => ?_, fun e5 => bad3 (fun w hw z => e5 (by rw [z]; exact nI_lt hw (by omega)))⟩
    obtain ⟨w, hw, hx⟩ := nI_of e4
    have hwa : w < A 499 (24 * c + A 496 c - 1) := by rw [hx] at e5; exact (nI_ltI (by omega) (by omega)).mp e5
    refine mg_ok h (fun h' => mg_r h' 499 101 240 rfl (by omega) ?_)
    rw [nI_clamp (by omega), h'.ai 499 101 240 (by omega)]
    refine mo_note h' (by omega) (by rw [up2_ne _ _ (Or.inl (by decide))]; omega) rfl rfl hx rfl (Nat.zero_le 1) (fun P' hP' => ⟨_, rfl, ?_⟩)
    simp only [up2_ne A (x := 480) (y := 496) _ (Or.inl (by decide)), up2_ne A (x := 480) (y := 495) _ (Or.inl (by decide)), up2_ne A (x := 480) (y := 499) _ (Or.inl (by decide))] at hP' ⊢
    exact h0 c w hc rfl hne hwa hx _ hP'
theorem mo_amend {P0 P : Pic} {m : Nat} {ar : Nat → Nat} {A : Nat → Nat → Nat} {B : Nat → Nat → Int64} {po : Option Value → Pic → Prop} {th : String → Pic → Prop} {x1 x2 x3 : Int32} (h : MM P0 P m ar A B) (ok : Ok A B)
    (h1 : (∀ j, j < A 483 0 → x1 ≠ nI j) → ∀ P', MM P0 P' m ar (up2 A 480 0 1) B → po (some (.int 0)) P')
    (h2 : ∀ c, c < A 483 0 → x1 = nI c → (∀ i, i < A 496 c → x2 ≠ nI i) → ∀ P', MM P0 P' m ar (up2 A 480 0 2) B → po (some (.int 0)) P')
    (h3 : ∀ c i, c < A 483 0 → x1 = nI c → i < A 496 c → x2 = nI i → (∀ w, w < A 499 (24 * c + i) → x3 ≠ nI w) → ∀ P', MM P0 P' m ar (up2 A 480 0 3) B → po (some (.int 0)) P')
    (h0 : ∀ c i w, c < A 483 0 → x1 = nI c → i < A 496 c → x2 = nI i → w < A 499 (24 * c + i) → x3 = nI w → ∀ P', MM P0 P' m ar (up2 (up2 A 480 0 0) 498 (24 * c + i) w) B → po (some (.int (nI (A 498 (24 * c + i))))) P') : wp_Mo_amend po th P m x1 x2 x3 := by
  have hcb := ok.2.1.1
  have bad : (∀ c i, c < A 483 0 → x1 = nI c → i < A 496 c → x2 ≠ nI i) → wb_Mo_amend_22 po th P m x1 x2 x3 := by
    intro hn
    refine ⟨fun z => absurd z (by decide), fun _ => ⟨h.k, mo_noCustomer h (by omega) (fun e => ⟨_, rfl, fun z => absurd z (by decide), fun _ => mg_no h 1 rfl (by decide) (by decide) (fun h' => h1 e _ h')⟩) (fun c hc hx => ⟨_, rfl, fun _ => ⟨fun z => absurd z (by decide), fun _ => mg_no h 2 rfl (by decide) (by decide) (fun h' => h2 c hc hx (fun i hi => hn c i hc hx hi) _ h')⟩, fun z => absurd rfl z⟩)⟩⟩
  refine ⟨h.k, mo_noCustomer h (by omega) (fun e => ⟨_, rfl, fun _ => bad (fun c i hc hx _ => absurd hx (e c hc)), fun z => absurd z (by decide)⟩) (fun c hc hx => ⟨_, rfl, fun z => absurd rfl z, fun _ => ?_⟩)⟩
  have hr := ok.2.2.1 c hc
  have hun : ∀ c', c' < A 483 0 → x1 = nI c' → c' = c := fun c' hc' hx' => (nI_eq (by omega) (by omega)).mp (hx'.symm.trans hx)
  refine ⟨fun e => bad (fun c' i hc' hx' hi hz => ?_), fun e => mg_r h 496 101 10 hx (by omega) ?_⟩
  · have := hun c' hc' hx'; subst this
    rw [hz] at e; exact nI_pos (by omega) e
  · have ecl : Int32.toNatClampNeg x1 = c := by rw [hx]; exact nI_clamp (by omega)
    rw [ecl, h.ai 496 101 10 (by omega)]
    refine ⟨fun e2 => ?_, fun e2 => bad (fun c' i hc' hx' hi hz => ?_)⟩
    · obtain ⟨i, hi31, hx2⟩ := nI_of e
      have hi : i < A 496 c := by rw [hx2] at e2; exact (nI_ltI (by omega) (by omega)).mp e2
      have hl := hr.2.1 i hi
      have et : (24 : Int32) * x1 + x2 = nI (24 * c + i) := by rw [hx, hx2]; show nI 24 * nI c + nI i = _; rw [pk_mul, nI_add]
      refine ⟨fun _ => ?_, fun z => absurd rfl z⟩
      rw [et]
      have bad3 : (∀ w, w < A 499 (24 * c + i) → x3 ≠ nI w) → wb_Mo_amend_83 po th P m x3 (nI (24 * c + i)) m := fun e => mg_no h 3 rfl (by decide) (by decide) (fun h' => h3 c i hc hx hi hx2 e _ h')
      refine ⟨h.k, mo_noCustomer h (by omega) (fun e => absurd hx (e c hc)) (fun c' hc' hx' => ⟨_, rfl, fun _ => ⟨fun _ => ⟨fun e4 => bad3 (fun w hw z => ?_), fun e4 => mg_r h 499 101 240 rfl (by omega) ?_⟩, fun z => absurd rfl z⟩, fun z => absurd rfl z⟩)⟩
      · rw [z] at e4; exact nI_pos (by omega) e4
      · rw [nI_clamp (by omega), h.ai 499 101 240 (by omega)]
        refine ⟨fun e5 => ?_, fun e5 => bad3 (fun w hw z => e5 (by rw [z]; exact nI_lt hw (by omega)))⟩
        obtain ⟨w, hw, hx3⟩ := nI_of e4
        have hwa : w < A 499 (24 * c + i) := by rw [hx3] at e5; exact (nI_ltI (by omega) (by omega)).mp e5
        refine mg_ok h (fun h' => mg_r h' 498 101 240 rfl (by omega) ?_)
        intro z hz
        rw [nI_clamp (by omega), h'.ai 498 101 240 (by omega), up2_ne _ _ (Or.inl (by decide))] at hz
        refine mg_r h' 498 101 240 rfl (by omega) ?_
        rw [hz, nI_clamp (by omega), hx3]
        exact h0 c i w hc hx hi hx2 hwa hx3 _ (h'.sai 498 101 240 (24 * c + i) w (fun z => absurd z (by decide)))
    · have := hun c' hc' hx'; subst this
      exact e2 (by rw [hz]; exact nI_lt hi (by omega))
theorem mo_pipe_set {P0 P : Pic} {m : Nat} {ar : Nat → Nat} {A : Nat → Nat → Nat} {B : Nat → Nat → Int64} {po : Option Value → Pic → Prop} {th : String → Pic → Prop} {p e w : Nat} {K : Pic → Nat → Int32 → Int32 → Prop} {x3 x4 t0 t1 : Int32} (h : MM P0 P m ar A B) (hp : A 482 0 = p) (hp16 : p < 16) (he : e < 2) (h4 : x4 = nI e) (ht1 : t1 = nI (2 * p + e)) (ht0 : t0 = nI w) (hw : w ≤ 1)
    (hK : ∀ P', MM P0 P' m ar (up2 (up2 A 486 (2 * p + e) w) 487 (2 * p + e) 1) B → K P' m x3 (nI (e + 1))) : wb_Mo_pipe_128 po th K P m x3 x4 t0 t1 (ar 486) := by
  subst ht1; subst ht0; subst h4
  refine ⟨h.ak 486 103 32, by rw [h.an 486 103 32]; exact vp_in_nI (by omega) (by decide), b01 hw, h.k, ?_⟩
  rw [nI_clamp (by omega)]
  have h1 := h.sai 486 103 32 (2 * p + e) w (fun _ => hw)
  have e1 : (2 : Int32) * p_i (s_ai P (ar 486) (2 * p + e) (nI w)) 482 m + nI e = nI (2 * p + e) := by
    rw [h1.i 482, up2_ne _ _ (Or.inl (by decide)), hp]; show nI 2 * nI p + nI e = _; rw [pk_mul, nI_add]
  rw [e1, nI_clamp (by omega)]
  refine mg_r h1 487 103 32 rfl (by omega) ?_
  intro P1 hP1 z hz
  have h2 := h1.sai 487 103 32 (2 * p + e) 1 (fun _ => Nat.le_refl 1)
  have hP1 : P1 = s_ai (s_ai P (ar 486) (2 * p + e) (nI w)) (ar 487) (2 * p + e) (nI 1) := hP1
  rw [← hP1] at h2
  rw [hz, ← nI_succ]
  exact hK _ h2
theorem vbit : ∀ v, v < 4 → ((nI v >>> ((nI 0) &&& 31)) &&& 1 = if v % 2 = 1 then 1 else 0) ∧ ((nI v >>> ((nI 1) &&& 31)) &&& 1 = if v / 2 = 1 then 1 else 0) ∧ (nI v &&& 1 = if v % 2 = 1 then 1 else 0) ∧ (nI v &&& 2 = if v / 2 = 1 then 2 else 0) := by decide
theorem mo_pipe {P0 P : Pic} {m : Nat} {ar : Nat → Nat} {A : Nat → Nat → Nat} {B : Nat → Nat → Int64} {po : Option Value → Pic → Prop} {th : String → Pic → Prop} {x1 x2 x3 : Int32} (h : MM P0 P m ar A B) (ok : OkN A)
    (h1 : ((∀ j, j < A 481 0 → x1 ≠ nI j) ∨ (∀ j, j < A 481 0 → x2 ≠ nI j)) → ∀ P', MM P0 P' m ar (up2 A 480 0 1) B → po (some (.int 0)) P')
    (h2 : ∀ a b, a < A 481 0 → b < A 481 0 → x1 = nI a → x2 = nI b → (a = b ∨ ∀ v, v < 4 → x3 ≠ nI v) → ∀ P', MM P0 P' m ar (up2 A 480 0 2) B → po (some (.int 0)) P')
    (h3 : ∀ a b v, a < A 481 0 → b < A 481 0 → x1 = nI a → x2 = nI b → a ≠ b → v < 4 → x3 = nI v → A 482 0 = 16 → ∀ P', MM P0 P' m ar (up2 A 480 0 3) B → po (some (.int 0)) P')
    (h0 : ∀ a b v, a < A 481 0 → b < A 481 0 → x1 = nI a → x2 = nI b → a ≠ b → v < 4 → x3 = nI v → A 482 0 < 16 → ∀ P', MM P0 P' m ar (up2 (up2 (up2 (up2 (up2 (up2 (up2 (up2 A 480 0 0) 485 (2 * A 482 0) a) 485 (2 * A 482 0 + 1) b) 486 (2 * A 482 0) (v % 2)) 487 (2 * A 482 0) 1) 486 (2 * A 482 0 + 1) (v / 2)) 487 (2 * A 482 0 + 1) 1) 482 0 (A 482 0 + 1)) B → po (some (.int (nI (A 482 0)))) P') : wp_Mo_pipe po th P m x1 x2 x3 := by
  have hb := ok.1
  have hp := ok.2.1
  refine ⟨h.k, mo_noNode h (by omega) (fun e => ⟨_, rfl, fun _ => mg_no h 1 rfl (by decide) (by decide) (fun h' => h1 (Or.inl e) _ h'), fun z => absurd z (by decide)⟩) (fun a ha hx1 => ⟨_, rfl, fun z => absurd rfl z, fun _ => ?_⟩)⟩
  refine mo_noNode h (by omega) (fun e => ⟨_, rfl, fun z => absurd z (by decide), fun _ => mg_no h 1 rfl (by decide) (by decide) (fun h' => h1 (Or.inr e) _ h')⟩) (fun b hb' hx2 => ⟨_, rfl, fun _ => ?_, fun z => absurd rfl z⟩)
  have bad : (a = b ∨ ∀ v, v < 4 → x3 ≠ nI v) → wb_Mo_pipe_35 po th P m x1 x2 x3 m := fun e => mg_no h 2 rfl (by decide) (by decide) (fun h' => h2 a b ha hb' hx1 hx2 e _ h')
  refine ⟨fun e => bad (Or.inl ((nI_eq (by omega) (by omega)).mp (by rw [← hx1, ← hx2]; exact e))), fun e => ⟨fun e2 => bad (Or.inr (fun v hv z => ?_)), fun e2 => ⟨fun e3 => ?_, fun e3 => bad (Or.inr (fun v hv z => e3 (by rw [z]; exact nI_le (b := 3) (by omega) (by omega))))⟩⟩⟩
  · rw [z] at e2; exact nI_pos (by omega) e2
  have hab : a ≠ b := fun z => e (by rw [hx1, hx2, z])
  obtain ⟨v, hv, hx3⟩ := nI_of2 (n := 3) rfl e2 e3
  rw [h.i 482]
  refine ⟨fun e4 => ?_, fun e4 => mg_no h 3 rfl (by decide) (by decide) (fun h' => h3 a b v ha hb' hx1 hx2 hab (by omega) hx3 ((nI_eq (b := 16) (by omega) (by omega)).mp e4) _ h')⟩
  have hp' : A 482 0 < 16 := by
    have : A 482 0 ≠ 16 := fun z => e4 (by rw [z]; rfl)
    omega
  refine mg_ok h (fun h' => ?_)
  have e5 : (2 : Int32) * p_i (s_i P 480 m 0) 482 m = nI (2 * A 482 0) := by
    rw [h'.i 482, up2_ne _ _ (Or.inl (by decide))]; show nI 2 * nI _ = _; rw [pk_mul]
  rw [e5]
  refine mg_r h' 485 101 32 rfl (by omega) ?_
  intro P1 hP1
  rw [nI_clamp (by omega), hx1] at hP1
  have g1 := h'.sai 485 101 32 (2 * A 482 0) a (fun z => absurd z (by decide))
  rw [← hP1] at g1
  have e6 : (2 : Int32) * p_i P1 482 m + 1 = nI (2 * A 482 0 + 1) := by
    rw [g1.i 482, up2_ne _ _ (Or.inl (by decide)), up2_ne _ _ (Or.inl (by decide))]; show nI 2 * nI _ + nI 1 = _; rw [pk_mul, nI_add]
  rw [e6]
  refine mg_r g1 485 101 32 rfl (by omega) ?_
  intro P2 hP2
  rw [nI_clamp (by omega), hx2] at hP2
  have g2 := g1.sai 485 101 32 (2 * A 482 0 + 1) b (fun z => absurd z (by decide))
  rw [← hP2] at g2
  have hvb := vbit v (by omega)
  refine ⟨3, ?_⟩
  have step : ∀ (P' : Pic) (A' : Nat → Nat → Nat) (n e w : Nat), MM P0 P' m ar A' B → A' 482 0 = A 482 0 → e < 2 → w ≤ 1 → ((nI v >>> (nI e &&& 31)) &&& 1 = if w = 1 then 1 else 0) → (∀ P'', MM P0 P'' m ar (up2 (up2 A' 486 (2 * A 482 0 + e) w) 487 (2 * A 482 0 + e) 1) B → wl_Mo_pipe_94 po th n P'' m x3 (nI (e + 1))) → wl_Mo_pipe_94 po th (n + 1) P' m x3 (nI e) := by
    intro P' A' n e w g hA he hw hbit hK
    refine ⟨fun z => absurd z (nI_ge (b := 2) he (by omega)), fun _ => ⟨g.k, ar 486, g.r 486 103 32, ?_⟩⟩
    have et : (2 : Int32) * p_i P' 482 m + nI e = nI (2 * A 482 0 + e) := by
      rw [g.i 482, hA]; show nI 2 * nI _ + nI e = _; rw [pk_mul, nI_add]
    rw [et, hx3, hbit]
    rw [hx3] at hK
    refine ⟨fun z => ?_, fun z => ?_⟩
    · have hw0 : w = 0 := by
        by_cases q : w = 1
        · rw [if_pos q] at z; exact absurd rfl z
        · omega
      subst hw0
      exact mo_pipe_set g hA hp' he rfl rfl rfl hw hK
    · have hw1 : w = 1 := by
        by_cases q : w = 1
        · exact q
        · rw [if_neg q] at z; exact absurd z (by decide)
      subst hw1
      exact mo_pipe_set g hA hp' he rfl rfl rfl hw hK
  have hA2 : up2 (up2 (up2 A 480 0 0) 485 (2 * A 482 0) a) 485 (2 * A 482 0 + 1) b 482 0 = A 482 0 := by
    rw [up2_ne _ _ (Or.inl (by decide)), up2_ne _ _ (Or.inl (by decide)), up2_ne _ _ (Or.inl (by decide))]
  refine step P2 _ 2 0 (v % 2) g2 hA2 (by decide) (by omega) hvb.1 (fun P3 g3 => ?_)
  refine step P3 _ 1 1 (v / 2) g3 ?_ (by decide) (by omega) hvb.2.1 (fun P4 g4 => ?_)
  · rw [up2_ne _ _ (Or.inl (by decide)), up2_ne _ _ (Or.inl (by decide))]; exact hA2
  · have hA4 : p_i P4 482 m = nI (A 482 0) := by
      rw [g4.i 482, up2_ne _ _ (Or.inl (by decide)), up2_ne _ _ (Or.inl (by decide)), up2_ne _ _ (Or.inl (by decide)), up2_ne _ _ (Or.inl (by decide)), hA2]
    refine ⟨fun _ => ⟨g4.k, ?_⟩, fun z => absurd (show (2 : Int32) ≤ nI 2 by decide) z⟩
    rw [hA4, ← nI_succ, gpi_i, if_pos ⟨rfl, rfl⟩, nI_pred]
    exact h0 a b v ha hb' hx1 hx2 hab (by omega) hx3 hp' _ (g4.si 482 (A 482 0 + 1))
