/-! the reference's methods: customers, valves, days, readings -/
theorem b01 {v : Nat} (h : v ≤ 1) : nI v = 0 ∨ nI v = 1 := by
  have : v = 0 ∨ v = 1 := by omega
  rcases this with c | c
  · left; rw [c]; rfl
  · right; rw [c]; rfl
theorem b0 {v : Nat} (h : v ≤ 1) : nI v = 0 ↔ v = 0 := ⟨fun e => (nI_eq (b := 0) (by omega) (by omega)).mp e, fun e => by rw [e]; rfl⟩
theorem mo_customer {P0 P : Pic} {m : Nat} {ar : Nat → Nat} {A : Nat → Nat → Nat} {B : Nat → Nat → Int64} {po : Option Value → Pic → Prop} {th : String → Pic → Prop} {x : Int32} (h : MM P0 P m ar A B) (hb : A 481 0 ≤ 12) (hc : A 483 0 ≤ 10)
    (h0 : ∀ j, j < A 481 0 → x = nI j → A 483 0 < 10 → ∀ P', MM P0 P' m ar (up2 (up2 (up2 A 480 0 0) 489 (A 483 0) j) 483 0 (A 483 0 + 1)) B → po (some (.int (nI (A 483 0)))) P')
    (h2 : ∀ j, j < A 481 0 → x = nI j → A 483 0 = 10 → ∀ P', MM P0 P' m ar (up2 A 480 0 2) B → po (some (.int 0)) P')
    (h1 : (∀ j, j < A 481 0 → x ≠ nI j) → ∀ P', MM P0 P' m ar (up2 A 480 0 1) B → po (some (.int 0)) P') : wp_Mo_customer po th P m x := by
  refine ⟨h.k, mo_noNode h (by omega) (fun e => ⟨_, rfl, fun z => absurd z (by decide), fun _ => mg_no h 1 rfl (by decide) (by decide) (fun h' => h1 e _ h')⟩) (fun j hj hx => ⟨_, rfl, fun _ => ⟨fun e => ?_, fun e => ?_⟩, fun z => absurd rfl z⟩)⟩
  · rw [h.i 483] at e
    have hc' : A 483 0 < 10 := by
      have : A 483 0 ≠ 10 := fun z => e (by rw [z]; rfl)
      omega
    refine mg_ok h (fun h' => ?_)
    have e1 : p_i (s_i P 480 m 0) 483 m = nI (A 483 0) := h'.i 483
    rw [e1]
    refine mg_r h' 489 101 10 rfl hc' ?_
    intro P' hP'
    rw [nI_clamp (by omega), hx] at hP'
    have h2' := h'.sai 489 101 10 (A 483 0) j (fun z => absurd z (by decide))
    rw [← hP'] at h2'
    have e2 : p_i P' 483 m = nI (A 483 0) := h2'.i 483
    rw [e2, ← nI_succ, gpi_i, if_pos ⟨rfl, rfl⟩, nI_pred]
    exact h0 j hj hx hc' _ (h2'.si 483 (A 483 0 + 1))
  · rw [h.i 483] at e
    exact mg_no h 2 rfl (by decide) (by decide) (fun h' => h2 j hj hx ((nI_eq (b := 10) (by omega) (by omega)).mp e) _ h')
theorem mo_turn {P0 P : Pic} {m : Nat} {ar : Nat → Nat} {A : Nat → Nat → Nat} {B : Nat → Nat → Int64} {po : Option Value → Pic → Prop} {th : String → Pic → Prop} {x y u : Int32} {w : Nat} (h : MM P0 P m ar A B) (hb : A 482 0 ≤ 16) (hu : u = nI w) (hw : w ≤ 1)
    (h1 : (∀ j k, j < A 482 0 → k < 2 → ¬ (x = nI j ∧ y = nI k)) → ∀ P', MM P0 P' m ar (up2 A 480 0 1) B → po (some (.int 0)) P')
    (h2 : ∀ j k, j < A 482 0 → k < 2 → x = nI j → y = nI k → A 486 (2 * j + k) = 0 → ∀ P', MM P0 P' m ar (up2 A 480 0 2) B → po (some (.int 0)) P')
    (h3 : ∀ j k, j < A 482 0 → k < 2 → x = nI j → y = nI k → A 486 (2 * j + k) ≠ 0 → A 488 (2 * j + k) ≠ 0 → ∀ P', MM P0 P' m ar (up2 A 480 0 3) B → po (some (.int 0)) P')
    (h0 : ∀ j k, j < A 482 0 → k < 2 → x = nI j → y = nI k → A 486 (2 * j + k) ≠ 0 → A 488 (2 * j + k) = 0 → ∀ P', MM P0 P' m ar (up2 (up2 A 480 0 0) 487 (2 * j + k) w) B → po (some (.int (if A 487 (2 * j + k) = w then 0 else 1))) P') : wp_Mo_turn po th P m x y u := by
  intro z hz
  refine ⟨h.k, mo_noEnd h (by omega) (fun e => ⟨_, rfl, fun z => absurd z (by decide), fun _ => mg_no h 1 rfl (by decide) (by decide) (fun h' => h1 e _ h')⟩) (fun j k hj hk hx hy => ⟨_, rfl, fun _ => ?_, fun z => absurd rfl z⟩)⟩
  have hz' : z = nI (2 * j + k) := by
    rw [hz, hx, hy]; show nI 2 * nI j + nI k = _; rw [pk_mul, nI_add]
  subst hz'
  refine mg_r h 486 103 32 rfl (by omega) ?_
  rw [nI_clamp (by omega), h.ai 486 103 32 (by omega), b0 (h.b 486 32 (by omega))]
  refine ⟨fun e => mg_r h 488 103 32 rfl (by omega) ?_, fun e => mg_no h 2 rfl (by decide) (by decide) (fun h' => h2 j k hj hk hx hy e _ h')⟩
  rw [h.ai 488 103 32 (by omega), b0 (h.b 488 32 (by omega))]
  refine ⟨fun e2 => mg_ok h (fun h' => mg_r h' 487 103 32 rfl (by omega) ?_), fun e2 => mg_no h 3 rfl (by decide) (by decide) (fun h' => h3 j k hj hk hx hy e e2 _ h')⟩
  have ho := h.b 487 32 (j := 2 * j + k) (by omega)
  rw [nI_clamp (by omega), h'.ai 487 103 32 (by omega), up2_ne _ _ (Or.inl (by decide)), hu, nI_eq (by omega) (by omega)]
  have fin := h0 j k hj hk hx hy e e2 _ (h'.sai 487 103 32 (2 * j + k) w (fun _ => hw))
  refine ⟨fun e3 => ⟨h'.k, mg_r h' 487 103 32 rfl (by omega) ⟨b01 hw, Or.inl rfl, ?_⟩⟩, fun e3 => ⟨h'.k, mg_r h' 487 103 32 rfl (by omega) ⟨b01 hw, Or.inr rfl, ?_⟩⟩⟩
  · rw [if_pos e3] at fin; rw [nI_clamp (by omega)]; exact fin
  · rw [if_neg e3] at fin; rw [nI_clamp (by omega)]; exact fin
theorem mo_stick {P0 P : Pic} {m : Nat} {ar : Nat → Nat} {A : Nat → Nat → Nat} {B : Nat → Nat → Int64} {po : Option Value → Pic → Prop} {th : String → Pic → Prop} {x y u : Int32} {w : Nat} (h : MM P0 P m ar A B) (hb : A 482 0 ≤ 16) (hu : u = nI w) (hw : w ≤ 1)
    (h1 : (∀ j k, j < A 482 0 → k < 2 → ¬ (x = nI j ∧ y = nI k)) → ∀ P', MM P0 P' m ar (up2 A 480 0 1) B → po (some (.int 0)) P')
    (h2 : ∀ j k, j < A 482 0 → k < 2 → x = nI j → y = nI k → A 486 (2 * j + k) = 0 → ∀ P', MM P0 P' m ar (up2 A 480 0 2) B → po (some (.int 0)) P')
    (h0 : ∀ j k, j < A 482 0 → k < 2 → x = nI j → y = nI k → A 486 (2 * j + k) ≠ 0 → ∀ P', MM P0 P' m ar (up2 (up2 A 480 0 0) 488 (2 * j + k) w) B → po (some (.int (if A 488 (2 * j + k) = w then 0 else 1))) P') : wp_Mo_stick po th P m x y u := by
  intro z hz
  refine ⟨h.k, mo_noEnd h (by omega) (fun e => ⟨_, rfl, fun z => absurd z (by decide), fun _ => mg_no h 1 rfl (by decide) (by decide) (fun h' => h1 e _ h')⟩) (fun j k hj hk hx hy => ⟨_, rfl, fun _ => ?_, fun z => absurd rfl z⟩)⟩
  have hz' : z = nI (2 * j + k) := by
    rw [hz, hx, hy]; show nI 2 * nI j + nI k = _; rw [pk_mul, nI_add]
  subst hz'
  refine mg_r h 486 103 32 rfl (by omega) ?_
  rw [nI_clamp (by omega), h.ai 486 103 32 (by omega), b0 (h.b 486 32 (by omega))]
  refine ⟨fun e => mg_ok h (fun h' => mg_r h' 488 103 32 rfl (by omega) ?_), fun e => mg_no h 2 rfl (by decide) (by decide) (fun h' => h2 j k hj hk hx hy e _ h')⟩
  have ho := h.b 488 32 (j := 2 * j + k) (by omega)
  rw [nI_clamp (by omega), h'.ai 488 103 32 (by omega), up2_ne _ _ (Or.inl (by decide)), hu, nI_eq (by omega) (by omega)]
  have fin := h0 j k hj hk hx hy e _ (h'.sai 488 103 32 (2 * j + k) w (fun _ => hw))
  refine ⟨fun e3 => ⟨h'.k, mg_r h' 488 103 32 rfl (by omega) ⟨b01 hw, Or.inl rfl, ?_⟩⟩, fun e3 => ⟨h'.k, mg_r h' 488 103 32 rfl (by omega) ⟨b01 hw, Or.inr rfl, ?_⟩⟩⟩
  · rw [if_pos e3] at fin; rw [nI_clamp (by omega)]; exact fin
  · rw [if_neg e3] at fin; rw [nI_clamp (by omega)]; exact fin
theorem mo_pass {P0 P : Pic} {m : Nat} {ar : Nat → Nat} {A : Nat → Nat → Nat} {B : Nat → Nat → Int64} {po : Option Value → Pic → Prop} {th : String → Pic → Prop} {x : Int32} (h : MM P0 P m ar A B) (hb : A 495 0 ≤ 400)
    (h0 : ∀ d, 1 ≤ d → A 495 0 + d ≤ 400 → x = nI d → ∀ P', MM P0 P' m ar (up2 (up2 A 480 0 0) 495 0 (A 495 0 + d)) B → po (some (.int (nI (A 495 0 + d)))) P')
    (h1 : (∀ d, 1 ≤ d → A 495 0 + d ≤ 400 → x ≠ nI d) → ∀ P', MM P0 P' m ar (up2 A 480 0 1) B → po (some (.int 0)) P') : wp_Mo_pass po th P m x := by
  have bad : (∀ d, 1 ≤ d → A 495 0 + d ≤ 400 → x ≠ nI d) → wb_Mo_pass_25 po th P m x m := fun e => mg_no h 1 rfl (by decide) (by decide) (fun h' => h1 e _ h')
  refine ⟨fun e => bad (fun d h1 h2 hx => ?_), fun e => ⟨fun e2 => bad (fun d h1 h2 hx => ?_), fun e2 => ⟨h.k, ?_⟩⟩⟩
  · rw [hx] at e; exact nI_nlt (b := 1) h1 (by omega) e
  · rw [hx] at e2; exact nI_nlt (a := 400) (by omega) (by omega) e2
  · have e0 : ¬ x < 0 := by rw [Int32.lt_iff_toInt_lt] at e ⊢; have : (1 : Int32).toInt = 1 := rfl; have : (0 : Int32).toInt = 0 := rfl; omega
    obtain ⟨d, hd, hx⟩ := nI_of e0
    subst hx
    have d1 : 1 ≤ d := by
      rcases Nat.lt_or_ge d 1 with z | z
      · exact absurd (nI_lt (b := 1) z (by omega)) e
      · exact z
    have d2 : d ≤ 400 := by
      rcases Nat.lt_or_ge 400 d with z | z
      · exact absurd (nI_lt (a := 400) z (by omega)) e2
      · exact z
    rw [h.i 495, nI_add]
    refine ⟨fun e3 => mg_ok h (fun h' => ?_), fun e3 => bad (fun d' h1 h2 hx => e3 ?_)⟩
    · have e4 : p_i (s_i P 480 m 0) 495 m = nI (A 495 0) := h'.i 495
      rw [e4, nI_add, gpi_i, if_pos ⟨rfl, rfl⟩]
      exact h0 d d1 ((nI_leI (b := 400) (by omega) (by omega)).mp e3) rfl _ (h'.si 495 (A 495 0 + d))
    · have : d = d' := (nI_eq (by omega) (by omega)).mp hx
      exact nI_le (b := 400) (by omega) (by omega)
theorem mo_note {P0 P : Pic} {m : Nat} {ar : Nat → Nat} {A : Nat → Nat → Nat} {B : Nat → Nat → Int64} {po : Option Value → Pic → Prop} {th : String → Pic → Prop} {c d w f : Nat} {x xd xw xf : Int32} (h : MM P0 P m ar A B) (hc : c < 10) (hn : A 496 c < 24) (hx : x = nI c) (hd : xd = nI d) (hw : xw = nI w) (hf : xf = nI f) (hf1 : f ≤ 1)
    (h0 : ∀ P', MM P0 P' m ar (up2 (up2 (up2 (up2 (up2 A 497 (24 * c + A 496 c) (A 495 0)) 498 (24 * c + A 496 c) w) 499 (24 * c + A 496 c) d) 500 (24 * c + A 496 c) f) 496 c (A 496 c + 1)) B → po (some (.int (nI (A 496 c + 1)))) P') : wp_Mo_note po th P m x xd xw xf := by
  subst hx; subst hd; subst hw; subst hf
  refine ⟨h.k, mg_r h 496 101 10 rfl hc ?_⟩
  intro z hz
  have hz' : z = nI (24 * c + A 496 c) := by
    rw [hz, nI_clamp (by omega), h.ai 496 101 10 hc]; show nI 24 * nI c + _ = _; rw [pk_mul, nI_add]
  subst hz'
  refine mg_r h 497 101 240 rfl (by omega) ?_
  rw [nI_clamp (by omega), h.i 495]
  have h1 := h.sai 497 101 240 (24 * c + A 496 c) (A 495 0) (fun z => absurd z (by decide))
  refine mg_r h1 498 101 240 rfl (by omega) ?_
  intro P1 hP1
  have h2 := h1.sai 498 101 240 (24 * c + A 496 c) w (fun z => absurd z (by decide))
  rw [← hP1] at h2
  refine mg_r h2 499 101 240 rfl (by omega) ?_
  have h3 := h2.sai 499 101 240 (24 * c + A 496 c) d (fun z => absurd z (by decide))
  refine mg_r h3 500 103 240 rfl (by omega) ⟨b01 hf1, ?_⟩
  intro P2 hP2
  have h4 := h3.sai 500 103 240 (24 * c + A 496 c) f (fun _ => hf1)
  rw [← hP2] at h4
  refine mg_r h4 496 101 10 rfl hc ⟨by rw [h4.an 496 101 10]; exact vp_in_nI hc (by decide), ?_⟩
  intro P3 hP3
  have e : p_ai P2 (ar 496) c = nI (A 496 c) := h4.ai 496 101 10 hc
  rw [nI_clamp (by omega), e, ← nI_succ] at hP3
  have h5 := h4.sai 496 101 10 c (A 496 c + 1) (fun z => absurd z (by decide))
  rw [← hP3] at h5
  refine mg_r h5 496 101 10 rfl hc ?_
  rw [nI_clamp (by omega), h5.ai 496 101 10 hc, up2_eq]
  exact h0 _ h5
