/-! install, read, amend -/
theorem xo_install {P : Pic} {x : Nat} {g : Nat → Nat → Nat} {ow : Nat → Nat × Nat} {fl : Nat} {A : Nat → Nat → Nat} {B : Nat → Nat → Int64} {po : Option Value → Pic → Prop} {th : String → Pic → Prop} {x1 x2 x3 : Int32} (h : RX P x g ow fl A B) (ok : Ok A B)
    (h1 : (∀ j, j < A 483 0 → x1 ≠ nI j) → th "java/lang/IndexOutOfBoundsException" P)
    (h2 : ∀ c, c < A 483 0 → x1 = nI c → (∀ d w, 1 ≤ d → d ≤ 4 → w < 10 ^ d → ¬ (x2 = nI d ∧ x3 = nI w)) → th "java/lang/IllegalArgumentException" P)
    (h3 : ∀ c d w, c < A 483 0 → x1 = nI c → 1 ≤ d → d ≤ 4 → w < 10 ^ d → x2 = nI d → x3 = nI w → (A 496 c = 24 ∨ (0 < A 496 c ∧ A 497 (24 * c + A 496 c - 1) = A 495 0 ∧ A 500 (24 * c + A 496 c - 1) ≠ 0)) → th "java/lang/IllegalStateException" P)
    (h0 : ∀ c d w, c < A 483 0 → x1 = nI c → 1 ≤ d → d ≤ 4 → w < 10 ^ d → x2 = nI d → x3 = nI w → ¬ (A 496 c = 24 ∨ (0 < A 496 c ∧ A 497 (24 * c + A 496 c - 1) = A 495 0 ∧ A 500 (24 * c + A 496 c - 1) ≠ 0)) → ∀ P' g', XM P P' → RX P' x g' ow fl (up2 (up2 (up2 (up2 (up2 A 497 (24 * c + A 496 c) (A 495 0)) 498 (24 * c + A 496 c) w) 499 (24 * c + A 496 c) (10 ^ d)) 500 (24 * c + A 496 c) 1) 496 c (A 496 c + 1)) B → po (some (.int (nI (A 496 c + 1)))) P') : wp_Wa_install po th P x x1 x2 x3 := by
  obtain ⟨hw, xa, xg, xn, xd, xe, ⟨pl, xp⟩, xf, xc, xr, xb, xt, xo⟩ := id h
  refine ⟨xa.1, xo_customerAt h ok.2.1.1 h1 (fun c hc hx1 => ⟨_, rfl, xo_needShown (h2 c hc hx1) (fun d w d1 d4 hw10 hx2 hx3 => ⟨rfl, (xc.2 c hc).1, ?_⟩)⟩)⟩
  obtain ⟨c1, c2, c3, c4, c5⟩ := xc.2 c hc
  obtain ⟨rb, ri, rj⟩ := ok.2.2.1 c hc
  have htd := ok.2.1.2.1
  have el : ∀ k, 24 * c + A 496 c - 1 = 24 * c + (A 496 c - 1) ∨ A 496 c = 0 := fun _ => by omega
  have good : ¬ (A 496 c = 24 ∨ (0 < A 496 c ∧ A 497 (24 * c + A 496 c - 1) = A 495 0 ∧ A 500 (24 * c + A 496 c - 1) ≠ 0)) → wb_Wa_install_57 po th P x x2 x3 (g 10 c) := by
    intro hg
    refine ⟨fun _ => ⟨rfl, c1, _, c3, ?_⟩, fun z => absurd z (by decide)⟩
    intro q hq
    have zx := hw.lt xa.1
    refine ⟨by rw [gpk_new, if_neg (by omega)]; exact xa.1, ?_⟩
    have e3 : p_i (s_new P q 9) 3 x = nI (A 495 0) := by rw [gpi_new, if_neg (by omega)]; exact xa.2.2.2.2
    exact xo_note h ok hc (by omega) hq e3 hx2 d1 d4 hx3 rfl (Nat.le_refl 1) (h0 c d w hc hx1 d1 d4 hw10 hx2 hx3 hg)
  have bad : (A 496 c = 24 ∨ (0 < A 496 c ∧ A 497 (24 * c + A 496 c - 1) = A 495 0 ∧ A 500 (24 * c + A 496 c - 1) ≠ 0)) → wb_Wa_install_61 po th P x x2 x3 (g 10 c) := fun e => ⟨fun z => absurd rfl z, fun _ => h3 c d w hc hx1 d1 d4 hw10 hx2 hx3 e⟩
  have sz : ∀ (K : Int32 → Pic → Prop), K (nI (A 496 c)) P → ∃ a, p_r P 121 (g 10 c) = some a ∧ p_k P a = 14 ∧ wp_Ar_size (cp_i K) th P a := fun K hK => ⟨_, c3, (xr c hc).1.1, ls_size' (xr c hc).1 ⟨_, rfl, hK⟩⟩
  refine xo_last h hc rb (fun e0 => ⟨none, rfl, sz _ ⟨fun e => ?_, fun e => ⟨fun _ => good (by omega), fun z => absurd rfl z⟩⟩⟩) (fun e0 => ⟨some _, rfl, sz _ ⟨fun e => ?_, fun e => ⟨fun z => (by cases z), fun _ => ?_⟩⟩⟩)
  · have := (nI_leI (a := 24) (by omega) (by omega)).mp e; omega
  · exact bad (Or.inl (by have := (nI_leI (a := 24) (by omega) (by omega)).mp e; omega))
  · have hlt : A 496 c < 24 := by
      rcases Nat.lt_or_ge (A 496 c) 24 with z | z
      · exact z
      · exact absurd (nI_le (a := 24) z (by omega)) e
    have el : 24 * c + A 496 c - 1 = 24 * c + (A 496 c - 1) := by omega
    rw [el] at good bad
    obtain ⟨a1, a2, a3, ⟨d', a4, d1', d2', d3'⟩, a5⟩ := (xr c hc).2 (A 496 c - 1) (by omega)
    have hi := ri (A 496 c - 1) (by omega)
    refine ⟨_, rfl, a1, a1, _, rfl, ?_⟩
    rw [a2, xa.2.2.2.2]
    refine ⟨fun e5 => good ?_, fun e5 => ⟨a1, by rw [a5]; exact b01 hi.2.2.2, _, rfl, fun e6 => bad ?_, fun e6 => good ?_⟩⟩
    · have := (nI_ltI (by omega) (by omega)).mp e5; omega
    · have e7 : ¬ A 497 (24 * c + (A 496 c - 1)) < A 495 0 := fun z => e5 (nI_lt z (by omega))
      exact Or.inr ⟨e0, by omega, fun z => e6 (by rw [a5, z]; rfl)⟩
    · have : A 500 (24 * c + (A 496 c - 1)) = 0 := (b0 hi.2.2.2).mp (by rw [← a5]; exact e6)
      omega
theorem xo_read {P : Pic} {x : Nat} {g : Nat → Nat → Nat} {ow : Nat → Nat × Nat} {fl : Nat} {A : Nat → Nat → Nat} {B : Nat → Nat → Int64} {po : Option Value → Pic → Prop} {th : String → Pic → Prop} {x1 x2 : Int32} (h : RX P x g ow fl A B) (ok : Ok A B)
    (h1 : (∀ j, j < A 483 0 → x1 ≠ nI j) → th "java/lang/IndexOutOfBoundsException" P)
    (h2 : ∀ c, c < A 483 0 → x1 = nI c → (A 496 c = 0 ∨ A 496 c = 24 ∨ A 497 (24 * c + A 496 c - 1) = A 495 0) → th "java/lang/IllegalStateException" P)
    (h3 : ∀ c, c < A 483 0 → x1 = nI c → ¬ (A 496 c = 0 ∨ A 496 c = 24 ∨ A 497 (24 * c + A 496 c - 1) = A 495 0) → (∀ w, w < A 499 (24 * c + A 496 c - 1) → x2 ≠ nI w) → th "java/lang/IllegalArgumentException" P)
    (h0 : ∀ c w, c < A 483 0 → x1 = nI c → ¬ (A 496 c = 0 ∨ A 496 c = 24 ∨ A 497 (24 * c + A 496 c - 1) = A 495 0) → w < A 499 (24 * c + A 496 c - 1) → x2 = nI w → ∀ P' g', XM P P' → RX P' x g' ow fl (up2 (up2 (up2 (up2 (up2 A 497 (24 * c + A 496 c) (A 495 0)) 498 (24 * c + A 496 c) w) 499 (24 * c + A 496 c) (A 499 (24 * c + A 496 c - 1))) 500 (24 * c + A 496 c) 0) 496 c (A 496 c + 1)) B → po (some (.int (nI (A 496 c + 1)))) P') : wp_Wa_read po th P x x1 x2 := by
  obtain ⟨hw, xa, xg, xn, xd, xe, ⟨pl, xp⟩, xf, xc, xr, xb, xt, xo⟩ := id h
  refine ⟨xa.1, xo_customerAt h ok.2.1.1 h1 (fun c hc hx1 => ⟨_, rfl, (xc.2 c hc).1, ?_⟩)⟩
  obtain ⟨c1, c2, c3, c4, c5⟩ := xc.2 c hc
  obtain ⟨rb, ri, rj⟩ := ok.2.2.1 c hc
  have htd := ok.2.1.2.1
  have bad : ∀ o, (A 496 c = 0 ∨ A 496 c = 24 ∨ A 497 (24 * c + A 496 c - 1) = A 495 0) → wb_Wa_read_45 po th P x x2 (g 10 c) o := fun o e => ⟨fun z => absurd rfl z, fun _ => h2 c hc hx1 e⟩
  have sz : ∀ (K : Int32 → Pic → Prop), K (nI (A 496 c)) P → ∃ a, p_r P 121 (g 10 c) = some a ∧ p_k P a = 14 ∧ wp_Ar_size (cp_i K) th P a := fun K hK => ⟨_, c3, (xr c hc).1.1, ls_size' (xr c hc).1 ⟨_, rfl, hK⟩⟩
  refine xo_last h hc rb (fun e0 => ⟨none, rfl, fun _ => bad _ (Or.inl e0), fun z => absurd rfl z⟩) (fun e0 => ⟨some _, rfl, fun z => (by cases z), fun _ => sz _ ⟨fun e => ?_, fun e => ?_⟩⟩)
  · exact bad _ (Or.inr (Or.inl (by have := (nI_leI (a := 24) (by omega) (by omega)).mp e; omega)))
  · have hlt : A 496 c < 24 := by
      rcases Nat.lt_or_ge (A 496 c) 24 with z | z
      · exact z
      · exact absurd (nI_le (a := 24) z (by omega)) e
    have el : 24 * c + A 496 c - 1 = 24 * c + (A 496 c - 1) := by omega
    have h3' := h3 c hc hx1
    have h0' := h0 c
    rw [el] at bad h3' h0'
    obtain ⟨a1, a2, a3, ⟨d', a4, d1', d2', d3'⟩, a5⟩ := (xr c hc).2 (A 496 c - 1) (by omega)
    have hi := ri (A 496 c - 1) (by omega)
    refine ⟨_, rfl, a1, a1, _, rfl, ?_⟩
    rw [a2, xa.2.2.2.2]
    refine ⟨fun e5 => bad _ (Or.inr (Or.inr (by have := (nI_leI (by omega) (by omega)).mp e5; omega))), fun e5 => ?_⟩
    have hne : ¬ (A 496 c = 0 ∨ A 496 c = 24 ∨ A 497 (24 * c + (A 496 c - 1)) = A 495 0) := by
      have : ¬ A 495 0 ≤ A 497 (24 * c + (A 496 c - 1)) := fun z => e5 (nI_le z (by omega))
      omega
    have p10' := p10 d1' d2'
    refine ⟨fun _ => ⟨rfl, _, rfl, a1, a1, _, rfl, ?_⟩, fun z => absurd z (by decide)⟩
    rw [a4]
    refine xo_needShown (fun e => h3' hne (fun w hw z => e d' w d1' d2' (by omega) ⟨rfl, z⟩)) (fun d w d1 d4 hw10 hd hx2 => ⟨rfl, c1, _, c3, ?_⟩)
    have ed : d' = d := (nI_eq (by omega) (by omega)).mp hd
    subst ed
    intro q hq
    have zx := hw.lt xa.1
    have za := hw.lt a1
    have e3 : p_i (s_new P q 9) 3 x = nI (A 495 0) := by rw [gpi_new, if_neg (by omega)]; exact xa.2.2.2.2
    have e4 : p_i (s_new P q 9) 362 (g 16 (24 * c + (A 496 c - 1))) = nI d' := by rw [gpi_new, if_neg (by omega)]; exact a4
    refine ⟨by rw [gpk_new, if_neg (by omega)]; exact xa.1, by rw [gpk_new, if_neg (by omega)]; exact a1, _, rfl, ?_⟩
    refine xo_note h ok hc hlt hq e3 e4 d1 d4 hx2 rfl (Nat.zero_le 1) (fun P' g' hm hr => h0' w hc hx1 hne (by omega) hx2 P' g' hm ?_)
    rw [d3']; exact hr
theorem xo_amend {P : Pic} {x : Nat} {g : Nat → Nat → Nat} {ow : Nat → Nat × Nat} {fl : Nat} {A : Nat → Nat → Nat} {B : Nat → Nat → Int64} {po : Option Value → Pic → Prop} {th : String → Pic → Prop} {x1 x2 x3 : Int32} (h : RX P x g ow fl A B) (ok : Ok A B)
    (h1 : (∀ j, j < A 483 0 → x1 ≠ nI j) → th "java/lang/IndexOutOfBoundsException" P)
    (h2 : ∀ c, c < A 483 0 → x1 = nI c → (∀ i, i < A 496 c → x2 ≠ nI i) → th "java/util/NoSuchElementException" P)
    (h3 : ∀ c i, c < A 483 0 → x1 = nI c → i < A 496 c → x2 = nI i → (∀ w, w < A 499 (24 * c + i) → x3 ≠ nI w) → th "java/lang/IllegalArgumentException" P)
    (h0 : ∀ c i w, c < A 483 0 → x1 = nI c → i < A 496 c → x2 = nI i → w < A 499 (24 * c + i) → x3 = nI w → ∀ P' g', XM P P' → RX P' x g' ow fl (up2 A 498 (24 * c + i) w) B → po (some (.int (nI (A 498 (24 * c + i))))) P') : wp_Wa_amend po th P x x1 x2 x3 := by
  obtain ⟨hw, xa, xg, xn, xd, xe, ⟨pl, xp⟩, xf, xc, xr, xb, xt, xo⟩ := id h
  refine ⟨xa.1, xo_customerAt h ok.2.1.1 h1 (fun c hc hx1 => ⟨_, rfl, ?_⟩)⟩
  obtain ⟨c1, c2, c3, c4, c5⟩ := xc.2 c hc
  obtain ⟨rb, ri, rj⟩ := ok.2.2.1 c hc
  have bad : (∀ i, i < A 496 c → x2 ≠ nI i) → wb_Wa_amend_27 po th P x2 x3 (g 10 c) := fun e => ⟨fun z => absurd rfl z, fun _ => h2 c hc hx1 e⟩
  refine ⟨fun e => bad (fun i hi z => ?_), fun e => ⟨c1, _, c3, (xr c hc).1.1, ls_size' (xr c hc).1 ⟨_, rfl, fun e2 => bad (fun i hi z => ?_), fun e2 => ?_⟩⟩⟩
  · rw [z] at e; exact nI_pos (by omega) e
  · rw [z] at e2; exact nI_ge hi (by omega) e2
  · obtain ⟨i, hi31, hx2⟩ := nI_of e
    have hi : i < A 496 c := by
      rcases Nat.lt_or_ge i (A 496 c) with z | z
      · exact z
      · exact absurd (by rw [hx2]; exact nI_le z hi31) e2
    have hcb := ok.2.1.1
    obtain ⟨a1, a2, a3, ⟨d', a4, d1', d2', d3'⟩, a5⟩ := (xr c hc).2 i hi
    refine ⟨fun _ => ⟨rfl, c1, _, c3, (xr c hc).1.1, ?_⟩, fun z => absurd z (by decide)⟩
    rw [hx2]
    have p10' := p10 d1' d2'
    refine ls_get' (xr c hc).1 hi (fun _ => ⟨_, rfl, a1, a1, _, rfl, ?_⟩)
    rw [a4]
    refine xo_needShown (fun e => h3 c i hc hx1 hi hx2 (fun w hw z => e d' w d1' d2' (by omega) ⟨rfl, z⟩)) (fun d w d1 d4 hw10 hd hx3 => ⟨rfl, _, c3, ?_⟩)
    have ed : d' = d := (nI_eq (by omega) (by omega)).mp hd
    subst ed
    have fin := h0 c i w hc hx1 hi hx2 (by omega) hx3
    intro q hq
    have za := hw.lt a1
    have ek : p_k (s_new P q 9) (g 16 (24 * c + i)) = 10 := by rw [gpk_new, if_neg (by omega)]; exact a1
    have f60 : p_i (s_new P q 9) 360 (g 16 (24 * c + i)) = nI (A 497 (24 * c + i)) := by rw [gpi_new, if_neg (by omega)]; exact a2
    have f62 : p_i (s_new P q 9) 362 (g 16 (24 * c + i)) = nI d' := by rw [gpi_new, if_neg (by omega)]; exact a4
    have f63 : p_i (s_new P q 9) 363 (g 16 (24 * c + i)) = nI (A 500 (24 * c + i)) := by rw [gpi_new, if_neg (by omega)]; exact a5
    have hf1 := (ri i hi).2.2.2
    refine ⟨ek, _, rfl, ek, _, rfl, ek, by rw [f63]; exact b01 hf1, _, rfl, ?_⟩
    rw [f60, f62, f63, hx3]
    refine ⟨rfl, by rw [gpk_new, if_pos rfl], b01 hf1, ?_⟩
    generalize hr : 24 * c + i = r at *
    have t1 : Tr P (s_new P q 9) (fun _ => False) := tr_new hw hq 9 _
    have t2 := tr_inew (f := 363) (tr_inew (f := 362) (tr_inew (f := 361) (tr_inew (f := 360) t1 hq (by decide) (nI (A 497 r))) hq (by decide) (nI w)) hq (by decide) (nI d')) hq (by decide) (nI (A 500 r))
    have hw2 : Wf (s_i (s_i (s_i (s_i (s_new P q 9) 360 q (nI (A 497 r))) 361 q (nI w)) 362 q (nI d')) 363 q (nI (A 500 r))) := wf_i (wf_i (wf_i (wf_i (wf_new hw hq 9) _ _ _) _ _ _) _ _ _) _ _ _
    have k2 : p_k (s_i (s_i (s_i (s_i (s_new P q 9) 360 q (nI (A 497 r))) 361 q (nI w)) 362 q (nI d')) 363 q (nI (A 500 r))) q = 10 := by
      show p_k (s_new P q 9) q = 10; rw [gpk_new, if_pos rfl]
    have i60 : p_i (s_i (s_i (s_i (s_i (s_new P q 9) 360 q (nI (A 497 r))) 361 q (nI w)) 362 q (nI d')) 363 q (nI (A 500 r))) 360 q = nI (A 497 r) := by rw [gpi_i, if_neg (by omega), gpi_i, if_neg (by omega), gpi_i, if_neg (by omega), gpi_i, if_pos ⟨rfl, rfl⟩]
    have i61 : p_i (s_i (s_i (s_i (s_i (s_new P q 9) 360 q (nI (A 497 r))) 361 q (nI w)) 362 q (nI d')) 363 q (nI (A 500 r))) 361 q = nI w := by rw [gpi_i, if_neg (by omega), gpi_i, if_neg (by omega), gpi_i, if_pos ⟨rfl, rfl⟩]
    have i62 : p_i (s_i (s_i (s_i (s_i (s_new P q 9) 360 q (nI (A 497 r))) 361 q (nI w)) 362 q (nI d')) 363 q (nI (A 500 r))) 362 q = nI d' := by rw [gpi_i, if_neg (by omega), gpi_i, if_pos ⟨rfl, rfl⟩]
    have i63 : p_i (s_i (s_i (s_i (s_i (s_new P q 9) 360 q (nI (A 497 r))) 361 q (nI w)) 362 q (nI d')) 363 q (nI (A 500 r))) 363 q = nI (A 500 r) := by rw [gpi_i, if_pos ⟨rfl, rfl⟩]
    have qz : q < p_z (s_i (s_i (s_i (s_i (s_new P q 9) 360 q (nI (A 497 r))) 361 q (nI w)) 362 q (nI d')) 363 q (nI (A 500 r))) := Nat.lt_succ_self q
    generalize s_i (s_i (s_i (s_i (s_new P q 9) 360 q (nI (A 497 r))) 361 q (nI w)) 362 q (nI d')) 363 q (nI (A 500 r)) = P2 at *
    have r2 := t2.2.2.2 _ _ _ _ (fun z => z) (xr c hc).1
    have hi' : i < (rg (A 496 c) (fun i => g 16 (24 * c + i))).length := by rw [rg_len]; exact hi
    refine ⟨rfl, r2.1, ls_set hw2 r2 hi' k2 (fun P' t3 hw' hl => ⟨_, rfl, ?_⟩)⟩
    have t : TX P P' (fun M => M = g 13 c) (fun _ => false) := (t2.trans t3 (T := fun M => M = g 13 c) (fun _ z => z.elim) (fun _ z => z)).tx _
    have er : (rg (A 496 c) (fun i => g 16 (24 * c + i)))[i] = g 16 r := by rw [rg_get, hr]
    have e61 : p_i P' 361 (g 16 r) = nI (A 498 r) := t.i za rfl a3
    refine ⟨t.k hw a1, t.k hw a1, _, rfl, ?_⟩
    rw [e61]
    have nS : ∀ t i, InX A t i → ¬ (t = 13 ∧ i = c) → ¬ (g t i = g 13 c) := xo.ns (inx13 hc)
    have eA : ∀ f, f ∉ [498] → (up2 A 498 r w) f = A f := fun f hf => up2_fn A _ (fun z => hf (by rw [z]; decide))
    have eB : ∀ f, f ∉ [0] → B f = B f := fun f hf => rfl
    have e8 : ∀ k, up2 A 498 r w 498 k = if k = r then w else A 498 k := fun k => by
      by_cases e : k = r
      · rw [if_pos e, e, up2_eq]
      · rw [if_neg e, up2_ne _ _ (Or.inr e)]
    have e16 : ∀ k, up2 g 16 r q 16 k = if k = r then q else g 16 k := fun k => by
      by_cases e : k = r
      · rw [if_pos e, e, up2_eq]
      · rw [if_neg e, up2_ne _ _ (Or.inr e)]
    have ef : ∀ y, y ≠ 16 → up2 g 16 r q y = g y := fun y hy => up2_fn _ _ hy
    have hl' : Lst P' (g 13 c) 10 24 (rg (A 496 c) (fun i => up2 g 16 r q 16 (24 * c + i))) := by
      have : rg (A 496 c) (fun i => up2 g 16 r q 16 (24 * c + i)) = (rg (A 496 c) (fun i => g 16 (24 * c + i))).set i q := by
        apply List.ext_getElem?
        intro k
        rw [List.getElem?_set, rg_get?, rg_get?, rg_len, e16]
        by_cases e : k = i
        · subst e; rw [if_pos hi, if_pos hr, if_pos rfl, if_pos hi]
        · rw [if_neg (show ¬ (24 * c + k = r) by omega), if_neg (show ¬ (i = k) from fun z => e z.symm)]
      rw [this]; exact hl
    refine fin P' (up2 g 16 r q) (t.xm (fun _ _ _ => rfl) rfl) ?_
    have key : ∀ {g' : Nat → Nat → Nat}, g' = up2 g 16 r q → RX P' x g' ow fl (up2 A 498 r w) B := by
      intro g' hg'
      have xo' : XO P' g' ow A := by
        intro T k hk
        rw [hg']
        have : T ≠ 16 := by
          intro z
          subst z
          unfold InX at hk
          omega
        rw [ef T this]; exact xo.tx t T k hk
      have f0 : g' 0 = g 0 := by rw [hg']; exact ef _ (by decide)
      have f1 : g' 1 = g 1 := by rw [hg']; exact ef _ (by decide)
      have f2 : g' 2 = g 2 := by rw [hg']; exact ef _ (by decide)
      have f3 : g' 3 = g 3 := by rw [hg']; exact ef _ (by decide)
      have f4 : g' 4 = g 4 := by rw [hg']; exact ef _ (by decide)
      have f5 : g' 5 = g 5 := by rw [hg']; exact ef _ (by decide)
      have f6 : g' 6 = g 6 := by rw [hg']; exact ef _ (by decide)
      have f7 : g' 7 = g 7 := by rw [hg']; exact ef _ (by decide)
      have f8 : g' 8 = g 8 := by rw [hg']; exact ef _ (by decide)
      have f9 : g' 9 = g 9 := by rw [hg']; exact ef _ (by decide)
      have f10 : g' 10 = g 10 := by rw [hg']; exact ef _ (by decide)
      have f11 : g' 11 = g 11 := by rw [hg']; exact ef _ (by decide)
      have f12 : g' 12 = g 12 := by rw [hg']; exact ef _ (by decide)
      have f13 : g' 13 = g 13 := by rw [hg']; exact ef _ (by decide)
      have f14 : g' 14 = g 14 := by rw [hg']; exact ef _ (by decide)
      have f15 : g' 15 = g 15 := by rw [hg']; exact ef _ (by decide)
      have f17 : g' 17 = g 17 := by rw [hg']; exact ef _ (by decide)
      have f18 : g' 18 = g 18 := by rw [hg']; exact ef _ (by decide)
      have f19 : g' 19 = g 19 := by rw [hg']; exact ef _ (by decide)
      have f20 : g' 20 = g 20 := by rw [hg']; exact ef _ (by decide)
      have f16 : ∀ k, g' 16 k = if k = r then q else g 16 k := by rw [hg']; exact e16
      have base : RX P' x g ow fl (up2 A 498 r w) B ∨ True := Or.inr trivial
      clear base
      have xa2 := (xa.tx hw t rfl).cA (A' := up2 A 498 r w) (eA _ (by decide))
      have xg2 := xg.tx hw t
      have xn2 := (xn.tx hw t rfl (nS 1 0 (inx0 (by decide)) (by omega)) (fun i hi => nS 11 i (inx11 hi) (by omega))).cA (A' := up2 A 498 r w) (eA _ (by decide)) (eA _ (by decide)) (eA _ (by decide)) (eA _ (by decide))
      have xd2 := (xd.tx hw t (nS 2 0 (inx0 (by decide)) (by omega)) (fun i hi => nS 12 i (inx12 hi) (by omega))).cA (A' := up2 A 498 r w) (eA _ (by decide))
      have xe2 := (xe.tx hw t ⟨rfl, rfl, rfl, rfl⟩ (nS 3 0 (inx0 (by decide)) (by omega))).cA (A' := up2 A 498 r w) (eA _ (by decide)) (eA _ (by decide)) (eA _ (by decide)) (eA _ (by decide)) (eA _ (by decide))
      have xp2 := (xp.tx xe hw t rfl).cA (A' := up2 A 498 r w) (eA _ (by decide))
      have xf2 := (xf.tx xg xn xd hw t ⟨rfl, rfl⟩).cA (A' := up2 A 498 r w) (eA _ (by decide)) (eA _ (by decide))
      have xc2 := (xc.tx hw t rfl (nS 4 0 (inx0 (by decide)) (by omega))).cA (A' := up2 A 498 r w) (B' := B) (eA _ (by decide)) (eA _ (by decide)) rfl
      have xb2 := (xb.tx hw t ⟨rfl, rfl, rfl⟩ (fun i hi => nS 14 i (inx14 hi) (by omega))).cA (A' := up2 A 498 r w) (B' := B) (eA _ (by decide)) (eA _ (by decide)) (eA _ (by decide)) (eA _ (by decide)) rfl
      have xt2 := (xt.tx hw t ⟨rfl, rfl⟩ (nS 5 0 (inx0 (by decide)) (by omega))).cA (A' := up2 A 498 r w) (B' := B) (eA _ (by decide)) (eA _ (by decide)) rfl
      refine ⟨hw', ?_, ?_, ?_, ?_, ?_, ⟨pl, ?_⟩, ?_, ?_, ?_, ?_, ?_, xo'.cA (eA _ (by decide)) (eA _ (by decide)) (eA _ (by decide)) (eA _ (by decide))⟩
      · unfold XA; rw [f0, f4, f5]; exact xa2
      · unfold XG; rw [f0, f1, f2, f3, f6, f18, f19, f20]; exact xg2
      · unfold XN; rw [f1, f7, f9, f11]; exact xn2
      · unfold XD; rw [f2, f8, f9, f12]; exact xd2
      · unfold XE; rw [f3, f7, f8, f9]; exact xe2
      · unfold XP; rw [f9]; exact xp2
      · unfold XF; rw [f0, f7, f8]; exact xf2
      · unfold XC; rw [f4, f7, f10, f13, f14]; exact xc2
      · unfold XR
        rw [eA 483 (by decide), eA 496 (by decide), eA 497 (by decide), eA 499 (by decide), eA 500 (by decide), f13]
        intro c' hc'
        have hr' := (ok.2.2.1 c' hc').1
        by_cases e : c' = c
        · subst e
          refine ⟨by rw [hg']; exact hl', fun k hk => ?_⟩
          rw [f16, e8]
          by_cases ei : k = i
          · subst ei
            rw [hr, if_pos rfl, if_pos rfl]
            exact ⟨t3.k hw2 k2, t3.i qz i60, t3.i qz i61, ⟨d', t3.i qz i62, d1', d2', d3'⟩, t3.i qz i63⟩
          · rw [if_neg (by omega), if_neg (by omega)]
            obtain ⟨a1, a2, a3, ⟨d2, a4, d12, d22, d32⟩, a5⟩ := (xr c' hc').2 k hk
            have hx := hw.lt a1
            exact ⟨t.k hw a1, t.i hx rfl a2, t.i hx rfl a3, ⟨d2, t.i hx rfl a4, d12, d22, d32⟩, t.i hx rfl a5⟩
        · have ef' : ∀ k, k < A 496 c' → g' 16 (24 * c' + k) = g 16 (24 * c' + k) := fun k hk => by rw [f16, if_neg (by omega)]
          rw [rg_congr (f := fun i => g 16 (24 * c' + i)) ef']
          refine ⟨t.2.2 _ _ _ _ (nS 13 c' (inx13 hc') (by omega)) (xr c' hc').1, fun k hk => ?_⟩
          rw [ef' k hk, e8, if_neg (by omega)]
          obtain ⟨a1, a2, a3, ⟨d2, a4, d12, d22, d32⟩, a5⟩ := (xr c' hc').2 k hk
          have hx := hw.lt a1
          exact ⟨t.k hw a1, t.i hx rfl a2, t.i hx rfl a3, ⟨d2, t.i hx rfl a4, d12, d22, d32⟩, t.i hx rfl a5⟩
      · unfold XB; rw [f14, f15]; exact xb2
      · unfold XT; rw [f5, f17]; exact xt2
    exact key rfl
