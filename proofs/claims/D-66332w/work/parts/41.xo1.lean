/-! the component's methods that set one field -/
theorem inx0 {A : Nat → Nat → Nat} {t : Nat} (h : t < 7) : InX A t 0 := Or.inl ⟨h, rfl⟩
theorem inx7 {A : Nat → Nat → Nat} {i : Nat} (h : i < A 481 0) : InX A 7 i := Or.inr (Or.inl ⟨Or.inl rfl, h⟩)
theorem inx11 {A : Nat → Nat → Nat} {i : Nat} (h : i < A 481 0) : InX A 11 i := Or.inr (Or.inl ⟨Or.inr rfl, h⟩)
theorem inx8 {A : Nat → Nat → Nat} {i : Nat} (h : i < A 482 0) : InX A 8 i := Or.inr (Or.inr (Or.inl ⟨Or.inl rfl, h⟩))
theorem inx12 {A : Nat → Nat → Nat} {i : Nat} (h : i < A 482 0) : InX A 12 i := Or.inr (Or.inr (Or.inl ⟨Or.inr rfl, h⟩))
theorem inx9 {A : Nat → Nat → Nat} {i : Nat} (h : i < 2 * A 482 0) : InX A 9 i := Or.inr (Or.inr (Or.inr (Or.inl ⟨rfl, h⟩)))
theorem inx10 {A : Nat → Nat → Nat} {i : Nat} (h : i < A 483 0) : InX A 10 i := Or.inr (Or.inr (Or.inr (Or.inr (Or.inl ⟨Or.inl rfl, h⟩))))
theorem inx13 {A : Nat → Nat → Nat} {i : Nat} (h : i < A 483 0) : InX A 13 i := Or.inr (Or.inr (Or.inr (Or.inr (Or.inl ⟨Or.inr (Or.inl rfl), h⟩))))
theorem inx14 {A : Nat → Nat → Nat} {i : Nat} (h : i < A 483 0) : InX A 14 i := Or.inr (Or.inr (Or.inr (Or.inr (Or.inl ⟨Or.inr (Or.inr rfl), h⟩))))
theorem inx15 {A : Nat → Nat → Nat} {c i : Nat} (hc : c < A 483 0) (h : i < A 504 c) : InX A 15 (6 * c + i) := Or.inr (Or.inr (Or.inr (Or.inr (Or.inr ⟨rfl, c, i, hc, h, rfl⟩))))
theorem XO.inj {P : Pic} {g : Nat → Nat → Nat} {ow : Nat → Nat × Nat} {A : Nat → Nat → Nat} (h : XO P g ow A) {t i j : Nat} (hi : InX A t i) (hj : InX A t j) (e : g t i = g t j) : i = j := by
  have h1 := (h t i hi).2
  rw [e, (h t j hj).2] at h1
  exact (congrArg Prod.snd h1).symm
theorem xm_of {P P' : Pic} {S : Nat → Prop} {f : Nat} (t : TX P P' S (fun y => y == f)) (hf : f < 480) : XM P P' := t.xm (fun y h1 _ => by show (y == f) = false; rw [beq_eq_false_iff_ne]; omega) (by show (1000 == f) = false; rw [beq_eq_false_iff_ne]; omega)
theorem xo_source {P : Pic} {x : Nat} {g : Nat → Nat → Nat} {ow : Nat → Nat × Nat} {fl : Nat} {A : Nat → Nat → Nat} {B : Nat → Nat → Int64} {po : Option Value → Pic → Prop} {th : String → Pic → Prop} {x1 y : Int32} {v : Nat} (h : RX P x g ow fl A B) (ok : OkN A) (hy : y = nI v) (hv : v ≤ 1)
    (h1 : (∀ j, j < A 481 0 → x1 ≠ nI j) → th "java/lang/IndexOutOfBoundsException" P)
    (h0 : ∀ j, j < A 481 0 → x1 = nI j → ∀ P', XM P P' → RX P' x g ow fl (up2 A 484 j v) B → po (some (.int (nI (A 484 j)))) P') : wp_Wa_source po th P x x1 y := by
  obtain ⟨hw, xa, xg, xn, xd, xe, ⟨pl, xp⟩, xf, xc, xr, xb, xt, xo⟩ := id h
  refine ⟨xa.1, xo_nodeAt h ok.1 h1 (fun j hj hx => ⟨_, rfl, (xn.2 j hj).1, ?_⟩)⟩
  intro z hz
  rw [(xn.2 j hj).2.1] at hz
  subst hz; subst hy
  have t : TX P (s_i P 282 (g 7 j) (nI v)) (fun _ => False) (fun y => y == 282) := tx_i P 282 (by decide) _ _ _ rfl
  have hw' : Wf (s_i P 282 (g 7 j) (nI v)) := wf_i hw _ _ _
  have eA : ∀ f, f ∉ [484] → (up2 A 484 j v) f = A f := fun f hf => up2_fn A v (fun z => hf (by rw [z]; decide))
  have eB : ∀ f, f ∉ [0] → B f = B f := fun f hf => rfl
  refine ⟨b01 hv, b01 (ok.2.2.2.2.2 j).1, h0 j hj hx _ (xm_of t (by decide)) ⟨hw', (xa.tx hw t rfl).cA (eA _ (by decide)), xg.tx hw t, ?_, (xd.tx hw t (fun z => z) (fun _ _ z => z)).cA (eA _ (by decide)), (xe.tx hw t ⟨rfl, rfl, rfl, rfl⟩ (fun z => z)).cA (eA _ (by decide)) (eA _ (by decide)) (eA _ (by decide)) (eA _ (by decide)) (eA _ (by decide)), ⟨pl, (xp.tx xe hw t rfl).cA (eA _ (by decide))⟩, (xf.tx xg xn xd hw t ⟨rfl, rfl⟩).cA (eA _ (by decide)) (eA _ (by decide)), (xc.tx hw t rfl (fun z => z)).cA (eA _ (by decide)) (eA _ (by decide)) (eB _ (by decide)), (xr.tx hw t ⟨rfl, rfl, rfl, rfl⟩ (fun _ _ z => z)).cA (eA _ (by decide)) (eA _ (by decide)) (eA _ (by decide)) (eA _ (by decide)) (eA _ (by decide)) (eA _ (by decide)), (xb.tx hw t ⟨rfl, rfl, rfl⟩ (fun _ _ z => z)).cA (eA _ (by decide)) (eA _ (by decide)) (eA _ (by decide)) (eA _ (by decide)) (eB _ (by decide)), (xt.tx hw t ⟨rfl, rfl⟩ (fun z => z)).cA (eA _ (by decide)) (eA _ (by decide)) (eB _ (by decide)), (xo.tx t).cA (eA _ (by decide)) (eA _ (by decide)) (eA _ (by decide)) (eA _ (by decide))⟩⟩
  refine ⟨by rw [eA 481 (by decide)]; exact t.2.2 _ _ _ _ (fun z => z) xn.1, fun i hi => ?_⟩
  rw [eA 481 (by decide)] at hi
  obtain ⟨a1, a2, a3, a4⟩ := xn.2 i hi
  refine ⟨a1, ?_, a3, ?_⟩
  · rw [gpi_i]
    by_cases e : i = j
    · rw [if_pos ⟨rfl, by rw [e]⟩, e, up2_eq]
    · rw [if_neg (fun z => e (xo.inj (inx7 hi) (inx7 hj) z.2)), up2_ne _ _ (Or.inr e)]; exact a2
  · unfold inc; rw [eA 482 (by decide), eA 485 (by decide)]; exact t.2.2 _ _ _ _ (fun z => z) a4
theorem xo_turn {P : Pic} {x : Nat} {g : Nat → Nat → Nat} {ow : Nat → Nat × Nat} {fl : Nat} {A : Nat → Nat → Nat} {B : Nat → Nat → Int64} {po : Option Value → Pic → Prop} {th : String → Pic → Prop} {x1 x2 y : Int32} {v : Nat} (h : RX P x g ow fl A B) (ok : OkN A) (hy : y = nI v) (hv : v ≤ 1)
    (h1 : (∀ j k, j < A 482 0 → k < 2 → ¬ (x1 = nI j ∧ x2 = nI k)) → th "java/lang/IndexOutOfBoundsException" P)
    (h2 : ∀ j k, j < A 482 0 → k < 2 → x1 = nI j → x2 = nI k → A 486 (2 * j + k) = 0 → th "java/util/NoSuchElementException" P)
    (h3 : ∀ j k, j < A 482 0 → k < 2 → x1 = nI j → x2 = nI k → A 486 (2 * j + k) ≠ 0 → A 488 (2 * j + k) ≠ 0 → th "java/lang/IllegalStateException" P)
    (h0 : ∀ j k, j < A 482 0 → k < 2 → x1 = nI j → x2 = nI k → A 486 (2 * j + k) ≠ 0 → A 488 (2 * j + k) = 0 → ∀ P', XM P P' → RX P' x g ow fl (up2 A 487 (2 * j + k) v) B → po (some (.int (if A 487 (2 * j + k) = v then 0 else 1))) P') : wp_Wa_turn po th P x x1 x2 y := by
  obtain ⟨hw, xa, xg, xn, xd, xe, ⟨pl, xp⟩, xf, xc, xr, xb, xt, xo⟩ := id h
  refine ⟨xa.1, xo_valveAt h ok h1 h2 (fun j k hj hk hx hx2 hva => ⟨_, rfl, (xe.2 _ (by omega)).1, ?_⟩)⟩
  have hV : 2 * j + k < 2 * A 482 0 := by omega
  obtain ⟨c1, c2, c3, c4, c5, c6, c7⟩ := xe.2 _ hV
  have hbb := ok.2.2.2.2.2 (2 * j + k)
  rw [c7, b0 hbb.2.2.2]
  refine ⟨fun e => ⟨fun z => absurd rfl z, fun _ => h3 j k hj hk hx hx2 hva e⟩, fun e => ⟨fun _ => ⟨rfl, c1, ?_⟩, fun z => absurd z (by decide)⟩⟩
  intro z hz
  rw [c6] at hz
  subst hz; subst hy
  have t : TX P (s_i P 164 (g 9 (2 * j + k)) (nI v)) (fun _ => False) (fun y => y == 164) := tx_i P 164 (by decide) _ _ _ rfl
  have hw' : Wf (s_i P 164 (g 9 (2 * j + k)) (nI v)) := wf_i hw _ _ _
  have eA : ∀ f, f ∉ [487] → (up2 A 487 (2 * j + k) v) f = A f := fun f hf => up2_fn A v (fun z => hf (by rw [z]; decide))
  have eB : ∀ f, f ∉ [0] → B f = B f := fun f hf => rfl
  have fin := h0 j k hj hk hx hx2 hva e _ (xm_of t (by decide)) ⟨hw', (xa.tx hw t rfl).cA (eA _ (by decide)), xg.tx hw t, (xn.tx hw t rfl (fun z => z) (fun _ _ z => z)).cA (eA _ (by decide)) (eA _ (by decide)) (eA _ (by decide)) (eA _ (by decide)), (xd.tx hw t (fun z => z) (fun _ _ z => z)).cA (eA _ (by decide)), (by
    refine ⟨by rw [eA 482 (by decide)]; exact t.2.2 _ _ _ _ (fun z => z) xe.1, fun i hi => ?_⟩
    rw [eA 482 (by decide)] at hi
    obtain ⟨a1, a2, a3, a4, a5, a6, a7⟩ := xe.2 i hi
    refine ⟨a1, a2, by rw [eA 485 (by decide)]; exact a3, t.i (hw.lt a1) rfl a4, by rw [eA 486 (by decide)]; exact t.i (hw.lt a1) rfl a5, ?_, by rw [eA 488 (by decide)]; exact t.i (hw.lt a1) rfl a7⟩
    rw [gpi_i]
    by_cases e : i = 2 * j + k
    · rw [if_pos ⟨rfl, by rw [e]⟩, e, up2_eq]
    · rw [if_neg (fun z => e (xo.inj (inx9 hi) (inx9 hV) z.2)), up2_ne _ _ (Or.inr e)]; exact a6), ⟨pl, (xp.tx xe hw t rfl).cA (eA _ (by decide))⟩, (xf.tx xg xn xd hw t ⟨rfl, rfl⟩).cA (eA _ (by decide)) (eA _ (by decide)), (xc.tx hw t rfl (fun z => z)).cA (eA _ (by decide)) (eA _ (by decide)) (eB _ (by decide)), (xr.tx hw t ⟨rfl, rfl, rfl, rfl⟩ (fun _ _ z => z)).cA (eA _ (by decide)) (eA _ (by decide)) (eA _ (by decide)) (eA _ (by decide)) (eA _ (by decide)) (eA _ (by decide)), (xb.tx hw t ⟨rfl, rfl, rfl⟩ (fun _ _ z => z)).cA (eA _ (by decide)) (eA _ (by decide)) (eA _ (by decide)) (eA _ (by decide)) (eB _ (by decide)), (xt.tx hw t ⟨rfl, rfl⟩ (fun z => z)).cA (eA _ (by decide)) (eA _ (by decide)) (eB _ (by decide)), (xo.tx t).cA (eA _ (by decide)) (eA _ (by decide)) (eA _ (by decide)) (eA _ (by decide))⟩
  refine ⟨b01 hv, fun e3 => ?_, fun e3 => ?_⟩
  · rw [if_pos ((nI_eq (by omega) (by omega)).mp e3)] at fin; exact fin
  · rw [if_neg (fun z => e3 (by rw [z]))] at fin; exact fin
theorem xo_stick {P : Pic} {x : Nat} {g : Nat → Nat → Nat} {ow : Nat → Nat × Nat} {fl : Nat} {A : Nat → Nat → Nat} {B : Nat → Nat → Int64} {po : Option Value → Pic → Prop} {th : String → Pic → Prop} {x1 x2 y : Int32} {v : Nat} (h : RX P x g ow fl A B) (ok : OkN A) (hy : y = nI v) (hv : v ≤ 1)
    (h1 : (∀ j k, j < A 482 0 → k < 2 → ¬ (x1 = nI j ∧ x2 = nI k)) → th "java/lang/IndexOutOfBoundsException" P)
    (h2 : ∀ j k, j < A 482 0 → k < 2 → x1 = nI j → x2 = nI k → A 486 (2 * j + k) = 0 → th "java/util/NoSuchElementException" P)
    (h0 : ∀ j k, j < A 482 0 → k < 2 → x1 = nI j → x2 = nI k → A 486 (2 * j + k) ≠ 0 → ∀ P', XM P P' → RX P' x g ow fl (up2 A 488 (2 * j + k) v) B → po (some (.int (if A 488 (2 * j + k) = v then 0 else 1))) P') : wp_Wa_stick po th P x x1 x2 y := by
  obtain ⟨hw, xa, xg, xn, xd, xe, ⟨pl, xp⟩, xf, xc, xr, xb, xt, xo⟩ := id h
  refine ⟨xa.1, xo_valveAt h ok h1 h2 (fun j k hj hk hx hx2 hva => ⟨_, rfl, (xe.2 _ (by omega)).1, ?_⟩)⟩
  have hV : 2 * j + k < 2 * A 482 0 := by omega
  obtain ⟨c1, c2, c3, c4, c5, c6, c7⟩ := xe.2 _ hV
  have hbb := ok.2.2.2.2.2 (2 * j + k)
  intro z hz
  rw [c7] at hz
  subst hz; subst hy
  have t : TX P (s_i P 165 (g 9 (2 * j + k)) (nI v)) (fun _ => False) (fun y => y == 165) := tx_i P 165 (by decide) _ _ _ rfl
  have hw' : Wf (s_i P 165 (g 9 (2 * j + k)) (nI v)) := wf_i hw _ _ _
  have eA : ∀ f, f ∉ [488] → (up2 A 488 (2 * j + k) v) f = A f := fun f hf => up2_fn A v (fun z => hf (by rw [z]; decide))
  have eB : ∀ f, f ∉ [0] → B f = B f := fun f hf => rfl
  have fin := h0 j k hj hk hx hx2 hva _ (xm_of t (by decide)) ⟨hw', (xa.tx hw t rfl).cA (eA _ (by decide)), xg.tx hw t, (xn.tx hw t rfl (fun z => z) (fun _ _ z => z)).cA (eA _ (by decide)) (eA _ (by decide)) (eA _ (by decide)) (eA _ (by decide)), (xd.tx hw t (fun z => z) (fun _ _ z => z)).cA (eA _ (by decide)), (by
    refine ⟨by rw [eA 482 (by decide)]; exact t.2.2 _ _ _ _ (fun z => z) xe.1, fun i hi => ?_⟩
    rw [eA 482 (by decide)] at hi
    obtain ⟨a1, a2, a3, a4, a5, a6, a7⟩ := xe.2 i hi
    refine ⟨a1, a2, by rw [eA 485 (by decide)]; exact a3, t.i (hw.lt a1) rfl a4, by rw [eA 486 (by decide)]; exact t.i (hw.lt a1) rfl a5, by rw [eA 487 (by decide)]; exact t.i (hw.lt a1) rfl a6, ?_⟩
    rw [gpi_i]
    by_cases e : i = 2 * j + k
    · rw [if_pos ⟨rfl, by rw [e]⟩, e, up2_eq]
    · rw [if_neg (fun z => e (xo.inj (inx9 hi) (inx9 hV) z.2)), up2_ne _ _ (Or.inr e)]; exact a7), ⟨pl, (xp.tx xe hw t rfl).cA (eA _ (by decide))⟩, (xf.tx xg xn xd hw t ⟨rfl, rfl⟩).cA (eA _ (by decide)) (eA _ (by decide)), (xc.tx hw t rfl (fun z => z)).cA (eA _ (by decide)) (eA _ (by decide)) (eB _ (by decide)), (xr.tx hw t ⟨rfl, rfl, rfl, rfl⟩ (fun _ _ z => z)).cA (eA _ (by decide)) (eA _ (by decide)) (eA _ (by decide)) (eA _ (by decide)) (eA _ (by decide)) (eA _ (by decide)), (xb.tx hw t ⟨rfl, rfl, rfl⟩ (fun _ _ z => z)).cA (eA _ (by decide)) (eA _ (by decide)) (eA _ (by decide)) (eA _ (by decide)) (eB _ (by decide)), (xt.tx hw t ⟨rfl, rfl⟩ (fun z => z)).cA (eA _ (by decide)) (eA _ (by decide)) (eB _ (by decide)), (xo.tx t).cA (eA _ (by decide)) (eA _ (by decide)) (eA _ (by decide)) (eA _ (by decide))⟩
  refine ⟨b01 hv, fun e3 => ?_, fun e3 => ?_⟩
  · rw [if_pos ((nI_eq (by omega) (by omega)).mp e3)] at fin; exact fin
  · rw [if_neg (fun z => e3 (by rw [z]))] at fin; exact fin
theorem xo_pass {P : Pic} {x : Nat} {g : Nat → Nat → Nat} {ow : Nat → Nat × Nat} {fl : Nat} {A : Nat → Nat → Nat} {B : Nat → Nat → Int64} {po : Option Value → Pic → Prop} {th : String → Pic → Prop} {x1 : Int32} (h : RX P x g ow fl A B) (hb : A 495 0 ≤ 400)
    (h0 : ∀ d, 1 ≤ d → A 495 0 + d ≤ 400 → x1 = nI d → ∀ P', XM P P' → RX P' x g ow fl (up2 A 495 0 (A 495 0 + d)) B → po (some (.int (nI (A 495 0 + d)))) P')
    (h1 : (∀ d, 1 ≤ d → A 495 0 + d ≤ 400 → x1 ≠ nI d) → th "java/lang/IllegalArgumentException" P) : wp_Wa_pass po th P x x1 := by
  obtain ⟨hw, xa, xg, xn, xd, xe, ⟨pl, xp⟩, xf, xc, xr, xb, xt, xo⟩ := id h
  have bad : (∀ d, 1 ≤ d → A 495 0 + d ≤ 400 → x1 ≠ nI d) → wb_Wa_pass_21 po th P x x1 := fun e => ⟨fun z => absurd rfl z, fun _ => h1 e⟩
  have e4 : (400 : Int32) - nI (A 495 0) = nI (400 - A 495 0) := pk_sub (a := 400) hb
  refine ⟨fun e => bad (fun d d1 d2 hx => ?_), fun e => ⟨xa.1, ?_⟩⟩
  · rw [hx] at e; exact nI_nlt (b := 1) d1 (by omega) e
  · rw [xa.2.2.2.2, e4]
    refine ⟨fun e2 => bad (fun d d1 d2 hx => ?_), fun e2 => ?_⟩
    · rw [hx] at e2; exact nI_nlt (by omega) (by omega) e2
    · have e0 : ¬ x1 < 0 := by rw [Int32.lt_iff_toInt_lt] at e ⊢; have : (1 : Int32).toInt = 1 := rfl; have : (0 : Int32).toInt = 0 := rfl; omega
      obtain ⟨d, hd, hx⟩ := nI_of e0
      subst hx
      have d1 : 1 ≤ d := by
        rcases Nat.lt_or_ge d 1 with z | z
        · exact absurd (nI_lt (b := 1) z (by omega)) e
        · exact z
      have d2 : d ≤ 400 - A 495 0 := by
        rcases Nat.lt_or_ge (400 - A 495 0) d with z | z
        · exact absurd (nI_lt z (by omega)) e2
        · exact z
      refine ⟨fun _ => ⟨rfl, xa.1, ?_⟩, fun z => absurd z (by decide)⟩
      rw [xa.2.2.2.2, nI_add, gpi_i, if_pos ⟨rfl, rfl⟩]
      have t : TX P (s_i P 3 x (nI (A 495 0 + d))) (fun _ => False) (fun y => y == 3) := tx_i P 3 (by decide) _ _ _ rfl
      have hw' : Wf (s_i P 3 x (nI (A 495 0 + d))) := wf_i hw _ _ _
      have eA : ∀ f, f ∉ [495] → (up2 A 495 0 (A 495 0 + d)) f = A f := fun f hf => up2_fn A _ (fun z => hf (by rw [z]; decide))
      have eB : ∀ f, f ∉ [0] → B f = B f := fun f hf => rfl
      refine h0 d d1 (by omega) rfl _ (xm_of t (by decide)) ⟨hw', ?_, xg.tx hw t, (xn.tx hw t rfl (fun z => z) (fun _ _ z => z)).cA (eA _ (by decide)) (eA _ (by decide)) (eA _ (by decide)) (eA _ (by decide)), (xd.tx hw t (fun z => z) (fun _ _ z => z)).cA (eA _ (by decide)), (xe.tx hw t ⟨rfl, rfl, rfl, rfl⟩ (fun z => z)).cA (eA _ (by decide)) (eA _ (by decide)) (eA _ (by decide)) (eA _ (by decide)) (eA _ (by decide)), ⟨pl, (xp.tx xe hw t rfl).cA (eA _ (by decide))⟩, (xf.tx xg xn xd hw t ⟨rfl, rfl⟩).cA (eA _ (by decide)) (eA _ (by decide)), (xc.tx hw t rfl (fun z => z)).cA (eA _ (by decide)) (eA _ (by decide)) (eB _ (by decide)), (xr.tx hw t ⟨rfl, rfl, rfl, rfl⟩ (fun _ _ z => z)).cA (eA _ (by decide)) (eA _ (by decide)) (eA _ (by decide)) (eA _ (by decide)) (eA _ (by decide)) (eA _ (by decide)), (xb.tx hw t ⟨rfl, rfl, rfl⟩ (fun _ _ z => z)).cA (eA _ (by decide)) (eA _ (by decide)) (eA _ (by decide)) (eA _ (by decide)) (eB _ (by decide)), (xt.tx hw t ⟨rfl, rfl⟩ (fun z => z)).cA (eA _ (by decide)) (eA _ (by decide)) (eB _ (by decide)), (xo.tx t).cA (eA _ (by decide)) (eA _ (by decide)) (eA _ (by decide)) (eA _ (by decide))⟩
      refine ⟨xa.1, xa.2.1, xa.2.2.1, xa.2.2.2.1, ?_⟩
      rw [gpi_i, if_pos ⟨rfl, rfl⟩, up2_eq]
