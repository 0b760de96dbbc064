/-! readings -/
theorem xo_size {P : Pic} {po : Option Value → Pic → Prop} {th : String → Pic → Prop} {d : Nat} (hd : d ≤ 4) (hp : po (some (.int (nI (10 ^ d)))) P) : wp_Wa_size po th P (nI d) := by
  have key : ∀ j k, k + j = d → wl_Wa_size_4 po th (j + 1) P (nI d) (nI (10 ^ k)) (nI k) := by
    intro j
    induction j with
    | zero =>
      intro k hk
      have : k = d := hk
      subst this
      exact ⟨fun _ => hp, fun e => absurd (nI_le (Nat.le_refl k) (by omega)) e⟩
    | succ j ih =>
      intro k hk
      refine ⟨fun e => absurd e (nI_ge (by omega) (by omega)), fun _ => ?_⟩
      intro z hz y hy
      have e1 : z = nI (10 ^ (k + 1)) := by rw [hz]; show nI (10 ^ k) * nI 10 = _; rw [pk_mul, Nat.pow_succ]
      have e2 : y = nI (k + 1) := by rw [hy, ← nI_succ]
      rw [e1, e2]
      exact ih (k + 1) (by omega)
  exact ⟨d + 1, key d 0 (by omega)⟩
theorem xo_needShown {P : Pic} {po : Option Value → Pic → Prop} {th : String → Pic → Prop} {x0 x1 : Int32} (h1 : (∀ d w, 1 ≤ d → d ≤ 4 → w < 10 ^ d → ¬ (x0 = nI d ∧ x1 = nI w)) → th "java/lang/IllegalArgumentException" P) (h0 : ∀ d w, 1 ≤ d → d ≤ 4 → w < 10 ^ d → x0 = nI d → x1 = nI w → po none P) : wp_Wa_needShown po th P x0 x1 := by
  have bad : (∀ d w, 1 ≤ d → d ≤ 4 → w < 10 ^ d → ¬ (x0 = nI d ∧ x1 = nI w)) → wb_Wa_needShown_26 po th P := fun e => ⟨fun z => absurd rfl z, fun _ => h1 e⟩
  refine ⟨fun e => bad (fun d w d1 d2 hw z => ?_), fun e => ⟨fun e2 => bad (fun d w d1 d2 hw z => ?_), fun e2 => ⟨fun e3 => bad (fun d w d1 d2 hw z => ?_), fun e3 => ?_⟩⟩⟩
  · rw [z.1] at e; exact nI_nlt (b := 1) d1 (by omega) e
  · rw [z.1] at e2; exact nI_nlt (a := 4) d2 (by omega) e2
  · have := p10 d1 d2; rw [z.2] at e3; exact nI_pos (by omega) e3
  · have e0 : ¬ x0 < 0 := by rw [Int32.lt_iff_toInt_lt] at e ⊢; have : (1 : Int32).toInt = 1 := rfl; have : (0 : Int32).toInt = 0 := rfl; omega
    obtain ⟨d, hd, hx⟩ := nI_of e0
    obtain ⟨w, hw, hx1⟩ := nI_of e3
    have d1 : 1 ≤ d := by
      rcases Nat.lt_or_ge d 1 with z | z
      · exact absurd (by rw [hx]; exact nI_lt (b := 1) z (by omega)) e
      · exact z
    have d2 : d ≤ 4 := by
      rcases Nat.lt_or_ge 4 d with z | z
      · exact absurd (by rw [hx]; exact nI_lt (a := 4) z (by omega)) e2
      · exact z
    have := p10 d1 d2
    rw [hx]
    refine xo_size d2 ⟨_, rfl, fun e4 => ?_, fun e4 => ?_⟩
    · refine bad (fun d' w' a1 a2 a3 z => ?_)
      have ed : d = d' := (nI_eq (by omega) (by omega)).mp (hx.symm.trans z.1)
      subst ed
      rw [z.2] at e4
      exact nI_ge a3 (by omega) e4
    · refine ⟨fun _ => ⟨rfl, h0 d w d1 d2 ?_ hx hx1⟩, fun z => absurd z (by decide)⟩
      rcases Nat.lt_or_ge w (10 ^ d) with z | z
      · exact z
      · exact absurd (by rw [hx1]; exact nI_le z hw) e4
theorem xo_last {P : Pic} {x : Nat} {g : Nat → Nat → Nat} {ow : Nat → Nat × Nat} {fl : Nat} {A : Nat → Nat → Nat} {B : Nat → Nat → Int64} {po : Option Value → Pic → Prop} {th : String → Pic → Prop} {c : Nat} (h : RX P x g ow fl A B) (hc : c < A 483 0) (hn : A 496 c ≤ 24) (h1 : A 496 c = 0 → po (some (va_rf none)) P) (h0 : 0 < A 496 c → po (some (.ref (g 16 (24 * c + (A 496 c - 1))))) P) : wp_Cu_last po th P (g 10 c) := by
  obtain ⟨hw, xa, xg, xn, xd, xe, ⟨pl, xp⟩, xf, xc, xr, xb, xt, xo⟩ := id h
  obtain ⟨c1, c2, c3, c4, c5⟩ := xc.2 c hc
  obtain ⟨r1, r2⟩ := xr c hc
  refine ⟨c1, _, c3, r1.1, ls_isEmpty r1 ⟨_, rfl, fun e => ?_, fun e => ?_⟩⟩
  · have hn0 : 0 < A 496 c := by
      rcases Nat.eq_zero_or_pos (A 496 c) with q | q
      · rw [if_pos (by rw [q]; rfl)] at e; exact absurd e (by decide)
      · exact q
    refine ⟨_, c3, _, c3, r1.1, ls_size' r1 ⟨_, rfl, r1.1, ?_⟩⟩
    have e1 : nI (A 496 c) - 1 = nI (A 496 c - 1) := pk_sub (b := 1) hn0
    rw [e1]
    exact ls_get' r1 (by omega) (fun hk => ⟨_, rfl, hk, h0 hn0⟩)
  · refine h1 ?_
    rcases Nat.eq_zero_or_pos (A 496 c) with q | q
    · exact q
    · rw [if_neg (fun z => by have := congrArg List.length z; rw [rg_len] at this; have : A 496 c = 0 := this; omega)] at e
      exact absurd rfl e
theorem xo_note {P : Pic} {x : Nat} {g : Nat → Nat → Nat} {ow : Nat → Nat × Nat} {fl : Nat} {A : Nat → Nat → Nat} {B : Nat → Nat → Int64} {po : Option Value → Pic → Prop} {th : String → Pic → Prop} {c d w f q : Nat} {x0 xd xw xf : Int32} (h : RX P x g ow fl A B) (ok : Ok A B) (hc : c < A 483 0) (hn : A 496 c < 24) (hq : p_z P ≤ q) (h00 : x0 = nI (A 495 0)) (hd : xd = nI d) (d1 : 1 ≤ d) (d4 : d ≤ 4) (hxw : xw = nI w) (hf : xf = nI f) (hf1 : f ≤ 1)
    (fin : ∀ P' g', XM P P' → RX P' x g' ow fl (up2 (up2 (up2 (up2 (up2 A 497 (24 * c + A 496 c) (A 495 0)) 498 (24 * c + A 496 c) w) 499 (24 * c + A 496 c) (10 ^ d)) 500 (24 * c + A 496 c) f) 496 c (A 496 c + 1)) B → po (some (.int (nI (A 496 c + 1)))) P') :
    wp_Re_init (cp_v fun P1 => p_k P1 (g 13 c) = 14 ∧ wp_Ar_add (cp_i fun _ P2 => p_k P2 (g 10 c) = 4 ∧ ∃ a1, p_r P2 121 (g 10 c) = some a1 ∧ p_k P2 a1 = 14 ∧ wp_Ar_size (cp_i fun z _ => po (some (.int z)) P2) th P2 a1) th P1 (g 13 c) q) th (s_new P q 9) q x0 xw xd xf := by
  subst h00; subst hd; subst hxw; subst hf
  obtain ⟨hw, xa, xg, xn, xd, xe, ⟨pl, xp⟩, xf, xc, xr, xb, xt, xo⟩ := id h
  obtain ⟨c1, c2, c3, c4, c5⟩ := xc.2 c hc
  have hcb := ok.2.1.1
  refine ⟨rfl, by rw [gpk_new, if_pos rfl], b01 hf1, ?_⟩
  have t1 : Tr P (s_new P q 9) (fun _ => False) := tr_new hw hq 9 _
  have t2 := tr_inew (f := 363) (tr_inew (f := 362) (tr_inew (f := 361) (tr_inew (f := 360) t1 hq (by decide) (nI (A 495 0))) hq (by decide) (nI w)) hq (by decide) (nI d)) hq (by decide) (nI f)
  have hw2 : Wf (s_i (s_i (s_i (s_i (s_new P q 9) 360 q (nI (A 495 0))) 361 q (nI w)) 362 q (nI d)) 363 q (nI f)) := wf_i (wf_i (wf_i (wf_i (wf_new hw hq 9) _ _ _) _ _ _) _ _ _) _ _ _
  have k2 : p_k (s_i (s_i (s_i (s_i (s_new P q 9) 360 q (nI (A 495 0))) 361 q (nI w)) 362 q (nI d)) 363 q (nI f)) q = 10 := by
    show p_k (s_new P q 9) q = 10; rw [gpk_new, if_pos rfl]
  have i60 : p_i (s_i (s_i (s_i (s_i (s_new P q 9) 360 q (nI (A 495 0))) 361 q (nI w)) 362 q (nI d)) 363 q (nI f)) 360 q = nI (A 495 0) := by rw [gpi_i, if_neg (by omega), gpi_i, if_neg (by omega), gpi_i, if_neg (by omega), gpi_i, if_pos ⟨rfl, rfl⟩]
  have i61 : p_i (s_i (s_i (s_i (s_i (s_new P q 9) 360 q (nI (A 495 0))) 361 q (nI w)) 362 q (nI d)) 363 q (nI f)) 361 q = nI w := by rw [gpi_i, if_neg (by omega), gpi_i, if_neg (by omega), gpi_i, if_pos ⟨rfl, rfl⟩]
  have i62 : p_i (s_i (s_i (s_i (s_i (s_new P q 9) 360 q (nI (A 495 0))) 361 q (nI w)) 362 q (nI d)) 363 q (nI f)) 362 q = nI d := by rw [gpi_i, if_neg (by omega), gpi_i, if_pos ⟨rfl, rfl⟩]
  have i63 : p_i (s_i (s_i (s_i (s_i (s_new P q 9) 360 q (nI (A 495 0))) 361 q (nI w)) 362 q (nI d)) 363 q (nI f)) 363 q = nI f := by rw [gpi_i, if_pos ⟨rfl, rfl⟩]
  have qz : q < p_z (s_i (s_i (s_i (s_i (s_new P q 9) 360 q (nI (A 495 0))) 361 q (nI w)) 362 q (nI d)) 363 q (nI f)) := Nat.lt_succ_self q
  generalize s_i (s_i (s_i (s_i (s_new P q 9) 360 q (nI (A 495 0))) 361 q (nI w)) 362 q (nI d)) 363 q (nI f) = P2 at *
  have r2 := t2.2.2.2 _ _ _ _ (fun z => z) (xr c hc).1
  refine ⟨rfl, r2.1, ls_add hw2 r2 (Or.inr (by rw [rg_len]; exact hn)) k2 (fun P' t3 hw' hl => ⟨_, rfl, ?_⟩)⟩
  have t : TX P P' (fun M => M = g 13 c) (fun _ => false) := (t2.trans t3 (T := fun M => M = g 13 c) (fun _ z => z.elim) (fun _ z => z)).tx _
  have nS : ∀ t i, InX A t i → ¬ (t = 13 ∧ i = c) → ¬ (g t i = g 13 c) := xo.ns (inx13 hc)
  generalize hr : 24 * c + A 496 c = r at *
  have ag : Ag A g (up2 g 16 r q) := (Ag.rfl' A g).up q (by
    unfold InY InX
    intro z
    rcases z with z | z | ⟨_, c', j', z1, z2, z3⟩ | z
    · omega
    · omega
    · have := (ok.2.2.1 c' z1).1
      have : c' = c := by omega
      subst this
      omega
    · omega)
  have e16 : ∀ i, i < A 496 c → up2 g 16 r q 16 (24 * c + i) = g 16 (24 * c + i) := fun i hi => up2_ne _ _ (Or.inr (by omega))
  have hl' : Lst P' (g 13 c) 10 24 (rg (A 496 c + 1) (fun i => up2 g 16 r q 16 (24 * c + i))) := by
    rw [rg_succ, rg_congr (f := fun i => g 16 (24 * c + i)) e16, hr, up2_eq]; exact hl
  have hx := hw.lt c1
  refine ⟨t.k hw c1, _, t.r hx c3, hl.1, ls_size' hl' ⟨_, rfl, ?_⟩⟩
  generalize hA' : up2 (up2 (up2 (up2 (up2 A 497 r (A 495 0)) 498 r w) 499 r (10 ^ d)) 500 r f) 496 c (A 496 c + 1) = A' at fin
  have eA : ∀ f, f ∉ [496, 497, 498, 499, 500] → A' f = A f := fun f hf => by
    rw [← hA', up2_fn _ _ (fun z => hf (by rw [z]; decide)), up2_fn _ _ (fun z => hf (by rw [z]; decide)), up2_fn _ _ (fun z => hf (by rw [z]; decide)), up2_fn _ _ (fun z => hf (by rw [z]; decide)), up2_fn _ _ (fun z => hf (by rw [z]; decide))]
  have eB : ∀ f, f ∉ [0] → B f = B f := fun f hf => rfl
  have e6 : ∀ c', A' 496 c' = if c' = c then A 496 c + 1 else A 496 c' := fun c' => by
    rw [← hA']
    by_cases e : c' = c
    · rw [if_pos e, e, up2_eq]
    · rw [if_neg e, up2_ne _ _ (Or.inr e), up2_ne _ _ (Or.inl (by decide)), up2_ne _ _ (Or.inl (by decide)), up2_ne _ _ (Or.inl (by decide)), up2_ne _ _ (Or.inl (by decide))]
  have e7 : ∀ i, A' 497 i = if i = r then A 495 0 else A 497 i := fun i => by
    rw [← hA', up2_ne _ _ (Or.inl (by decide)), up2_ne _ _ (Or.inl (by decide)), up2_ne _ _ (Or.inl (by decide)), up2_ne _ _ (Or.inl (by decide))]
    by_cases e : i = r
    · rw [if_pos e, e, up2_eq]
    · rw [if_neg e, up2_ne _ _ (Or.inr e)]
  have e8 : ∀ i, A' 498 i = if i = r then w else A 498 i := fun i => by
    rw [← hA', up2_ne _ _ (Or.inl (by decide)), up2_ne _ _ (Or.inl (by decide)), up2_ne _ _ (Or.inl (by decide))]
    by_cases e : i = r
    · rw [if_pos e, e, up2_eq]
    · rw [if_neg e, up2_ne _ _ (Or.inr e), up2_ne _ _ (Or.inl (by decide))]
  have e9 : ∀ i, A' 499 i = if i = r then 10 ^ d else A 499 i := fun i => by
    rw [← hA', up2_ne _ _ (Or.inl (by decide)), up2_ne _ _ (Or.inl (by decide))]
    by_cases e : i = r
    · rw [if_pos e, e, up2_eq]
    · rw [if_neg e, up2_ne _ _ (Or.inr e), up2_ne _ _ (Or.inl (by decide)), up2_ne _ _ (Or.inl (by decide))]
  have e0 : ∀ i, A' 500 i = if i = r then f else A 500 i := fun i => by
    rw [← hA', up2_ne _ _ (Or.inl (by decide))]
    by_cases e : i = r
    · rw [if_pos e, e, up2_eq]
    · rw [if_neg e, up2_ne _ _ (Or.inr e), up2_ne _ _ (Or.inl (by decide)), up2_ne _ _ (Or.inl (by decide)), up2_ne _ _ (Or.inl (by decide))]
  refine fin P' (up2 g 16 r q) (t.xm (fun _ _ _ => rfl) rfl) ⟨hw', ((xa.tx hw t rfl).cG ag).cA (eA _ (by decide)), (xg.tx hw t).cG ag, ((xn.tx hw t rfl (nS 1 0 (inx0 (by decide)) (by omega)) (fun i hi => nS 11 i (inx11 hi) (by omega))).cG ag).cA (eA _ (by decide)) (eA _ (by decide)) (eA _ (by decide)) (eA _ (by decide)), ((xd.tx hw t (nS 2 0 (inx0 (by decide)) (by omega)) (fun i hi => nS 12 i (inx12 hi) (by omega))).cG ag).cA (eA _ (by decide)), ((xe.tx hw t ⟨rfl, rfl, rfl, rfl⟩ (nS 3 0 (inx0 (by decide)) (by omega))).cG ok.1 ag).cA (eA _ (by decide)) (eA _ (by decide)) (eA _ (by decide)) (eA _ (by decide)) (eA _ (by decide)), ⟨pl, ((xp.tx xe hw t rfl).cG ag).cA (eA _ (by decide))⟩, ((xf.tx xg xn xd hw t ⟨rfl, rfl⟩).cG ag).cA (eA _ (by decide)) (eA _ (by decide)), ((xc.tx hw t rfl (nS 4 0 (inx0 (by decide)) (by omega))).cG ok.2.1 ag).cA (eA _ (by decide)) (eA _ (by decide)) (eB _ (by decide)), ?_, ((xb.tx hw t ⟨rfl, rfl, rfl⟩ (fun i hi => nS 14 i (inx14 hi) (by omega))).cG ag).cA (eA _ (by decide)) (eA _ (by decide)) (eA _ (by decide)) (eA _ (by decide)) (eB _ (by decide)), ((xt.tx hw t ⟨rfl, rfl⟩ (nS 5 0 (inx0 (by decide)) (by omega))).cG ag).cA (eA _ (by decide)) (eA _ (by decide)) (eB _ (by decide)), ((xo.tx t).up ag (Nat.le_refl _)).cA (eA _ (by decide)) (eA _ (by decide)) (eA _ (by decide)) (eA _ (by decide))⟩
  unfold XR
  rw [eA 483 (by decide)]
  intro c' hc'
  have e13 : up2 g 16 r q 13 c' = g 13 c' := up2_ne _ _ (Or.inl (by decide))
  rw [e13, e6]
  by_cases e : c' = c
  · subst e
    rw [if_pos rfl]
    refine ⟨hl', fun i hi => ?_⟩
    rw [e7, e8, e9, e0]
    by_cases ei : i = A 496 c'
    · subst ei
      rw [hr, if_pos rfl, if_pos rfl, if_pos rfl, if_pos rfl, up2_eq]
      exact ⟨t3.k hw2 k2, t3.i qz i60, t3.i qz i61, ⟨d, t3.i qz i62, d1, d4, rfl⟩, t3.i qz i63⟩
    · have hi' : i < A 496 c' := by omega
      rw [if_neg (by omega), if_neg (by omega), if_neg (by omega), if_neg (by omega), e16 i hi']
      obtain ⟨a1, a2, a3, ⟨d', a4, d1', d2', d3'⟩, a5⟩ := (xr c' hc').2 i hi'
      have hx := hw.lt a1
      exact ⟨t.k hw a1, t.i hx rfl a2, t.i hx rfl a3, ⟨d', t.i hx rfl a4, d1', d2', d3'⟩, t.i hx rfl a5⟩
  · rw [if_neg e]
    have hr' := (ok.2.2.1 c' hc').1
    have ef : ∀ i, i < A 496 c' → up2 g 16 r q 16 (24 * c' + i) = g 16 (24 * c' + i) := fun i hi => up2_ne _ _ (Or.inr (by omega))
    rw [rg_congr (f := fun i => g 16 (24 * c' + i)) ef]
    refine ⟨t.2.2 _ _ _ _ (nS 13 c' (inx13 hc') (by omega)) (xr c' hc').1, fun i hi => ?_⟩
    rw [ef i hi, e7, e8, e9, e0, if_neg (by omega), if_neg (by omega), if_neg (by omega), if_neg (by omega)]
    obtain ⟨a1, a2, a3, ⟨d', a4, d1', d2', d3'⟩, a5⟩ := (xr c' hc').2 i hi
    have hx := hw.lt a1
    exact ⟨t.k hw a1, t.i hx rfl a2, t.i hx rfl a3, ⟨d', t.i hx rfl a4, d1', d2', d3'⟩, t.i hx rfl a5⟩
