/-! a new customer -/
theorem xo_cust {P : Pic} {po : Option Value → Pic → Prop} {th : String → Pic → Prop} {q a1 : Nat} (hw : Wf P) (hq : p_z P ≤ q)
    (hp : ∀ P' L L2, q < L → L < L2 → Tr P P' (fun _ => False) → Wf P' → p_k P' q = 4 → p_r P' 120 q = some a1 → p_r P' 121 q = some L → p_r P' 122 q = some L2 → p_l P' 123 q = 0 → Lst P' L 10 24 [] → Lst P' L2 3 6 [] → q < p_z P' → po none P') : wp_Cu_init po th (s_new P q 3) q a1 := by
  intro L hL
  have hL : q + 1 ≤ L := hL
  have hw1 : Wf (s_new P q 3) := wf_new hw hq 3
  have hw2 : Wf (s_new (s_new P q 3) L 13) := wf_new hw1 hL 13
  have t1 : Tr P (s_new P q 3) (fun M => M = L) := tr_new hw hq 3 _
  have t2 : Tr (s_new P q 3) (s_new (s_new P q 3) L 13) (fun M => M = L) := tr_new hw1 hL 13 _
  refine ls_init (k := 10) (w := 24) (n := 24) hw2 (by rw [gpk_new, if_pos rfl]) (by rw [gpi_new, if_pos rfl]) (by unfold Ob; omega) (by decide) (by decide) (by decide) ?_
  intro P2 b hb t3 hw3 hl hb2 hbn hbk hbz
  have kq : p_k (s_new (s_new P q 3) L 13) q = 4 := by rw [gpk_new, if_neg (by omega), gpk_new, if_pos rfl]
  have qz : q < p_z (s_new (s_new P q 3) L 13) := by show q < L + 1; omega
  have kq2 : p_k P2 q = 4 := t3.k hw2 kq
  have q2z : q < p_z P2 := Nat.lt_of_lt_of_le qz t3.1
  have L2z : L < p_z P2 := hw3.lt hl.1
  have l2 : p_l P2 123 q = 0 := t3.l qz (by rw [gpl_new, if_neg (by omega), gpl_new, if_pos rfl])
  have t4 : Tr P P2 (fun _ => False) := ((t1.trans t2 (fun _ z => z) (fun _ z => z)).trans t3 (T := fun M => M = L) (fun _ z => z) (fun _ z => z)).drop hw (fun M z => by rw [z]; omega) _
  refine ⟨rfl, kq2, ?_⟩
  intro L2 hL2
  have t5 : Tr P (s_r P2 121 q (some L)) (fun _ => False) := tr_rnew t4 hq (by decide) _
  have hw5 : Wf (s_r P2 121 q (some L)) := wf_r hw3 (by decide) _ _
  have hl5 : Lst (s_r P2 121 q (some L)) L 10 24 [] := by
    obtain ⟨h1, c, h2, h3, h4, h5, h6, h7, h8, h9⟩ := hl
    exact ⟨h1, c, by rw [gpr_r, if_neg (by omega)]; exact h2, h3, h4, h5, h6, h7, h8, h9⟩
  have r5 : p_r (s_r P2 121 q (some L)) 121 q = some L := by rw [gpr_r, if_pos ⟨rfl, rfl⟩]
  generalize hQ : s_r P2 121 q (some L) = Q at *
  have kq5 : p_k Q q = 4 := by rw [← hQ]; exact kq2
  have q5z : q < p_z Q := by rw [← hQ]; exact q2z
  have L5z : L < p_z Q := by rw [← hQ]; exact L2z
  have l5 : p_l Q 123 q = 0 := by rw [← hQ]; exact l2
  have hw6 : Wf (s_new Q L2 13) := wf_new hw5 hL2 13
  have t6 : Tr Q (s_new Q L2 13) (fun M => M = L2) := tr_new hw5 hL2 13 _
  refine ls_init (k := 3) (w := 6) (n := 6) hw6 (by rw [gpk_new, if_pos rfl]) (by rw [gpi_new, if_pos rfl]) (by unfold Ob; omega) (by decide) (by decide) (by decide) ?_
  intro P7 b7 hb7 t7 hw7 hl7 hb72 hbn7 hbk7 hbz7
  have t67 : Tr Q P7 (fun M => M = L2) := t6.trans t7 (fun _ z => z) (fun _ z => z)
  have kq7 : p_k P7 q = 4 := t67.k hw5 kq5
  have t8 : Tr P P7 (fun _ => False) := (t5.trans t67 (T := fun M => M = L2) (fun _ z => z.elim) (fun _ z => z)).drop hw (fun M z => by rw [z]; omega) _
  refine ⟨rfl, kq7, ?_⟩
  have hw9 : Wf (s_r (s_r P7 122 q (some L2)) 120 q (some a1)) := wf_r (wf_r hw7 (by decide) _ _) (by decide) _ _
  refine hp _ L L2 (by omega) (by omega) (tr_rnew (tr_rnew t8 hq (by decide) _) hq (by decide) _) hw9 kq7 (by rw [gpr_r, if_pos ⟨rfl, rfl⟩]) ?_ ?_ ?_ ?_ ?_ ?_
  · rw [gpr_r, if_neg (by omega), gpr_r, if_neg (by omega)]; exact t67.r q5z r5
  · rw [gpr_r, if_neg (by omega), gpr_r, if_pos ⟨rfl, rfl⟩]
  · exact t67.l q5z l5
  · obtain ⟨h1, c, h2, h3, h4, h5, h6, h7, h8, h9⟩ := t67.2.2.2 L 10 24 [] (by omega) hl5
    exact ⟨h1, c, by rw [gpr_r, if_neg (by omega), gpr_r, if_neg (by omega)]; exact h2, h3, h4, h5, h6, h7, h8, h9⟩
  · obtain ⟨h1, c, h2, h3, h4, h5, h6, h7, h8, h9⟩ := hl7
    exact ⟨h1, c, by rw [gpr_r, if_neg (by omega), gpr_r, if_neg (by omega)]; exact h2, h3, h4, h5, h6, h7, h8, h9⟩
  · exact Nat.lt_of_lt_of_le q5z t67.1
theorem xo_customer {P : Pic} {x : Nat} {g : Nat → Nat → Nat} {ow : Nat → Nat × Nat} {fl : Nat} {A : Nat → Nat → Nat} {B : Nat → Nat → Int64} {po : Option Value → Pic → Prop} {th : String → Pic → Prop} {x1 : Int32} (h : RX P x g ow fl A B) (ok : Ok A B)
    (h0 : ∀ j, j < A 481 0 → x1 = nI j → A 483 0 < 10 → ∀ P' g' ow', XM P P' → RX P' x g' ow' fl (up2 (up2 A 489 (A 483 0) j) 483 0 (A 483 0 + 1)) B → po (some (.int (nI (A 483 0)))) P')
    (h2 : ∀ j, j < A 481 0 → x1 = nI j → A 483 0 = 10 → th "java/lang/IllegalStateException" P)
    (h1 : (∀ j, j < A 481 0 → x1 ≠ nI j) → th "java/lang/IndexOutOfBoundsException" P) : wp_Wa_customer po th P x x1 := by
  obtain ⟨hw, xa, xg, xn, xd, xe, ⟨pl, xp⟩, xf, xc, xr, xb, xt, xo⟩ := id h
  have hb := ok.2.1.1
  refine ⟨xa.1, xo_nodeAt h ok.1.1 h1 (fun j hj hx => ⟨_, rfl, _, xa.2.2.1, xc.1.1, ls_size' xc.1 ⟨_, rfl, fun e => ?_, fun e => ?_⟩⟩)⟩
  · exact ⟨fun z => absurd rfl z, fun _ => h2 j hj hx (by have := (nI_leI (a := 10) (by omega) (by omega)).mp e; omega)⟩
  · have hlt : A 483 0 < 10 := by
      rcases Nat.lt_or_ge (A 483 0) 10 with z | z
      · exact z
      · exact absurd (nI_le (a := 10) z (by omega)) e
    refine ⟨fun _ => ⟨rfl, xa.1, _, xa.2.2.1, ?_⟩, fun z => absurd z (by decide)⟩
    intro q hq
    refine xo_cust hw hq (fun P2 L L2 hL hL2 t1 hw2 kq r0 r1 r2 l0 lq lq2 qz => ⟨rfl, t1.k hw xc.1.1, ?_⟩)
    have xc2 := t1.2.2.2 _ _ _ _ (fun z => z) xc.1
    refine ls_add hw2 xc2 (Or.inl (by rw [rg_len]; omega)) kq (fun P' t2 hw' hl => ⟨_, rfl, ?_⟩)
    have t : TX P P' (fun M => M = g 4 0) (fun _ => false) := (t1.trans t2 (T := fun M => M = g 4 0) (fun _ z => z.elim) (fun _ z => z)).tx _
    have g4z := (xo 4 0 (inx0 (by decide))).1
    have lq' : Lst P' L 10 24 [] := t2.2.2.2 _ _ _ _ (by omega) lq
    have lq2' : Lst P' L2 3 6 [] := t2.2.2.2 _ _ _ _ (by omega) lq2
    have a6 := ok.2.1.2.2.2 (A 483 0) (Nat.le_refl _)
    have hni : ∀ T, T = 10 ∨ T = 13 ∨ T = 14 → ¬ InY A T (A 483 0) := by intro T hT; unfold InY InX; omega
    have ag : Ag A g (up2 (up2 (up2 g 10 (A 483 0) q) 13 (A 483 0) L) 14 (A 483 0) L2) := (((Ag.rfl' A g).up q (hni _ (by decide))).up L (hni _ (by decide))).up L2 (hni _ (by decide))
    have nS : ∀ t i, InX A t i → ¬ (t = 4 ∧ i = 0) → ¬ (g t i = g 4 0) := xo.ns (inx0 (by decide))
    have eA : ∀ f, f ∉ [483, 489] → (up2 (up2 A 489 (A 483 0) j) 483 0 (A 483 0 + 1)) f = A f := fun f hf => by
      rw [up2_fn _ _ (fun z => hf (by rw [z]; decide)), up2_fn _ _ (fun z => hf (by rw [z]; decide))]
    have eB : ∀ f, f ∉ [0] → B f = B f := fun f hf => rfl
    have e3 : up2 (up2 A 489 (A 483 0) j) 483 0 (A 483 0 + 1) 483 0 = A 483 0 + 1 := up2_eq _ _ _ _
    have e89 : ∀ c, up2 (up2 A 489 (A 483 0) j) 483 0 (A 483 0 + 1) 489 c = if c = A 483 0 then j else A 489 c := fun c => by
      rw [up2_ne _ _ (Or.inl (by decide))]
      by_cases q : c = A 483 0
      · rw [if_pos q, q, up2_eq]
      · rw [if_neg q, up2_ne _ _ (Or.inr q)]
    have xa' := (xa.tx hw t rfl).cG ag
    refine ⟨xa'.1, _, xa'.2.2.1, ?_⟩
    have e10 : ∀ i, up2 (up2 (up2 g 10 (A 483 0) q) 13 (A 483 0) L) 14 (A 483 0) L2 10 i = up2 g 10 (A 483 0) q 10 i := fun i => by rw [up2_ne _ _ (Or.inl (by decide)), up2_ne _ _ (Or.inl (by decide))]
    have e13 : ∀ i, up2 (up2 (up2 g 10 (A 483 0) q) 13 (A 483 0) L) 14 (A 483 0) L2 13 i = up2 g 13 (A 483 0) L 13 i := fun i => by
      rw [up2_ne _ _ (Or.inl (by decide))]
      by_cases e : i = A 483 0
      · rw [e, up2_eq, up2_eq]
      · rw [up2_ne _ _ (Or.inr e), up2_ne _ _ (Or.inr e), up2_ne _ _ (Or.inr e)]
    have e14 : ∀ i, up2 (up2 (up2 g 10 (A 483 0) q) 13 (A 483 0) L) 14 (A 483 0) L2 14 i = up2 g 14 (A 483 0) L2 14 i := fun i => by
      by_cases e : i = A 483 0
      · rw [e, up2_eq, up2_eq]
      · rw [up2_ne _ _ (Or.inr e), up2_ne _ _ (Or.inr e), up2_ne _ _ (Or.inr e), up2_ne _ _ (Or.inr e)]
    have e7 : up2 (up2 (up2 g 10 (A 483 0) q) 13 (A 483 0) L) 14 (A 483 0) L2 7 = g 7 := by rw [up2_fn _ _ (by decide), up2_fn _ _ (by decide), up2_fn _ _ (by decide)]
    have e15 : up2 (up2 (up2 g 10 (A 483 0) q) 13 (A 483 0) L) 14 (A 483 0) L2 15 = g 15 := by rw [up2_fn _ _ (by decide), up2_fn _ _ (by decide), up2_fn _ _ (by decide)]
    have e16 : up2 (up2 (up2 g 10 (A 483 0) q) 13 (A 483 0) L) 14 (A 483 0) L2 16 = g 16 := by rw [up2_fn _ _ (by decide), up2_fn _ _ (by decide), up2_fn _ _ (by decide)]
    have hl' : Lst P' (g 4 0) 4 10 (rg (A 483 0 + 1) (up2 g 10 (A 483 0) q 10)) := by
      rw [rg_succ, rg_congr (f := g 10) (fun i hi => up2_ne _ _ (Or.inr (by omega))), up2_eq]; exact hl
    rw [ag.g0 4]
    refine ⟨hl.1, ls_size' hl' ⟨_, rfl, ?_⟩⟩
    show po (some (.int (nI (A 483 0 + 1) - 1))) P'
    rw [nI_pred]
    have qz' : q < p_z P' := Nat.lt_of_lt_of_le qz t2.1
    generalize hg' : up2 (up2 (up2 g 10 (A 483 0) q) 13 (A 483 0) L) 14 (A 483 0) L2 = g' at *
    refine h0 j hj hx hlt P' g' (va_up (va_up (va_up ow q (10, A 483 0)) L (13, A 483 0)) L2 (14, A 483 0)) (t.xm (fun _ _ _ => rfl) rfl) ⟨hw', ((xa.tx hw t rfl).cG ag).cA (eA _ (by decide)), (xg.tx hw t).cG ag, ((xn.tx hw t rfl (nS 1 0 (inx0 (by decide)) (by omega)) (fun i hi => nS 11 i (inx11 hi) (by omega))).cG ag).cA (eA _ (by decide)) (eA _ (by decide)) (eA _ (by decide)) (eA _ (by decide)), ((xd.tx hw t (nS 2 0 (inx0 (by decide)) (by omega)) (fun i hi => nS 12 i (inx12 hi) (by omega))).cG ag).cA (eA _ (by decide)), ((xe.tx hw t ⟨rfl, rfl, rfl, rfl⟩ (nS 3 0 (inx0 (by decide)) (by omega))).cG ok.1 ag).cA (eA _ (by decide)) (eA _ (by decide)) (eA _ (by decide)) (eA _ (by decide)) (eA _ (by decide)), ⟨pl, ((xp.tx xe hw t rfl).cG ag).cA (eA _ (by decide))⟩, ((xf.tx xg xn xd hw t ⟨rfl, rfl⟩).cG ag).cA (eA _ (by decide)) (eA _ (by decide)), ?_, ?_, ?_, ((xt.tx hw t ⟨rfl, rfl⟩ (nS 5 0 (inx0 (by decide)) (by omega))).cG ag).cA (eA _ (by decide)) (eA _ (by decide)) (eB _ (by decide)), ?_⟩
    · unfold XC
      rw [e3]
      refine ⟨by rw [ag.g0 4, rg_congr (fun i _ => e10 i)]; exact hl', fun c hc => ?_⟩
      rw [e10, e13, e14, e7, e89]
      by_cases e : c = A 483 0
      · subst e
        rw [if_pos rfl, up2_eq, up2_eq, up2_eq, a6.2.2]
        exact ⟨t2.k hw2 kq, t2.r qz r0, t2.r qz r1, t2.r qz r2, t2.l qz l0⟩
      · rw [if_neg e, up2_ne _ _ (Or.inr e), up2_ne _ _ (Or.inr e), up2_ne _ _ (Or.inr e)]
        obtain ⟨a1, a2, a3, a4, a5⟩ := xc.2 c (by omega)
        have hx := hw.lt a1
        exact ⟨t.k hw a1, t.r hx a2, t.r hx a3, t.r hx a4, t.l hx rfl a5⟩
    · unfold XR
      rw [e3, eA 496 (by decide), eA 497 (by decide), eA 498 (by decide), eA 499 (by decide), eA 500 (by decide), e16]
      intro c hc
      rw [e13]
      by_cases e : c = A 483 0
      · subst e
        rw [up2_eq, a6.1]
        exact ⟨lq', fun i hi => absurd hi (Nat.not_lt_zero i)⟩
      · rw [up2_ne _ _ (Or.inr e)]
        exact xr.tx hw t ⟨rfl, rfl, rfl, rfl⟩ (fun i hi => nS 13 i (inx13 hi) (by omega)) c (by omega)
    · unfold XB
      rw [e3, eA 504 (by decide), eA 505 (by decide), eA 506 (by decide), e15]
      intro c hc
      rw [e14]
      by_cases e : c = A 483 0
      · subst e
        rw [up2_eq, a6.2.1]
        exact ⟨lq2', fun i hi => absurd hi (Nat.not_lt_zero i)⟩
      · rw [up2_ne _ _ (Or.inr e)]
        exact xb.tx hw t ⟨rfl, rfl, rfl⟩ (fun i hi => nS 14 i (inx14 hi) (by omega)) c (by omega)
    · intro T i hi
      have zz : p_z P ≤ p_z P' := t.1
      have hLz' : L < p_z P' := hw'.lt lq'.1
      have hL2z' : L2 < p_z P' := hw'.lt lq2'.1
      by_cases c : (T = 10 ∨ T = 13 ∨ T = 14) ∧ i = A 483 0
      · obtain ⟨c1, rfl⟩ := c
        rcases c1 with rfl | rfl | rfl
        · rw [e10, up2_eq]
          refine ⟨qz', ?_⟩
          rw [va_up, if_neg (by omega), va_up, if_neg (by omega), va_up, if_pos rfl]
        · rw [e13, up2_eq]
          refine ⟨hLz', ?_⟩
          rw [va_up, if_neg (by omega), va_up, if_pos rfl]
        · rw [e14, up2_eq]
          refine ⟨hL2z', ?_⟩
          rw [va_up, if_pos rfl]
      · have hi' : InX A T i := by
          unfold InX at hi ⊢
          rw [e3, eA 481 (by decide), eA 482 (by decide), eA 504 (by decide)] at hi
          rcases hi with z | z | z | z | z | ⟨z, c', j', z1, z2, z3⟩
          · exact Or.inl z
          · exact Or.inr (Or.inl z)
          · exact Or.inr (Or.inr (Or.inl z))
          · exact Or.inr (Or.inr (Or.inr (Or.inl z)))
          · exact Or.inr (Or.inr (Or.inr (Or.inr (Or.inl (by omega)))))
          · refine Or.inr (Or.inr (Or.inr (Or.inr (Or.inr ⟨z, c', j', ?_, z2, z3⟩))))
            by_cases e : c' = A 483 0
            · rw [e, a6.2.1] at z2; omega
            · omega
        have o := xo T i hi'
        rw [ag T i (Or.inl hi')]
        refine ⟨by omega, ?_⟩
        rw [va_up, if_neg (by omega), va_up, if_neg (by omega), va_up, if_neg (by omega)]; exact o.2
