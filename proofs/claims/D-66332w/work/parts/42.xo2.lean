/-! new objects in the component -/
def InY (A : Nat → Nat → Nat) (t i : Nat) : Prop := InX A t i ∨ ((t = 18 ∨ t = 19 ∨ t = 20) ∧ i = 0) ∨ (t = 16 ∧ ∃ c j, c < A 483 0 ∧ j < A 496 c ∧ i = 24 * c + j) ∨ (t = 17 ∧ i < A 501 0)
def Ag (A : Nat → Nat → Nat) (g g' : Nat → Nat → Nat) : Prop := ∀ t i, InY A t i → g' t i = g t i
theorem Ag.rfl' (A : Nat → Nat → Nat) (g : Nat → Nat → Nat) : Ag A g g := fun _ _ _ => rfl
theorem Ag.up {A : Nat → Nat → Nat} {g g' : Nat → Nat → Nat} (h : Ag A g g') {T I : Nat} (v : Nat) (hn : ¬ InY A T I) : Ag A g (up2 g' T I v) := by
  intro t i hi
  rw [up2_ne, h t i hi]
  by_cases e : t = T
  · exact Or.inr (fun z => hn (by rw [← e, ← z]; exact hi))
  · exact Or.inl e
theorem Ag.g0 {A : Nat → Nat → Nat} {g g' : Nat → Nat → Nat} (h : Ag A g g') (t : Nat) (ht : t < 7 := by decide) : g' t 0 = g t 0 := h t 0 (Or.inl (inx0 ht))
theorem Ag.g18 {A : Nat → Nat → Nat} {g g' : Nat → Nat → Nat} (h : Ag A g g') (t : Nat) (ht : (t = 18 ∨ t = 19 ∨ t = 20) := by decide) : g' t 0 = g t 0 := h t 0 (Or.inr (Or.inl ⟨ht, rfl⟩))
theorem Ag.g16 {A : Nat → Nat → Nat} {g g' : Nat → Nat → Nat} (h : Ag A g g') {c j : Nat} (hc : c < A 483 0) (hj : j < A 496 c) : g' 16 (24 * c + j) = g 16 (24 * c + j) := h 16 _ (Or.inr (Or.inr (Or.inl ⟨rfl, c, j, hc, hj, rfl⟩)))
theorem Ag.g17 {A : Nat → Nat → Nat} {g g' : Nat → Nat → Nat} (h : Ag A g g') {j : Nat} (hj : j < A 501 0) : g' 17 j = g 17 j := h 17 _ (Or.inr (Or.inr (Or.inr ⟨rfl, hj⟩)))
theorem XA.cG {P : Pic} {x : Nat} {g g' : Nat → Nat → Nat} {A : Nat → Nat → Nat} (h : XA P x g A) (e : Ag A g g') : XA P x g' A := by
  unfold XA at h ⊢; rw [e.g0 0, e.g0 4, e.g0 5]; exact h
theorem XG.cG {P : Pic} {g g' : Nat → Nat → Nat} {A : Nat → Nat → Nat} (h : XG P g) (e : Ag A g g') : XG P g' := by
  unfold XG at h ⊢; rw [e.g0 0, e.g0 1, e.g0 2, e.g0 3, e.g0 6, e.g18 18, e.g18 19, e.g18 20]; exact h
theorem inc_lt {A : Nat → Nat → Nat} {i v : Nat} (h : v ∈ inc A i) : v < 2 * A 482 0 ∧ A 485 v = i := by
  unfold inc at h
  rw [List.mem_filter, List.mem_range, beq_iff_eq] at h; exact h
theorem XN.cG {P : Pic} {g g' : Nat → Nat → Nat} {A : Nat → Nat → Nat} (h : XN P g A) (e : Ag A g g') : XN P g' A := by
  refine ⟨by rw [e.g0 1, rg_congr (f := g 7) (fun i hi => e 7 i (Or.inl (inx7 hi)))]; exact h.1, fun i hi => ?_⟩
  obtain ⟨a1, a2, a3, a4⟩ := h.2 i hi
  rw [e 7 i (Or.inl (inx7 hi)), e 11 i (Or.inl (inx11 hi))]
  refine ⟨a1, a2, a3, ?_⟩
  rw [List.map_congr_left (g := g 9) (fun v hv => e 9 v (Or.inl (inx9 (inc_lt hv).1)))]; exact a4
theorem XD.cG {P : Pic} {g g' : Nat → Nat → Nat} {A : Nat → Nat → Nat} (h : XD P g A) (e : Ag A g g') : XD P g' A := by
  refine ⟨by rw [e.g0 2, rg_congr (f := g 8) (fun i hi => e 8 i (Or.inl (inx8 hi)))]; exact h.1, fun i hi => ?_⟩
  rw [e 8 i (Or.inl (inx8 hi)), e 12 i (Or.inl (inx12 hi)), e 9 (2 * i) (Or.inl (inx9 (by omega))), e 9 (2 * i + 1) (Or.inl (inx9 (by omega)))]
  exact h.2 i hi
theorem XE.cG {P : Pic} {g g' : Nat → Nat → Nat} {A : Nat → Nat → Nat} (h : XE P g A) (ok : OkN A) (e : Ag A g g') : XE P g' A := by
  refine ⟨by rw [e.g0 3, rg_congr (f := g 9) (fun i hi => e 9 i (Or.inl (inx9 hi)))]; exact h.1, fun i hi => ?_⟩
  rw [e 9 i (Or.inl (inx9 hi)), e 8 (i / 2) (Or.inl (inx8 (by omega))), e 7 (A 485 i) (Or.inl (inx7 (ok.2.2.2.1 i hi).1))]
  exact h.2 i hi
theorem XP.cG {P : Pic} {g g' : Nat → Nat → Nat} {A : Nat → Nat → Nat} {pl : Nat → Nat} (h : XP P g A pl) (e : Ag A g g') : XP P g' A pl := by
  intro i hi
  rw [e 9 i (Or.inl (inx9 hi))]; exact h i hi
theorem XF.cG {P : Pic} {g g' : Nat → Nat → Nat} {A : Nat → Nat → Nat} {fl : Nat} (h : XF P g A fl) (e : Ag A g g') : XF P g' A fl := by
  refine ⟨by rw [e.g0 0]; exact h.1, fun i hi => ?_, fun i hi => ?_⟩
  · rw [e 7 i (Or.inl (inx7 hi))]; exact h.2.1 i hi
  · rw [e 8 i (Or.inl (inx8 hi))]; exact h.2.2 i hi
theorem XC.cG {P : Pic} {g g' : Nat → Nat → Nat} {A : Nat → Nat → Nat} {B : Nat → Nat → Int64} (h : XC P g A B) (ok : OkC A B) (e : Ag A g g') : XC P g' A B := by
  refine ⟨by rw [e.g0 4, rg_congr (f := g 10) (fun i hi => e 10 i (Or.inl (inx10 hi)))]; exact h.1, fun i hi => ?_⟩
  rw [e 10 i (Or.inl (inx10 hi)), e 13 i (Or.inl (inx13 hi)), e 14 i (Or.inl (inx14 hi)), e 7 (A 489 i) (Or.inl (inx7 (ok.2.2.1 i hi)))]
  exact h.2 i hi
theorem XR.cG {P : Pic} {g g' : Nat → Nat → Nat} {A : Nat → Nat → Nat} (h : XR P g A) (e : Ag A g g') : XR P g' A := by
  intro c hc
  rw [e 13 c (Or.inl (inx13 hc)), rg_congr (f := fun i => g 16 (24 * c + i)) (fun i hi => e.g16 hc hi)]
  refine ⟨(h c hc).1, fun i hi => ?_⟩
  rw [e.g16 hc hi]; exact (h c hc).2 i hi
theorem XB.cG {P : Pic} {g g' : Nat → Nat → Nat} {A : Nat → Nat → Nat} {B : Nat → Nat → Int64} (h : XB P g A B) (e : Ag A g g') : XB P g' A B := by
  intro c hc
  rw [e 14 c (Or.inl (inx14 hc)), rg_congr (f := fun i => g 15 (6 * c + i)) (fun i hi => e 15 _ (Or.inl (inx15 hc hi)))]
  refine ⟨(h c hc).1, fun i hi => ?_⟩
  rw [e 15 _ (Or.inl (inx15 hc hi))]; exact (h c hc).2 i hi
theorem XT.cG {P : Pic} {g g' : Nat → Nat → Nat} {A : Nat → Nat → Nat} {B : Nat → Nat → Int64} (h : XT P g A B) (e : Ag A g g') : XT P g' A B := by
  refine ⟨by rw [e.g0 5, rg_congr (f := g 17) (fun i hi => e.g17 hi)]; exact h.1, fun i hi => ?_⟩
  rw [e.g17 hi]; exact h.2 i hi
/-- a new object gets its owner -/
theorem XO.up {P P' : Pic} {g g' : Nat → Nat → Nat} {ow : Nat → Nat × Nat} {A : Nat → Nat → Nat} (h : XO P g ow A) (e : Ag A g g') (hz : p_z P ≤ p_z P') : XO P' g' ow A := fun t i hi => by
  rw [e t i (Or.inl hi)]; exact ⟨Nat.lt_of_lt_of_le (h t i hi).1 hz, (h t i hi).2⟩
theorem xo_place {P : Pic} {po : Option Value → Pic → Prop} {th : String → Pic → Prop} {q k : Nat} (hw : Wf P) (hq : p_z P ≤ q) (hk : k = 7 ∨ k = 8)
    (hp : ∀ P' L, q < L → Tr P P' (fun _ => False) → Wf P' → p_k P' q = k + 1 → p_r P' 320 q = some L → Lst P' L 5 2 [] → p_i P' 282 q = 0 → p_i P' 321 q = 0 → q < p_z P' → po none P') : wp_Pl_init po th (s_new P q k) q := by
  intro L hL
  have hL : q + 1 ≤ L := hL
  have hw1 : Wf (s_new P q k) := wf_new hw hq k
  have hw2 : Wf (s_new (s_new P q k) L 13) := wf_new hw1 hL 13
  have t1 : Tr P (s_new P q k) (fun M => M = L) := tr_new hw hq k _
  have t2 : Tr (s_new P q k) (s_new (s_new P q k) L 13) (fun M => M = L) := tr_new hw1 hL 13 _
  refine ls_init (k := 5) (w := 2) (n := 2) hw2 (by rw [gpk_new, if_pos rfl]) (by rw [gpi_new, if_pos rfl]) (by unfold Ob; omega) (by decide) (by decide) (by decide) ?_
  intro P2 b hb t3 hw3 hl hb2 hbn hbk hbz
  have kq : p_k (s_new (s_new P q k) L 13) q = k + 1 := by rw [gpk_new, if_neg (by omega), gpk_new, if_pos rfl]
  have qz : q < p_z (s_new (s_new P q k) L 13) := by show q < L + 1; omega
  have kq2 : p_k P2 q = k + 1 := t3.k hw2 kq
  have t4 : Tr P P2 (fun _ => False) := ((t1.trans t2 (fun _ z => z) (fun _ z => z)).trans t3 (T := fun M => M = L) (fun _ z => z) (fun _ z => z)).drop hw (fun M z => by rw [z]; omega) _
  refine ⟨rfl, by omega, hp _ L (by omega) (tr_rnew t4 hq (by decide) _) (wf_r hw3 (by decide) _ _) kq2 (by rw [gpr_r, if_pos ⟨rfl, rfl⟩]) ?_ ?_ ?_ ?_⟩
  · obtain ⟨h1, c, h2, h3, h4, h5, h6, h7, h8, h9⟩ := hl
    exact ⟨h1, c, by rw [gpr_r, if_neg (by omega)]; exact h2, h3, h4, h5, h6, h7, h8, h9⟩
  · exact t3.i qz (by rw [gpi_new, if_neg (by omega), gpi_new, if_pos rfl])
  · exact t3.i qz (by rw [gpi_new, if_neg (by omega), gpi_new, if_pos rfl])
  · exact Nat.lt_of_lt_of_le qz t3.1
theorem xo_node {P : Pic} {x : Nat} {g : Nat → Nat → Nat} {ow : Nat → Nat × Nat} {fl : Nat} {A : Nat → Nat → Nat} {B : Nat → Nat → Int64} {po : Option Value → Pic → Prop} {th : String → Pic → Prop} (h : RX P x g ow fl A B) (ok : Ok A B)
    (h0 : A 481 0 < 12 → ∀ P' g' ow', XM P P' → RX P' x g' ow' fl (up2 A 481 0 (A 481 0 + 1)) B → po (some (.int (nI (A 481 0)))) P')
    (h1 : A 481 0 = 12 → th "java/lang/IllegalStateException" P) : wp_Wa_node po th P x := by
  obtain ⟨hw, xa, xg, xn, xd, xe, ⟨pl, xp⟩, xf, xc, xr, xb, xt, xo⟩ := id h
  have hb := ok.1.1
  refine ⟨xa.1, _, xa.2.1, xg.1, _, xg.2.1, xn.1.1, ls_size' xn.1 ⟨_, rfl, fun e => ?_, fun e => ?_⟩⟩
  · exact ⟨fun z => absurd rfl z, fun _ => h1 (by have := (nI_leI (a := 12) (by omega) (by omega)).mp e; omega)⟩
  · have hlt : A 481 0 < 12 := by
      rcases Nat.lt_or_ge (A 481 0) 12 with z | z
      · exact z
      · exact absurd (nI_le (a := 12) z (by omega)) e
    refine ⟨fun _ => ⟨rfl, xa.1, _, xa.2.1, xg.1, _, xg.2.1, ?_⟩, fun z => absurd z (by decide)⟩
    intro q hq
    refine xo_place hw hq (Or.inl rfl) (fun P2 L hL t1 hw2 kq rq lq sq fq qz => ⟨rfl, rfl, t1.k hw xn.1.1, ?_⟩)
    have xn2 := t1.2.2.2 _ _ _ _ (fun z => z) xn.1
    refine ls_add hw2 xn2 (Or.inl (by rw [rg_len]; omega)) kq (fun P' t2 hw' hl => ⟨_, rfl, ?_⟩)
    have t : TX P P' (fun M => M = g 1 0) (fun _ => false) := (t1.trans t2 (T := fun M => M = g 1 0) (fun _ z => z.elim) (fun _ z => z)).tx _
    have lL : L ≠ g 1 0 := by have := (xo 1 0 (inx0 (by decide))).1; omega
    have lq' : Lst P' L 5 2 [] := t2.2.2.2 _ _ _ _ lL lq
    have ag : Ag A g (up2 (up2 g 7 (A 481 0) q) 11 (A 481 0) L) := ((Ag.rfl' A g).up q (by unfold InY InX; omega)).up L (by unfold InY InX; omega)
    have nS : ∀ t i, InX A t i → ¬ (t = 1 ∧ i = 0) → ¬ (g t i = g 1 0) := xo.ns (inx0 (by decide))
    have eA : ∀ f, f ∉ [481] → (up2 A 481 0 (A 481 0 + 1)) f = A f := fun f hf => up2_fn A _ (fun z => hf (by rw [z]; decide))
    have eB : ∀ f, f ∉ [0] → B f = B f := fun f hf => rfl
    have xa' := (xa.tx hw t rfl).cG ag
    have xg' := (xg.tx hw t).cG ag
    refine ⟨xa'.1, _, xa'.2.1, xg'.1, _, xg'.2.1, hl.1, ?_⟩
    have hl' : Lst P' (g 1 0) 8 12 (rg (A 481 0 + 1) (up2 g 7 (A 481 0) q 7)) := by
      rw [rg_succ, rg_congr (f := g 7) (fun i hi => up2_ne _ _ (Or.inr (by omega))), up2_eq]; exact hl
    rw [ag.g0 1]
    refine ls_size' hl' ⟨_, rfl, ?_⟩
    show po (some (.int (nI (A 481 0 + 1) - 1))) P'
    rw [nI_pred]
    have e7 : ∀ i, up2 (up2 g 7 (A 481 0) q) 11 (A 481 0) L 7 i = up2 g 7 (A 481 0) q 7 i := fun i => up2_ne _ _ (Or.inl (by decide))
    refine h0 hlt P' (up2 (up2 g 7 (A 481 0) q) 11 (A 481 0) L) (va_up (va_up ow q (7, A 481 0)) L (11, A 481 0)) (t.xm (fun _ _ _ => rfl) rfl) ⟨hw', xa'.cA (eA _ (by decide)), xg', ?_, ((xd.tx hw t (nS 2 0 (inx0 (by decide)) (by omega)) (fun i hi => nS 12 i (inx12 hi) (by omega))).cG ag).cA (eA _ (by decide)), ((xe.tx hw t ⟨rfl, rfl, rfl, rfl⟩ (nS 3 0 (inx0 (by decide)) (by omega))).cG ok.1 ag).cA (eA _ (by decide)) (eA _ (by decide)) (eA _ (by decide)) (eA _ (by decide)) (eA _ (by decide)), ⟨pl, ((xp.tx xe hw t rfl).cG ag).cA (eA _ (by decide))⟩, ?_, ((xc.tx hw t rfl (nS 4 0 (inx0 (by decide)) (by omega))).cG ok.2.1 ag).cA (eA _ (by decide)) (eA _ (by decide)) rfl, ((xr.tx hw t ⟨rfl, rfl, rfl, rfl⟩ (fun i hi => nS 13 i (inx13 hi) (by omega))).cG ag).cA (eA _ (by decide)) (eA _ (by decide)) (eA _ (by decide)) (eA _ (by decide)) (eA _ (by decide)) (eA _ (by decide)), ((xb.tx hw t ⟨rfl, rfl, rfl⟩ (fun i hi => nS 14 i (inx14 hi) (by omega))).cG ag).cA (eA _ (by decide)) (eA _ (by decide)) (eA _ (by decide)) (eA _ (by decide)) rfl, ((xt.tx hw t ⟨rfl, rfl⟩ (nS 5 0 (inx0 (by decide)) (by omega))).cG ag).cA (eA _ (by decide)) (eA _ (by decide)) rfl, ?_⟩
    · unfold XN
      rw [up2_eq]
      refine ⟨?_, fun i hi => ?_⟩
      · rw [ag.g0 1, rg_congr (fun i _ => e7 i)]; exact hl'
      · rw [e7 i]
        by_cases e : i = A 481 0
        · subst e
          rw [up2_eq, up2_eq, eA 484 (by decide), ok.1.2.2.1 _ (Nat.le_refl _)]
          refine ⟨t2.k hw2 kq, t2.i qz sq, t2.r qz rq, ?_⟩
          have : inc (up2 A 481 0 (A 481 0 + 1)) (A 481 0) = [] := by
            rw [List.eq_nil_iff_forall_not_mem]
            intro v hv
            have := inc_lt hv
            rw [eA 482 (by decide), eA 485 (by decide)] at this
            have := (ok.1.2.2.2.1 v this.1).1
            omega
          rw [this]; exact lq'
        · have hi' : i < A 481 0 := by omega
          obtain ⟨a1, a2, a3, a4⟩ := xn.2 i hi'
          have hx := hw.lt a1
          have e11 : up2 (up2 g 7 (A 481 0) q) 11 (A 481 0) L 11 i = g 11 i := by rw [up2_ne _ _ (Or.inr e), up2_ne _ _ (Or.inl (by decide))]
          rw [up2_ne g _ (Or.inr e), e11, eA 484 (by decide)]
          refine ⟨t.k hw a1, t.i hx rfl a2, t.r hx a3, ?_⟩
          have e9 : up2 (up2 g 7 (A 481 0) q) 11 (A 481 0) L 9 = g 9 := by rw [up2_fn _ _ (by decide), up2_fn _ _ (by decide)]
          unfold inc
          rw [eA 482 (by decide), eA 485 (by decide), e9]
          exact t.2.2 _ _ _ _ (nS 11 i (inx11 hi') (by omega)) a4
    · unfold XF
      rw [up2_eq, eA 482 (by decide), ag.g0 0]
      have e8 : ∀ i, up2 (up2 g 7 (A 481 0) q) 11 (A 481 0) L 8 i = g 8 i := fun i => by rw [up2_ne _ _ (Or.inl (by decide)), up2_ne _ _ (Or.inl (by decide))]
      have xf' := xf.tx xg xn xd hw t ⟨rfl, rfl⟩
      refine ⟨xf'.1, fun i hi => ?_, fun i hi => ?_⟩
      · rw [e7 i]
        by_cases e : i = A 481 0
        · subst e
          rw [up2_eq]
          exact ⟨0, Nat.zero_le _, t2.i qz fq⟩
        · rw [up2_ne _ _ (Or.inr e)]; exact xf'.2.1 i (by omega)
      · rw [e8 i]; exact xf'.2.2 i hi
    · intro T i hi
      have zz : p_z P ≤ p_z P' := t.1
      have hqz' : q < p_z P' := Nat.lt_of_lt_of_le qz t2.1
      have hLz' : L < p_z P' := hw'.lt lq'.1
      by_cases c : (T = 7 ∧ i = A 481 0) ∨ (T = 11 ∧ i = A 481 0)
      · rcases c with ⟨rfl, rfl⟩ | ⟨rfl, rfl⟩
        · rw [up2_ne _ _ (Or.inl (by decide)), up2_eq]
          refine ⟨hqz', ?_⟩
          rw [va_up, if_neg (by omega), va_up, if_pos rfl]
        · rw [up2_eq]
          refine ⟨hLz', ?_⟩
          rw [va_up, if_pos rfl]
      · have hi' : InX A T i := by
          unfold InX at hi ⊢
          rw [up2_eq, eA 482 (by decide), eA 483 (by decide), eA 504 (by decide)] at hi
          rcases hi with z | z | z
          · exact Or.inl z
          · exact Or.inr (Or.inl (by omega))
          · exact Or.inr (Or.inr z)
        have o := xo T i hi'
        rw [ag T i (Or.inl hi')]
        refine ⟨by omega, ?_⟩
        rw [va_up, if_neg (by omega), va_up, if_neg (by omega)]; exact o.2
