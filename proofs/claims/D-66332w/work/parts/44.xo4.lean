/-! a new end, a new pipe -/
theorem xo_end {P : Pic} {po : Option Value → Pic → Prop} {th : String → Pic → Prop} {q mid nod Lm Ln num va : Nat} {lm ln : List Nat} {xn xv : Int32} (hw : Wf P) (hq : p_z P ≤ q) (km : p_k P mid = 8 ∨ p_k P mid = 9) (kn : p_k P nod = 8 ∨ p_k P nod = 9) (rm : p_r P 320 mid = some Lm) (rn : p_r P 320 nod = some Ln) (lM : Lst P Lm 5 2 lm) (lN : Lst P Ln 5 2 ln) (sm : lm.length ≤ 20) (sn : ln.length ≤ 20) (hne : Ln ≠ Lm) (hv : va ≤ 1) (exn : xn = nI num) (exv : xv = nI va)
    (hp : ∀ P', Tr P P' (fun M => M = Lm ∨ M = Ln) → Wf P' → p_k P' q = 5 → p_r P' 160 q = some mid → p_r P' 161 q = some nod → p_i P' 162 q = nI num → p_i P' 163 q = nI va → p_i P' 164 q = nI 1 → p_i P' 165 q = nI 0 → p_i P' 166 q = nI 0 → Lst P' Lm 5 2 (lm ++ [q]) → Lst P' Ln 5 2 (ln ++ [q]) → q < p_z P' → po none P') : wp_En_init po th (s_new P q 4) q mid nod xn xv := by
  subst exn; subst exv
  have hw1 : Wf (s_new P q 4) := wf_new hw hq 4
  have t1 : Tr P (s_new P q 4) (fun _ => False) := tr_new hw hq 4 _
  refine ⟨by rw [gpk_new, if_pos rfl], ?_⟩
  intro P2 hP2
  have hz2 : p_z P2 = q + 1 := by rw [hP2]; rfl
  have t2 : Tr P P2 (fun _ => False) := by
    rw [hP2]
    exact tr_inew (tr_rnew (tr_rnew (tr_inew t1 hq (by decide) _) hq (by decide) _) hq (by decide) _) hq (by decide) _
  have hw2 : Wf P2 := by
    rw [hP2]
    exact wf_i (wf_r (wf_r (wf_i hw1 _ _ _) (by decide) _ _) (by decide) _ _) _ _ _
  have k2 : p_k P2 q = 5 := by rw [hP2]; show p_k (s_new P q 4) q = 5; rw [gpk_new, if_pos rfl]
  have r60 : p_r P2 160 q = some mid := by rw [hP2, gpr_i, gpr_r, if_neg (by omega), gpr_r, if_pos ⟨rfl, rfl⟩]
  have r61 : p_r P2 161 q = some nod := by rw [hP2, gpr_i, gpr_r, if_pos ⟨rfl, rfl⟩]
  have i62 : p_i P2 162 q = nI num := by rw [hP2, gpi_i, if_pos ⟨rfl, rfl⟩]
  have i64 : p_i P2 164 q = nI 1 := by rw [hP2, gpi_i, if_neg (by omega), gpi_r, gpi_r, gpi_i, if_pos ⟨rfl, rfl⟩]; rfl
  have i65 : p_i P2 165 q = nI 0 := by rw [hP2, gpi_i, if_neg (by omega), gpi_r, gpi_r, gpi_i, if_neg (by omega), gpi_new, if_pos rfl]; rfl
  have i66 : p_i P2 166 q = nI 0 := by rw [hP2, gpi_i, if_neg (by omega), gpi_r, gpi_r, gpi_i, if_neg (by omega), gpi_new, if_pos rfl]; rfl
  clear hP2
  have t3 : Tr P (s_i P2 163 q (nI va)) (fun _ => False) := tr_inew t2 hq (by decide) _
  have hw3 : Wf (s_i P2 163 q (nI va)) := wf_i hw2 _ _ _
  have i63 : p_i (s_i P2 163 q (nI va)) 163 q = nI va := by rw [gpi_i, if_pos ⟨rfl, rfl⟩]
  have j62 : p_i (s_i P2 163 q (nI va)) 162 q = nI num := by rw [gpi_i, if_neg (by omega)]; exact i62
  have j64 : p_i (s_i P2 163 q (nI va)) 164 q = nI 1 := by rw [gpi_i, if_neg (by omega)]; exact i64
  have j65 : p_i (s_i P2 163 q (nI va)) 165 q = nI 0 := by rw [gpi_i, if_neg (by omega)]; exact i65
  have j66 : p_i (s_i P2 163 q (nI va)) 166 q = nI 0 := by rw [gpi_i, if_neg (by omega)]; exact i66
  have mz : mid < p_z P := hw.1 mid (by omega)
  have nz : nod < p_z P := hw.1 nod (by omega)
  have k3 : p_k (s_i P2 163 q (nI va)) q = 5 := k2
  have q60 : p_r (s_i P2 163 q (nI va)) 160 q = some mid := r60
  have q61 : p_r (s_i P2 163 q (nI va)) 161 q = some nod := r61
  have qz3 : q < p_z (s_i P2 163 q (nI va)) := by show q < p_z P2; omega
  generalize s_i P2 163 q (nI va) = P3 at *
  have lM3 : Lst P3 Lm 5 2 lm := t3.2.2.2 _ _ _ _ (fun z => z) lM
  have lN3 : Lst P3 Ln 5 2 ln := t3.2.2.2 _ _ _ _ (fun z => z) lN
  refine ⟨b01 hv, by rw [(t3.2.2.1 mid mz).1]; exact km, Lm, t3.r mz rm, lM3.1, ?_⟩
  refine ls_add hw3 lM3 (Or.inl sm) k3 (fun P4 t4 hw4 lM4 => ⟨_, rfl, ?_⟩)
  have t34 : Tr P P4 (fun M => M = Lm) := t3.trans t4 (fun _ z => z.elim) (fun _ z => z)
  have lN4 : Lst P4 Ln 5 2 ln := t4.2.2.2 _ _ _ _ hne lN3
  refine ⟨by rw [(t34.2.2.1 nod nz).1]; exact kn, Ln, t34.r nz rn, lN4.1, ?_⟩
  refine ls_add hw4 lN4 (Or.inl sn) (t4.k hw3 k3) (fun P5 t5 hw5 lN5 => ⟨_, rfl, ?_⟩)
  have t45 : Tr P3 P5 (fun M => M = Lm ∨ M = Ln) := t4.trans t5 (fun _ z => Or.inl z) (fun _ z => Or.inr z)
  exact hp P5 (t3.trans t45 (fun _ z => z.elim) (fun _ z => z)) hw5 (t45.k hw3 k3) (t45.r qz3 q60) (t45.r qz3 q61) (t45.i qz3 j62) (t45.i qz3 i63) (t45.i qz3 j64) (t45.i qz3 j65) (t45.i qz3 j66) (t5.2.2.2 _ _ _ _ (fun z => hne z.symm) lM4) lN5 (Nat.lt_of_lt_of_le qz3 t45.1)
theorem inc_pipe {A A' : Nat → Nat → Nat} {p a b i : Nat} (hp : A 482 0 = p) (hp' : A' 482 0 = p + 1) (e1 : A' 485 (2 * p) = a) (e2 : A' 485 (2 * p + 1) = b) (e3 : ∀ v, v < 2 * p → A' 485 v = A 485 v) : inc A' i = inc A i ++ (if a = i then [2 * p] else []) ++ (if b = i then [2 * p + 1] else []) := by
  unfold inc
  have e : 2 * (p + 1) = 2 * p + 1 + 1 := by omega
  rw [hp, hp', e, List.range_succ, List.range_succ, List.filter_append, List.filter_append]
  congr 1
  · congr 1
    · apply List.filter_congr
      intro v hv
      rw [e3 v (List.mem_range.mp hv)]
    · by_cases c : a = i
      · rw [if_pos c, List.filter_cons, e1, c, beq_self_eq_true, if_pos rfl]; rfl
      · rw [if_neg c, List.filter_cons, e1, if_neg (by rw [beq_iff_eq]; exact c)]; rfl
  · by_cases c : b = i
    · rw [if_pos c, List.filter_cons, e2, c, beq_self_eq_true, if_pos rfl]; rfl
    · rw [if_neg c, List.filter_cons, e2, if_neg (by rw [beq_iff_eq]; exact c)]; rfl
theorem inc_le' (e : Nat → Nat) (i : Nat) : ∀ p : Nat, (∀ j, j < p → e (2 * j) ≠ e (2 * j + 1)) → ((List.range (2 * p)).filter (fun v => e v == i)).length ≤ p := by
  intro p
  induction p with
  | zero => intro _; exact Nat.le_refl _
  | succ p ih =>
    intro h
    have ih' := ih (fun j hj => h j (by omega))
    have hp := h p (by omega)
    have e2 : 2 * (p + 1) = 2 * p + 1 + 1 := by omega
    rw [e2, List.range_succ, List.range_succ, List.filter_append, List.filter_append, List.length_append, List.length_append, List.filter_cons, List.filter_cons]
    by_cases c : e (2 * p) = i
    · rw [if_pos (by rw [c]; exact beq_self_eq_true i), if_neg (by rw [beq_iff_eq]; omega)]
      show _ + 1 + 0 ≤ _
      omega
    · rw [if_neg (by rw [beq_iff_eq]; exact c)]
      by_cases d : e (2 * p + 1) = i
      · rw [if_pos (by rw [d]; exact beq_self_eq_true i)]
        show _ + 0 + 1 ≤ _
        omega
      · rw [if_neg (by rw [beq_iff_eq]; exact d)]
        show _ + 0 + 0 ≤ _
        omega
theorem inc_le {A : Nat → Nat → Nat} (h : OkI A) (i : Nat) : (inc A i).length ≤ A 482 0 := inc_le' (A 485) i _ h
theorem xo_pipe {P : Pic} {x : Nat} {g : Nat → Nat → Nat} {ow : Nat → Nat × Nat} {fl : Nat} {A : Nat → Nat → Nat} {B : Nat → Nat → Int64} {po : Option Value → Pic → Prop} {th : String → Pic → Prop} {x1 x2 x3 : Int32} (h : RX P x g ow fl A B) (ok : Ok A B)
    (h1 : ((∀ j, j < A 481 0 → x1 ≠ nI j) ∨ (∀ j, j < A 481 0 → x2 ≠ nI j)) → th "java/lang/IndexOutOfBoundsException" P)
    (h2 : ∀ a b, a < A 481 0 → b < A 481 0 → x1 = nI a → x2 = nI b → (a = b ∨ ∀ v, v < 4 → x3 ≠ nI v) → th "java/lang/IllegalArgumentException" P)
    (h3 : ∀ a b v, a < A 481 0 → b < A 481 0 → x1 = nI a → x2 = nI b → a ≠ b → v < 4 → x3 = nI v → A 482 0 = 16 → th "java/lang/IllegalStateException" P)
    (h0 : ∀ a b v, a < A 481 0 → b < A 481 0 → x1 = nI a → x2 = nI b → a ≠ b → v < 4 → x3 = nI v → A 482 0 < 16 → ∀ P' g' ow', XM P P' → RX P' x g' ow' fl (up2 (up2 (up2 (up2 (up2 (up2 (up2 A 485 (2 * A 482 0) a) 485 (2 * A 482 0 + 1) b) 486 (2 * A 482 0) (v % 2)) 487 (2 * A 482 0) 1) 486 (2 * A 482 0 + 1) (v / 2)) 487 (2 * A 482 0 + 1) 1) 482 0 (A 482 0 + 1)) B → po (some (.int (nI (A 482 0)))) P') : wp_Wa_pipe po th P x x1 x2 x3 := by
  obtain ⟨hw, xa, xg, xn, xd, xe, ⟨pl, xp⟩, xf, xc, xr, xb, xt, xo⟩ := id h
  have hb := ok.1.1
  have hp16 := ok.1.2.1
  refine ⟨xa.1, xo_nodeAt h ok.1.1 (fun e => h1 (Or.inl e)) (fun a ha hx1 => ⟨_, rfl, xo_nodeAt h ok.1.1 (fun e => h1 (Or.inr e)) (fun b hb' hx2 => ⟨_, rfl, ?_⟩)⟩)⟩
  have bad : (a = b ∨ ∀ v, v < 4 → x3 ≠ nI v) → wb_Wa_pipe_34 po th P x x3 (g 7 a) (g 7 b) := fun e => ⟨fun z => absurd rfl z, fun _ => h2 a b ha hb' hx1 hx2 e⟩
  refine ⟨fun e => bad (Or.inl (xo.inj (inx7 ha) (inx7 hb') e)), fun e => ⟨fun e2 => bad (Or.inr (fun v hv z => ?_)), fun e2 => ⟨fun e3 => bad (Or.inr (fun v hv z => ?_)), fun e3 => ⟨fun _ => ⟨rfl, xa.1, _, xa.2.1, xg.1, _, xg.2.2.1, xd.1.1, ls_size' xd.1 ⟨_, rfl, fun e4 => ?_, fun e4 => ?_⟩⟩, fun z => absurd z (by decide)⟩⟩⟩⟩
  · rw [z] at e2; exact nI_pos (by omega) e2
  · rw [z] at e3; exact nI_nlt (a := 3) (by omega) (by omega) e3
  · have hab : a ≠ b := fun z => e (by rw [z])
    obtain ⟨v, hv31, hx3⟩ := nI_of e2
    have hv : v < 4 := by
      rcases Nat.lt_or_ge v 4 with z | z
      · exact z
      · exact absurd (by rw [hx3]; exact nI_lt (a := 3) (by omega) (by omega)) e3
    exact ⟨fun z => absurd rfl z, fun _ => h3 a b v ha hb' hx1 hx2 hab hv hx3 (by have := (nI_leI (a := 16) (by omega) (by omega)).mp e4; omega)⟩
  · have hab : a ≠ b := fun z => e (by rw [z])
    obtain ⟨v, hv31, hx3⟩ := nI_of e2
    have hv : v < 4 := by
      rcases Nat.lt_or_ge v 4 with z | z
      · exact z
      · exact absurd (by rw [hx3]; exact nI_lt (a := 3) (by omega) (by omega)) e3
    have hlt : A 482 0 < 16 := by
      rcases Nat.lt_or_ge (A 482 0) 16 with z | z
      · exact z
      · exact absurd (nI_le (a := 16) z (by omega)) e4
    refine ⟨fun _ => ⟨rfl, ?_⟩, fun z => absurd z (by decide)⟩
    have fin := h0 a b v ha hb' hx1 hx2 hab hv hx3 hlt
    have hvb := vbit v hv
    rw [hx3]
    clear h1 h2 h3 h0 bad
    have za := (xo 7 a (inx7 ha)).1
    have zb := (xo 7 b (inx7 hb')).1
    have zla := (xo 11 a (inx11 ha)).1
    have zlb := (xo 11 b (inx11 hb')).1
    have z2 := (xo 2 0 (inx0 (by decide))).1
    have z3 := (xo 3 0 (inx0 (by decide))).1
    have nlab : g 11 b ≠ g 11 a := fun z => hab (xo.inj (inx11 hb') (inx11 ha) z).symm
    have n2 : ∀ i, i < A 481 0 → g 11 i ≠ g 2 0 := fun i hi => xo.ns (inx0 (by decide)) 11 i (inx11 hi) (by omega)
    have n3 : ∀ i, i < A 481 0 → g 11 i ≠ g 3 0 := fun i hi => xo.ns (inx0 (by decide)) 11 i (inx11 hi) (by omega)
    have n23 : g 3 0 ≠ g 2 0 := xo.ns (inx0 (by decide)) 3 0 (inx0 (by decide)) (by omega)
    obtain ⟨na1, na2, na3, na4⟩ := xn.2 a ha
    obtain ⟨nb1, nb2, nb3, nb4⟩ := xn.2 b hb'
    have la20 : ((inc A a).map (g 9)).length ≤ 20 := by rw [List.length_map]; have := inc_le ok.2.2.2.2.2 a; omega
    have lb20 : ((inc A b).map (g 9)).length ≤ 20 := by rw [List.length_map]; have := inc_le ok.2.2.2.2.2 b; omega
    intro q1 hq1
    refine xo_place hw hq1 (Or.inr rfl) (fun P1 Lm hLm t1 hw1 kq1 rq1 lq1 _ fq1 qz1 => ⟨rfl, ?_⟩)
    refine ⟨t1.k hw xa.1, _, t1.r (hw.lt xa.1) xa.2.1, t1.k hw xg.1, _, t1.r (hw.lt xg.1) xg.2.2.1, t1.k hw xd.1.1, ?_⟩
    refine ls_add hw1 (t1.2.2.2 _ _ _ _ (fun z => z) xd.1) (Or.inl (by rw [rg_len]; omega)) kq1 (fun P2 t2 hw2 ld2 => ⟨_, rfl, ?_⟩)
    have t12 : Tr P P2 (fun M => M = g 2 0) := t1.trans t2 (fun _ z => z.elim) (fun _ z => z)
    have lm2 : Lst P2 Lm 5 2 [] := t2.2.2.2 _ _ _ _ (by omega) lq1
    have kq2 : p_k P2 q1 = 9 := t2.k hw1 kq1
    have rq2 : p_r P2 320 q1 = some Lm := t2.r qz1 rq1
    have fq2 : p_i P2 321 q1 = 0 := t2.i qz1 fq1
    have qz2 : q1 < p_z P2 := Nat.lt_of_lt_of_le qz1 t2.1
    have lmz2 : Lm < p_z P2 := hw2.lt lm2.1
    have zz2 := t12.1
    refine ⟨t12.k hw xa.1, _, t12.r (hw.lt xa.1) xa.2.1, t12.k hw xg.1, _, t12.r (hw.lt xg.1) xg.2.2.2.1, ?_⟩
    intro q2 hq2
    have step1 : ∀ (t0 : Int32), t0 = nI (v % 2) → wb_Wa_pipe_118 po th (s_new P2 q2 4) x (nI v) (g 7 b) (nI (A 482 0)) q1 t0 ((2 : Int32) * nI (A 482 0)) (g 7 a) q1 q2 q2 (g 3 0) := by
      intro t0 ht0
      have e2n : (2 : Int32) * nI (A 482 0) = nI (2 * A 482 0) := pk_mul 2 (A 482 0)
      rw [e2n]
      refine xo_end hw2 hq2 (Or.inr kq2) (Or.inl (t12.k hw na1)) rq2 (t12.r (hw.lt na1) na3) lm2 (t12.2.2.2 _ _ _ _ (n2 a ha) na4) (by decide) la20 (by omega) (by omega) rfl ht0 ?_
      intro P3 t3 hw3 k3 r60 r61 i62 i63 i64 i65 i66 lm3 la3 qz3
      have t23 : Tr P P3 (fun M => M = g 2 0 ∨ M = g 11 a) := (t12.trans t3 (T := fun M => M = g 2 0 ∨ M = Lm ∨ M = g 11 a) (fun _ z => Or.inl z) (fun _ z => Or.inr z)).2.2.2 |> fun hl => ⟨Nat.le_trans t12.1 t3.1, t3.2.1.trans t12.2.1, fun c hc => (t12.2.2.1 c hc).trans (t3.2.2.1 c (Nat.lt_of_lt_of_le hc t12.1)), fun L k w l hn hL => hl L k w l (fun z => by
        have := hw.lt hL.1
        rcases z with z | z | z
        · exact hn (Or.inl z)
        · omega
        · exact hn (Or.inr z)) hL⟩
      have l33 : Lst P3 (g 3 0) 5 32 (rg (2 * A 482 0) (g 9)) := t23.2.2.2 _ _ _ _ (fun z => z.elim n23 (fun z => n3 a ha z.symm)) xe.1
      refine ⟨rfl, l33.1, ls_add hw3 l33 (Or.inr (by rw [rg_len]; omega)) k3 (fun P4 t4 hw4 l34 => ⟨_, rfl, ?_⟩)⟩
      have t24 : Tr P P4 (fun M => M = g 2 0 ∨ M = g 11 a ∨ M = g 3 0) := t23.trans t4 (fun _ z => z.elim Or.inl (fun z => Or.inr (Or.inl z))) (fun _ z => Or.inr (Or.inr z))
      have zz3 := t3.1
      have zz4 := t4.1
      have lm4 : Lst P4 Lm 5 2 [q2] := t4.2.2.2 _ _ _ _ (by omega) lm3
      have la4 : Lst P4 (g 11 a) 5 2 ((inc A a).map (g 9) ++ [q2]) := t4.2.2.2 _ _ _ _ (n3 a ha) la3
      have kq4 : p_k P4 q1 = 9 := t4.k hw3 (t3.k hw2 kq2)
      have rq4 : p_r P4 320 q1 = some Lm := t4.r (by omega) (t3.r qz2 rq2)
      have fq4 : p_i P4 321 q1 = 0 := t4.i (by omega) (t3.i qz2 fq2)
      have lmz4 : Lm < p_z P4 := hw4.lt lm4.1
      refine ⟨t24.k hw xa.1, _, t24.r (hw.lt xa.1) xa.2.1, t24.k hw xg.1, _, t24.r (hw.lt xg.1) xg.2.2.2.1, ?_⟩
      intro q3 hq3
      have step2 : ∀ (t0 : Int32), t0 = nI (v / 2) → wb_Wa_pipe_158 po th (s_new P4 q3 4) (nI (A 482 0)) t0 ((2 : Int32) * nI (A 482 0) + 1) (g 7 b) q1 q3 q3 (g 3 0) := by
        intro t0 ht0
        have e2n' : (2 : Int32) * nI (A 482 0) + 1 = nI (2 * A 482 0 + 1) := by rw [e2n, ← nI_succ]
        rw [e2n']
        refine xo_end hw4 hq3 (Or.inr kq4) (Or.inl (t24.k hw nb1)) rq4 (t24.r (hw.lt nb1) nb3) lm4 (t24.2.2.2 _ _ _ _ (fun z => z.elim (n2 b hb') (fun z => z.elim nlab (n3 b hb'))) nb4) (by show 1 ≤ 20; omega) lb20 (by omega) (by omega) rfl ht0 ?_
        intro P5 t5 hw5 k5 s60 s61 s62 s63 s64 s65 s66 lm5 lb5 qz5
        have t45 : Tr P P5 (fun M => M = g 2 0 ∨ M = g 11 a ∨ M = g 3 0 ∨ M = g 11 b) := ⟨Nat.le_trans t24.1 t5.1, t5.2.1.trans t24.2.1, fun c hc => (t24.2.2.1 c hc).trans (t5.2.2.1 c (Nat.lt_of_lt_of_le hc t24.1)), fun L k w l hn hL => t5.2.2.2 L k w l (fun z => by
          have := hw.lt hL.1
          rcases z with z | z
          · omega
          · exact hn (Or.inr (Or.inr (Or.inr z)))) (t24.2.2.2 L k w l (fun z => hn (z.elim Or.inl (fun z => Or.inr (z.elim Or.inl (fun z => Or.inr (Or.inl z)))))) hL)⟩
        have zz5 := t5.1
        have l35 : Lst P5 (g 3 0) 5 32 (rg (2 * A 482 0) (g 9) ++ [q2]) := t5.2.2.2 _ _ _ _ (fun z => by
          rcases z with z | z
          · omega
          · exact n3 b hb' z.symm) l34
        refine ⟨rfl, l35.1, ls_add hw5 l35 (Or.inr (by rw [List.length_append, rg_len]; show _ + 1 < 32; omega)) k5 (fun P6 t6 hw' l36 => ⟨_, rfl, ?_⟩)⟩
        have zz6 := t6.1
        have t56 : Tr P P6 (fun M => M = g 2 0 ∨ M = g 11 a ∨ M = g 3 0 ∨ M = g 11 b) := t45.trans t6 (fun _ z => z) (fun _ z => Or.inr (Or.inr (Or.inl z)))
        have t : TX P P6 (fun M => M = g 2 0 ∨ M = g 11 a ∨ M = g 3 0 ∨ M = g 11 b) (fun _ => false) := t56.tx _
        have lm6 : Lst P6 Lm 5 2 [q2, q3] := t6.2.2.2 _ _ _ _ (by omega) lm5
        have la6 : Lst P6 (g 11 a) 5 2 ((inc A a).map (g 9) ++ [q2]) := t6.2.2.2 _ _ _ _ (n3 a ha) (t5.2.2.2 _ _ _ _ (fun z => by
          rcases z with z | z
          · omega
          · exact nlab z.symm) la4)
        have lb6 : Lst P6 (g 11 b) 5 2 ((inc A b).map (g 9) ++ [q3]) := t6.2.2.2 _ _ _ _ (n3 b hb') lb5
        have ld6 : Lst P6 (g 2 0) 9 16 (rg (A 482 0) (g 8) ++ [q1]) := t6.2.2.2 _ _ _ _ (fun z => n23 z.symm) (t5.2.2.2 _ _ _ _ (fun z => by
          rcases z with z | z
          · omega
          · exact n2 b hb' z.symm) (t4.2.2.2 _ _ _ _ (fun z => n23 z.symm) (t3.2.2.2 _ _ _ _ (fun z => by
          rcases z with z | z
          · omega
          · exact n2 a ha z.symm) ld2)))
        have t46 : Tr P4 P6 (fun M => M = Lm ∨ M = g 11 b ∨ M = g 3 0) := t5.trans t6 (fun _ z => z.elim Or.inl (fun z => Or.inr (Or.inl z))) (fun _ z => Or.inr (Or.inr z))
        have t36 : Tr P3 P6 (fun M => M = Lm ∨ M = g 11 b ∨ M = g 3 0) := t4.trans t46 (fun _ z => Or.inr (Or.inr z)) (fun _ z => z)
        have k61 : p_k P6 q1 = 9 := t46.k hw4 kq4
        have r61' : p_r P6 320 q1 = some Lm := t46.r (by omega) rq4
        have f61 : p_i P6 321 q1 = 0 := t46.i (by omega) fq4
        have lmz6 : Lm < p_z P6 := hw'.lt lm6.1
        generalize hp : A 482 0 = p at *
        generalize hA' : up2 (up2 (up2 (up2 (up2 (up2 (up2 A 485 (2 * p) a) 485 (2 * p + 1) b) 486 (2 * p) (v % 2)) 487 (2 * p) 1) 486 (2 * p + 1) (v / 2)) 487 (2 * p + 1) 1) 482 0 (p + 1) = A' at fin
        have eA : ∀ f, f ∉ [482, 485, 486, 487] → A' f = A f := fun f hf => by
          rw [← hA', up2_fn _ _ (fun z => hf (by rw [z]; decide)), up2_fn _ _ (fun z => hf (by rw [z]; decide)), up2_fn _ _ (fun z => hf (by rw [z]; decide)), up2_fn _ _ (fun z => hf (by rw [z]; decide)), up2_fn _ _ (fun z => hf (by rw [z]; decide)), up2_fn _ _ (fun z => hf (by rw [z]; decide)), up2_fn _ _ (fun z => hf (by rw [z]; decide))]
        have eB : ∀ f, f ∉ [0] → B f = B f := fun f hf => rfl
        have e82 : A' 482 0 = p + 1 := by rw [← hA', up2_eq]
        have e85 : ∀ w, A' 485 w = if w = 2 * p + 1 then b else if w = 2 * p then a else A 485 w := fun w => by
          rw [← hA', up2_ne _ _ (Or.inl (by decide)), up2_ne _ _ (Or.inl (by decide)), up2_ne _ _ (Or.inl (by decide)), up2_ne _ _ (Or.inl (by decide)), up2_ne _ _ (Or.inl (by decide))]
          by_cases c : w = 2 * p + 1
          · rw [if_pos c, c, up2_eq]
          · rw [if_neg c, up2_ne _ _ (Or.inr c)]
            by_cases c' : w = 2 * p
            · rw [if_pos c', c', up2_eq]
            · rw [if_neg c', up2_ne _ _ (Or.inr c')]
        have e86 : ∀ w, A' 486 w = if w = 2 * p + 1 then v / 2 else if w = 2 * p then v % 2 else A 486 w := fun w => by
          rw [← hA', up2_ne _ _ (Or.inl (by decide)), up2_ne _ _ (Or.inl (by decide))]
          by_cases c : w = 2 * p + 1
          · rw [if_pos c, c, up2_eq]
          · rw [if_neg c, up2_ne _ _ (Or.inr c), up2_ne _ _ (Or.inl (by decide))]
            by_cases c' : w = 2 * p
            · rw [if_pos c', c', up2_eq]
            · rw [if_neg c', up2_ne _ _ (Or.inr c'), up2_ne _ _ (Or.inl (by decide)), up2_ne _ _ (Or.inl (by decide))]
        have e87 : ∀ w, A' 487 w = if w = 2 * p + 1 then 1 else if w = 2 * p then 1 else A 487 w := fun w => by
          rw [← hA', up2_ne _ _ (Or.inl (by decide))]
          by_cases c : w = 2 * p + 1
          · rw [if_pos c, c, up2_eq]
          · rw [if_neg c, up2_ne _ _ (Or.inr c), up2_ne _ _ (Or.inl (by decide))]
            by_cases c' : w = 2 * p
            · rw [if_pos c', c', up2_eq]
            · rw [if_neg c', up2_ne _ _ (Or.inr c'), up2_ne _ _ (Or.inl (by decide)), up2_ne _ _ (Or.inl (by decide)), up2_ne _ _ (Or.inl (by decide))]
        have hni : ∀ T i, (T = 8 ∨ T = 12) ∧ i = p ∨ T = 9 ∧ 2 * p ≤ i → ¬ InY A T i := by intro T i hT; unfold InY InX; omega
        have ag : Ag A g (up2 (up2 (up2 (up2 g 8 p q1) 12 p Lm) 9 (2 * p) q2) 9 (2 * p + 1) q3) := ((((Ag.rfl' A g).up q1 (hni _ _ (by omega))).up Lm (hni _ _ (by omega))).up q2 (hni _ _ (by omega))).up q3 (hni _ _ (by omega))
        have e8 : ∀ i, up2 (up2 (up2 (up2 g 8 p q1) 12 p Lm) 9 (2 * p) q2) 9 (2 * p + 1) q3 8 i = if i = p then q1 else g 8 i := fun i => by
          rw [up2_ne _ _ (Or.inl (by decide)), up2_ne _ _ (Or.inl (by decide)), up2_ne _ _ (Or.inl (by decide))]
          by_cases c : i = p
          · rw [if_pos c, c, up2_eq]
          · rw [if_neg c, up2_ne _ _ (Or.inr c)]
        have e12 : ∀ i, up2 (up2 (up2 (up2 g 8 p q1) 12 p Lm) 9 (2 * p) q2) 9 (2 * p + 1) q3 12 i = if i = p then Lm else g 12 i := fun i => by
          rw [up2_ne _ _ (Or.inl (by decide)), up2_ne _ _ (Or.inl (by decide))]
          by_cases c : i = p
          · rw [if_pos c, c, up2_eq]
          · rw [if_neg c, up2_ne _ _ (Or.inr c), up2_ne _ _ (Or.inl (by decide))]
        have e9 : ∀ i, up2 (up2 (up2 (up2 g 8 p q1) 12 p Lm) 9 (2 * p) q2) 9 (2 * p + 1) q3 9 i = if i = 2 * p + 1 then q3 else if i = 2 * p then q2 else g 9 i := fun i => by
          by_cases c : i = 2 * p + 1
          · rw [if_pos c, c, up2_eq]
          · rw [if_neg c, up2_ne _ _ (Or.inr c)]
            by_cases c' : i = 2 * p
            · rw [if_pos c', c', up2_eq]
            · rw [if_neg c', up2_ne _ _ (Or.inr c'), up2_ne _ _ (Or.inl (by decide)), up2_ne _ _ (Or.inl (by decide))]
        have e7 : ∀ i, up2 (up2 (up2 (up2 g 8 p q1) 12 p Lm) 9 (2 * p) q2) 9 (2 * p + 1) q3 7 i = g 7 i := fun i => by
          rw [up2_ne _ _ (Or.inl (by decide)), up2_ne _ _ (Or.inl (by decide)), up2_ne _ _ (Or.inl (by decide)), up2_ne _ _ (Or.inl (by decide))]
        have e11 : ∀ i, up2 (up2 (up2 (up2 g 8 p q1) 12 p Lm) 9 (2 * p) q2) 9 (2 * p + 1) q3 11 i = g 11 i := fun i => by
          rw [up2_ne _ _ (Or.inl (by decide)), up2_ne _ _ (Or.inl (by decide)), up2_ne _ _ (Or.inl (by decide)), up2_ne _ _ (Or.inl (by decide))]
        generalize hg' : up2 (up2 (up2 (up2 g 8 p q1) 12 p Lm) 9 (2 * p) q2) 9 (2 * p + 1) q3 = g' at *
        have nS : ∀ t i, InX A t i → t ≠ 2 ∧ t ≠ 3 ∧ t ≠ 11 → ¬ (g t i = g 2 0 ∨ g t i = g 11 a ∨ g t i = g 3 0 ∨ g t i = g 11 b) := fun t i hi hne z => by
          rcases z with z | z | z | z
          · exact xo.ns (inx0 (by decide)) t i hi (by omega) z
          · exact xo.ns (inx11 ha) t i hi (by omega) z
          · exact xo.ns (inx0 (by decide)) t i hi (by omega) z
          · exact xo.ns (inx11 hb') t i hi (by omega) z
        refine fin P6 g' (va_up (va_up (va_up (va_up ow q1 (8, p)) Lm (12, p)) q2 (9, 2 * p)) q3 (9, 2 * p + 1)) (t.xm (fun _ _ _ => rfl) rfl) ⟨hw', ((xa.tx hw t rfl).cG ag).cA (eA _ (by decide)), (xg.tx hw t).cG ag, ?_, ?_, ?_, ⟨fun w => if w < 2 * p then pl w else 0, ?_⟩, ?_, ((xc.tx hw t rfl (nS 4 0 (inx0 (by decide)) (by omega))).cG ok.2.1 ag).cA (eA _ (by decide)) (eA _ (by decide)) (eB _ (by decide)), ((xr.tx hw t ⟨rfl, rfl, rfl, rfl⟩ (fun i hi => nS 13 i (inx13 hi) (by omega))).cG ag).cA (eA _ (by decide)) (eA _ (by decide)) (eA _ (by decide)) (eA _ (by decide)) (eA _ (by decide)) (eA _ (by decide)), ((xb.tx hw t ⟨rfl, rfl, rfl⟩ (fun i hi => nS 14 i (inx14 hi) (by omega))).cG ag).cA (eA _ (by decide)) (eA _ (by decide)) (eA _ (by decide)) (eA _ (by decide)) (eB _ (by decide)), ((xt.tx hw t ⟨rfl, rfl⟩ (nS 5 0 (inx0 (by decide)) (by omega))).cG ag).cA (eA _ (by decide)) (eA _ (by decide)) (eB _ (by decide)), ?_⟩
        · unfold XN
          rw [eA 481 (by decide)]
          refine ⟨by rw [ag.g0 1, rg_congr (fun i _ => e7 i)]; exact t.2.2 _ _ _ _ (nS 1 0 (inx0 (by decide)) (by omega)) xn.1, fun i hi => ?_⟩
          obtain ⟨a1, a2, a3, a4⟩ := xn.2 i hi
          have hx := hw.lt a1
          rw [e7, e11, eA 484 (by decide)]
          refine ⟨t.k hw a1, t.i hx rfl a2, t.r hx a3, ?_⟩
          have ei : inc A' i = inc A i ++ (if a = i then [2 * p] else []) ++ (if b = i then [2 * p + 1] else []) := inc_pipe hp e82 (by rw [e85, if_neg (by omega), if_pos rfl]) (by rw [e85, if_pos rfl]) (fun w hw => by rw [e85, if_neg (by omega), if_neg (by omega)])
          have em : (inc A i).map (g' 9) = (inc A i).map (g 9) := List.map_congr_left (fun w hw => by have := (inc_lt hw).1; rw [e9, if_neg (by omega), if_neg (by omega)])
          rw [ei, List.map_append, List.map_append, em]
          by_cases c : a = i
          · subst c
            rw [if_pos rfl, if_neg (fun z => hab z.symm)]
            show Lst P6 (g 11 a) 5 2 ((inc A a).map (g 9) ++ [g' 9 (2 * p)] ++ [])
            rw [e9, if_neg (by omega), if_pos rfl, List.append_nil]; exact la6
          · rw [if_neg c]
            by_cases c' : b = i
            · subst c'
              rw [if_pos rfl]
              show Lst P6 (g 11 b) 5 2 ((inc A b).map (g 9) ++ [] ++ [g' 9 (2 * p + 1)])
              rw [e9, if_pos rfl, List.append_nil]; exact lb6
            · rw [if_neg c']
              show Lst P6 (g 11 i) 5 2 ((inc A i).map (g 9) ++ [] ++ [])
              rw [List.append_nil, List.append_nil]
              refine t.2.2 _ _ _ _ (fun z => ?_) a4
              rcases z with z | z | z | z
              · exact n2 i hi z
              · exact c (xo.inj (inx11 hi) (inx11 ha) z).symm
              · exact n3 i hi z
              · exact c' (xo.inj (inx11 hi) (inx11 hb') z).symm
        · unfold XD
          rw [e82]
          refine ⟨?_, fun j hj => ?_⟩
          · rw [ag.g0 2, rg_succ, rg_congr (f := g 8) (fun i hi => by rw [e8, if_neg (by omega)]), e8, if_pos rfl]; exact ld6
          · rw [e8, e12, e9, e9]
            by_cases c : j = p
            · subst c
              rw [if_pos rfl, if_pos rfl, if_neg (by omega), if_pos rfl, if_pos rfl]
              exact ⟨k61, r61', lm6⟩
            · rw [if_neg c, if_neg c, if_neg (by omega), if_neg (by omega), if_neg (by omega), if_neg (by omega)]
              obtain ⟨a1, a3, a4⟩ := xd.2 j (by omega)
              have hx := hw.lt a1
              exact ⟨t.k hw a1, t.r hx a3, t.2.2 _ _ _ _ (nS 12 j (inx12 (by omega)) (by omega)) a4⟩
        · unfold XE
          have ep : 2 * (p + 1) = 2 * p + 1 + 1 := by omega
          rw [e82, ep]
          refine ⟨?_, fun w hwl => ?_⟩
          · rw [ag.g0 3, rg_succ, rg_succ, rg_congr (f := g 9) (fun i hi => by rw [e9, if_neg (by omega), if_neg (by omega)]), e9, if_neg (by omega), if_pos rfl, e9, if_pos rfl]; exact l36
          · rw [e9, e8, e7, e85, e86, e87, eA 488 (by decide)]
            by_cases c : w = 2 * p + 1
            · subst c
              rw [if_pos rfl, if_pos rfl, if_pos rfl, if_pos rfl, if_pos (by omega), ok.1.2.2.2.2.1 _ (by omega)]
              exact ⟨t6.k hw5 k5, t6.r qz5 s60, t6.r qz5 s61, t6.i qz5 s62, t6.i qz5 s63, t6.i qz5 s64, t6.i qz5 s65⟩
            · rw [if_neg c, if_neg c, if_neg c, if_neg c]
              by_cases c' : w = 2 * p
              · subst c'
                rw [if_pos rfl, if_pos rfl, if_pos rfl, if_pos rfl, if_pos (by omega), ok.1.2.2.2.2.1 _ (by omega)]
                exact ⟨t36.k hw3 k3, t36.r qz3 r60, t36.r qz3 r61, t36.i qz3 i62, t36.i qz3 i63, t36.i qz3 i64, t36.i qz3 i65⟩
              · rw [if_neg c', if_neg c', if_neg c', if_neg c', if_neg (by omega)]
                obtain ⟨a1, a2, a3, a4, a5, a6, a7⟩ := xe.2 w (by omega)
                have hx := hw.lt a1
                exact ⟨t.k hw a1, t.r hx a2, t.r hx a3, t.i hx rfl a4, t.i hx rfl a5, t.i hx rfl a6, t.i hx rfl a7⟩
        · intro w hwl
          have ep : 2 * (p + 1) = 2 * p + 1 + 1 := by omega
          rw [e82, ep] at hwl
          show (if w < 2 * p then pl w else 0) ≤ 1 ∧ p_i P6 166 (g' 9 w) = nI (if w < 2 * p then pl w else 0)
          rw [e9]
          by_cases c : w = 2 * p + 1
          · subst c
            rw [if_pos rfl, if_neg (by omega)]
            exact ⟨Nat.zero_le 1, t6.i qz5 s66⟩
          · rw [if_neg c]
            by_cases c' : w = 2 * p
            · subst c'
              rw [if_pos rfl, if_neg (by omega)]
              exact ⟨Nat.zero_le 1, t36.i qz3 i66⟩
            · rw [if_neg c', if_pos (by omega)]
              exact ⟨(xp w (by omega)).1, t.i (hw.lt (xe.2 w (by omega)).1) rfl (xp w (by omega)).2⟩
        · unfold XF
          have xf' := xf.tx xg xn xd hw t ⟨rfl, rfl⟩
          rw [ag.g0 0, e82, eA 481 (by decide)]
          refine ⟨xf'.1, fun i hi => by rw [e7]; exact xf'.2.1 i hi, fun j hj => ?_⟩
          rw [e8]
          by_cases c : j = p
          · rw [if_pos c]; exact ⟨0, Nat.zero_le _, f61⟩
          · rw [if_neg c]; exact xf'.2.2 j (by omega)
        · intro T i hi
          have zz : p_z P ≤ p_z P6 := t.1
          have hq3z : q3 < p_z P6 := by omega
          by_cases c : (T = 8 ∨ T = 12) ∧ i = p ∨ T = 9 ∧ (i = 2 * p ∨ i = 2 * p + 1)
          · rcases c with ⟨c | c, c'⟩ | ⟨c, c' | c'⟩ <;> subst c <;> subst c'
            · rw [e8, if_pos rfl]
              refine ⟨by omega, ?_⟩
              rw [va_up, if_neg (by omega), va_up, if_neg (by omega), va_up, if_neg (by omega), va_up, if_pos rfl]
            · rw [e12, if_pos rfl]
              refine ⟨by omega, ?_⟩
              rw [va_up, if_neg (by omega), va_up, if_neg (by omega), va_up, if_pos rfl]
            · rw [e9, if_neg (by omega), if_pos rfl]
              refine ⟨by omega, ?_⟩
              rw [va_up, if_neg (by omega), va_up, if_pos rfl]
            · rw [e9, if_pos rfl]
              refine ⟨by omega, ?_⟩
              rw [va_up, if_pos rfl]
          · have hi' : InX A T i := by
              unfold InX at hi ⊢
              rw [eA 481 (by decide), eA 483 (by decide), eA 504 (by decide), e82] at hi
              rw [hp]
              rcases hi with z | z | z | z | z
              · exact Or.inl z
              · exact Or.inr (Or.inl z)
              · exact Or.inr (Or.inr (Or.inl (by omega)))
              · exact Or.inr (Or.inr (Or.inr (Or.inl (by omega))))
              · exact Or.inr (Or.inr (Or.inr (Or.inr z)))
            have o := xo T i hi'
            rw [ag T i (Or.inl hi')]
            refine ⟨by omega, ?_⟩
            rw [va_up, if_neg (by omega), va_up, if_neg (by omega), va_up, if_neg (by omega), va_up, if_neg (by omega)]; exact o.2
      refine ⟨fun z => step2 0 ?_, fun z => step2 1 ?_⟩
      · rw [hvb.2.2.2] at z
        by_cases c : v / 2 = 1
        · rw [if_pos c] at z; exact absurd rfl z
        · have : v / 2 = 0 := by omega
          rw [this]; rfl
      · rw [hvb.2.2.2] at z
        by_cases c : v / 2 = 1
        · rw [c]; rfl
        · rw [if_neg c] at z; exact absurd z (by decide)
    refine ⟨fun z => step1 0 ?_, fun z => step1 1 ?_⟩
    · rw [hvb.2.2.1] at z
      by_cases c : v % 2 = 1
      · rw [if_pos c] at z; exact absurd rfl z
      · have : v % 2 = 0 := by omega
        rw [this]; rfl
    · rw [hvb.2.2.1] at z
      by_cases c : v % 2 = 1
      · rw [c]; rfl
      · rw [if_neg c] at z; exact absurd z (by decide)
