/-! carryOut (component) -/
theorem rx_open {P : Pic} {x : Nat} {g : Nat → Nat → Nat} {ow : Nat → Nat × Nat} {fl : Nat} {A : Nat → Nat → Nat} {B : Nat → Nat → Int64} {v b : Nat} (h : RX P x g ow fl A B) (hV : v < 2 * A 482 0) : TX P (s_i P 164 (g 9 v) (nI b)) (fun _ => False) (fun y => y == 164) ∧ RX (s_i P 164 (g 9 v) (nI b)) x g ow fl (up2 A 487 v b) B := by
  obtain ⟨hw, xa, xg, xn, xd, xe, ⟨pl, xp⟩, xf, xc, xr, xb, xt, xo⟩ := id h
  have t : TX P (s_i P 164 (g 9 v) (nI b)) (fun _ => False) (fun y => y == 164) := tx_i P 164 (by decide) _ _ _ rfl
  have hw' : Wf (s_i P 164 (g 9 v) (nI b)) := wf_i hw _ _ _
  have eA : ∀ f, f ∉ [487] → (up2 A 487 v b) f = A f := fun f hf => up2_fn A b (fun z => hf (by rw [z]; decide))
  have eB : ∀ f, f ∉ [0] → B f = B f := fun f hf => rfl
  refine ⟨t, ⟨hw', (xa.tx hw t rfl).cA (eA _ (by decide)), xg.tx hw t, (xn.tx hw t rfl (fun z => z) (fun _ _ z => z)).cA (eA _ (by decide)) (eA _ (by decide)) (eA _ (by decide)) (eA _ (by decide)), (xd.tx hw t (fun z => z) (fun _ _ z => z)).cA (eA _ (by decide)), ?_, ⟨pl, (xp.tx xe hw t rfl).cA (eA _ (by decide))⟩, (xf.tx xg xn xd hw t ⟨rfl, rfl⟩).cA (eA _ (by decide)) (eA _ (by decide)), (xc.tx hw t rfl (fun z => z)).cA (eA _ (by decide)) (eA _ (by decide)) (eB _ (by decide)), (xr.tx hw t ⟨rfl, rfl, rfl, rfl⟩ (fun _ _ z => z)).cA (eA _ (by decide)) (eA _ (by decide)) (eA _ (by decide)) (eA _ (by decide)) (eA _ (by decide)) (eA _ (by decide)), (xb.tx hw t ⟨rfl, rfl, rfl⟩ (fun _ _ z => z)).cA (eA _ (by decide)) (eA _ (by decide)) (eA _ (by decide)) (eA _ (by decide)) (eB _ (by decide)), (xt.tx hw t ⟨rfl, rfl⟩ (fun z => z)).cA (eA _ (by decide)) (eA _ (by decide)) (eB _ (by decide)), (xo.tx t).cA (eA _ (by decide)) (eA _ (by decide)) (eA _ (by decide)) (eA _ (by decide))⟩⟩
  refine ⟨by rw [eA 482 (by decide)]; exact t.2.2 _ _ _ _ (fun z => z) xe.1, fun i hi => ?_⟩
  rw [eA 482 (by decide)] at hi
  obtain ⟨a1, a2, a3, a4, a5, a6, a7⟩ := xe.2 i hi
  refine ⟨a1, a2, by rw [eA 485 (by decide)]; exact a3, t.i (hw.lt a1) rfl a4, by rw [eA 486 (by decide)]; exact t.i (hw.lt a1) rfl a5, ?_, by rw [eA 488 (by decide)]; exact t.i (hw.lt a1) rfl a7⟩
  rw [gpi_i]
  by_cases e : i = v
  · rw [if_pos ⟨rfl, by rw [e]⟩, e, up2_eq]
  · rw [if_neg (fun z => e (xo.inj (inx9 hi) (inx9 hV) z.2)), up2_ne _ _ (Or.inr e)]; exact a6
theorem OkN_cO {A : Nat → Nat → Nat} (ok : OkN A) (j : Nat) : OkN (row A 487 (cO A (plS A j 32))) := by
  obtain ⟨o1, o2, o3, o4, o5, o6⟩ := ok
  unfold OkN
  rw [row_ne A _ (F := 481) (by decide), row_ne A _ (F := 482) (by decide), row_ne A _ (F := 484) (by decide), row_ne A _ (F := 485) (by decide), row_ne A _ (F := 486) (by decide), row_ne A _ (F := 488) (by decide), row_eq]
  refine ⟨o1, o2, o3, fun v hv => ⟨(o4 v hv).1, fun h6 => ?_⟩, o5, fun v => ⟨(o6 v).1, (o6 v).2.1, ?_, (o6 v).2.2.2⟩⟩
  · unfold cO
    by_cases c : plS A j 32 v ≠ 0
    · exact absurd h6 (ind_ne.mp (plS_sub A j 32 v c)).2.2.1
    · rw [if_neg c]; exact (o4 v hv).2 h6
  · unfold cO; split
    · omega
    · exact (o6 v).2.2.1
theorem xo_carryOut {P : Pic} {x : Nat} {g : Nat → Nat → Nat} {ow : Nat → Nat × Nat} {fl : Nat} {A : Nat → Nat → Nat} {B : Nat → Nat → Int64} {po : Option Value → Pic → Prop} {th : String → Pic → Prop} {x1 : Int32} (h : RX P x g ow fl A B) (ok : Ok A B) (hfl : fl + 100 < 2 ^ 30)
    (h1 : (∀ j, j < A 482 0 → x1 ≠ nI j) → th "java/lang/IndexOutOfBoundsException" P)
    (h0 : ∀ j, j < A 482 0 → x1 = nI j → Fq A j → ∀ P' fl', XM P P' → fl' ≤ fl + 50 → RX P' x g ow fl' A B → po (some (.int (-1))) P')
    (h2 : ∀ j, j < A 482 0 → x1 = nI j → ¬ Fq A j → ∀ P' fl', XM P P' → fl' ≤ fl + 50 → RX P' x g ow fl' (row A 487 (cO A (plS A j 32))) B → po (some (.int (nI (cnt (plS A j 32) 32)))) P') : wp_Wa_carryOut po th P x x1 := by
  obtain ⟨pl0, ns, z⟩ := h.ns ok.1
  have hpp := ok.1.2.1
  obtain ⟨hw, xa, xg, xn, xd, xe, ⟨pl, xp⟩, xf, xc, xr, xb, xt, xo⟩ := id h
  refine ⟨xa.1, _, xa.2.1, xo_middleOf h ok.1.2.1 h1 (fun j hj hx => ⟨_, rfl, xg.1, ?_⟩)⟩
  refine ne_plan ok.1 ok.2.2.2.2.2 hj (by omega) ns z (fun hq P2 pl2 fl2' t2 n2 z2 hle hs => ⟨_, rfl, fun _ => ⟨2 * A 482 0 + 1, ?_⟩, fun z => absurd z (by decide)⟩) (fun hq P2 pl2 fl2' t2 n2 z2 hle hs => ⟨_, rfl, fun z => absurd rfl z, fun _ => h0 j hj hx hq P2 fl2' t2.xmG (by omega) (h.net ok.1 t2 n2 z2)⟩)
  have r2 := h.net ok.1 t2 n2 z2
  have e82 : ∀ i, row A 487 (fl2 (A 487) (cO A (plS A j 32)) i) 482 = A 482 := fun i => row_ne _ _ (by decide)
  have key : ∀ r i, i + r = 2 * A 482 0 → ∀ P3, XM P P3 → RX P3 x g ow fl2' (row A 487 (fl2 (A 487) (cO A (plS A j 32)) i)) B → XP P3 g A pl2 → wl_Wa_carryOut_19 po th (r + 1) P3 x (nI i) := by
    intro r
    induction r with
    | zero =>
      intro i hi P3 xm r3 xp3
      have : i = 2 * A 482 0 := hi
      subst this
      obtain ⟨hw3, xa3, xg3, xn3, xd3, xe3, _, _, _, _, _, _, xo3⟩ := id r3
      have er : row A 487 (fl2 (A 487) (cO A (plS A j 32)) (2 * A 482 0)) = row A 487 (cO A (plS A j 32)) := by
        have : fl2 (A 487) (cO A (plS A j 32)) (2 * A 482 0) = cO A (plS A j 32) := by
          funext v
          unfold fl2
          by_cases c : v < 2 * A 482 0
          · rw [if_pos c]
          · rw [if_neg c]; unfold cO; rw [plS_out hpp j 32 v (by omega), if_neg (fun z => z rfl)]
        rw [this]
      rw [er] at r3 xn3 xd3 xe3 xo3
      have e82' : row A 487 (cO A (plS A j 32)) 482 = A 482 := row_ne _ _ (by decide)
      have n3 : NS P3 g ow (row A 487 (cO A (plS A j 32))) pl2 := ⟨hw3, xg3, xn3, xd3, xe3, xp3.cA e82', xo3⟩
      have xe1 := xe3.1
      rw [e82'] at xe1
      refine ⟨xa3.1, _, xa3.2.1, xg3.1, _, xg3.2.2.2.1, xe1.1, ls_size' xe1 ⟨_, rfl, fun _ => ⟨_, xa3.2.1, xg3.1, ne_planned (OkN_cO ok.1 j) n3 ⟨_, rfl, ?_⟩⟩, fun z => absurd (nI_le (Nat.le_refl _) (by omega)) z⟩⟩
      rw [e82', cnt_pl ok.1 hs]
      exact h2 j hj hx hq P3 fl2' xm (by omega) r3
    | succ r ih =>
      intro i hi P3 xm r3 xp3
      have hii : i < 2 * A 482 0 := by omega
      obtain ⟨hw3, xa3, xg3, xn3, xd3, xe3, _, _, _, _, _, _, xo3⟩ := id r3
      have xe1 := xe3.1
      rw [e82] at xe1
      obtain ⟨a1, a2, a3, a4, a5, a6, a7⟩ := xe3.2 i (by rw [e82]; exact hii)
      have e7 : row A 487 (fl2 (A 487) (cO A (plS A j 32)) i) 487 i = A 487 i := by rw [row_eq, fl2, if_neg (by omega)]
      rw [e7] at a6
      have bo := (ok.1.2.2.2.2.2 i).2.2.1
      have set : ∀ (t0 : Int32) (b : Nat), nI (A 487 i) &&& t0 = nI b → b = cO A (plS A j 32) i → wb_Wa_carryOut_76 po th (wl_Wa_carryOut_19 po th (r + 1)) P3 x (nI i) t0 (nI (A 487 i)) (g 9 i) := by
        intro t0 b ht hb
        have hb1 : b ≤ 1 := by rw [hb]; unfold cO; split <;> omega
        refine ⟨a1, by rw [ht]; exact b01 hb1, fun y hy => ?_⟩
        rw [hy, ← nI_succ, ht]
        obtain ⟨t4, r4⟩ := rx_open (b := b) r3 (v := i) (by rw [e82]; exact hii)
        rw [up2_row, hb, fl2_s] at r4
        rw [hb] at t4 ⊢
        exact ih (i + 1) (by omega) _ (xm.trans (xm_of t4 (by decide))) r4 (fun v hv => ⟨(xp3 v hv).1, by
          rw [gpi_i, if_neg (by omega)]; exact (xp3 v hv).2⟩)
      refine ⟨xa3.1, _, xa3.2.1, xg3.1, _, xg3.2.2.2.1, xe1.1, ls_size' xe1 ⟨_, rfl, fun z => absurd z (nI_ge hii (by omega)), fun _ => ⟨_, xa3.2.1, xg3.1, _, xg3.2.2.2.1, xe1.1, ls_get' xe1 hii (fun hk5 => ⟨_, rfl, hk5, _, xa3.2.1, xg3.1, _, xg3.2.2.2.1, xe1.1, ls_get' xe1 hii (fun hk5' => ⟨_, rfl, hk5', ?_⟩)⟩)⟩⟩⟩
      have e6 := (xp3 i hii).2
      rw [hs i hii] at e6
      rw [e6, a6, b0 (plS_le A j 32 i)]
      have hand : ∀ a, a ≤ 1 → nI a &&& 0 = nI 0 ∧ nI a &&& 1 = nI a := by
        intro a ha
        have : a = 0 ∨ a = 1 := by omega
        rcases this with c | c <;> subst c <;> decide
      refine ⟨fun e => set 0 0 (hand _ bo).1 (by unfold cO; rw [if_pos e]), fun e => set 1 (A 487 i) (hand _ bo).2 (by unfold cO; rw [if_neg (fun z => z e)])⟩
  have xp2 : XP P2 g A pl2 := n2.2.2.2.2.2.1
  refine key (2 * A 482 0) 0 (by omega) P2 t2.xmG ?_ xp2
  rw [fl2_0, row_self]; exact r2
