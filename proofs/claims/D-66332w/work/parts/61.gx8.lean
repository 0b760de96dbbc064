/-! shutOff, plan (component) -/
theorem ne_planned {P : Pic} {g : Nat → Nat → Nat} {ow : Nat → Nat × Nat} {A : Nat → Nat → Nat} {pl : Nat → Nat} {po : Option Value → Pic → Prop} {th : String → Pic → Prop} (ok : OkN A) (ns : NS P g ow A pl) (hp : po (some (.int (nI (cnt pl (2 * A 482 0))))) P) : wp_Ne_planned po th P (g 0 0) := by
  have hpp := ok.2.1
  have xe := ns.2.2.2.2.1
  have xp := ns.2.2.2.2.2.1
  have key : ∀ r i, i + r = 2 * A 482 0 → wl_Ne_planned_4 po th (r + 1) P (g 0 0) (nI (cnt pl i)) (nI i) := by
    intro r
    induction r with
    | zero =>
      intro i hi
      have : i = 2 * A 482 0 := hi
      subst this
      exact ⟨ns.2.1.1, _, ns.2.1.2.2.2.1, xe.1.1, ls_size' xe.1 ⟨_, rfl, fun _ => hp, fun z => absurd (nI_le (Nat.le_refl _) (by omega)) z⟩⟩
    | succ r ih =>
      intro i hi
      have hii : i < 2 * A 482 0 := by omega
      have i1 := ih (i + 1) (by omega)
      refine ⟨ns.2.1.1, _, ns.2.1.2.2.2.1, xe.1.1, ls_size' xe.1 ⟨_, rfl, fun z => absurd z (nI_ge hii (by omega)), fun _ => ⟨_, ns.2.1.2.2.2.1, xe.1.1, ls_get' xe.1 hii (fun hk5 => ⟨_, rfl, hk5, ?_⟩)⟩⟩⟩
      rw [(xp i hii).2, b0 (xp i hii).1]
      refine ⟨fun e y hy z hz => ?_, fun e y hy z hz => ?_⟩
      · rw [hz, ← nI_succ, hy, ← nI_0, nI_add]
        rw [cnt, if_pos e] at i1; exact i1
      · rw [hz, ← nI_succ, hy, ← nI_succ]
        rw [cnt, if_neg e] at i1; exact i1
  exact ⟨_, key (2 * A 482 0) 0 (by omega)⟩
theorem cnt_more {s : Nat → Nat} {n : Nat} (h : ∀ k, n ≤ k → s k = 0) : ∀ d, cnt s (n + d) = cnt s n
  | 0 => rfl
  | d + 1 => by
    have e : n + (d + 1) = (n + d) + 1 := by omega
    rw [e, cnt, h (n + d) (by omega), if_pos rfl, cnt_more h d]; rfl
theorem cnt_pl {A : Nat → Nat → Nat} (ok : OkN A) {j : Nat} {pl : Nat → Nat} (h : ∀ v, v < 2 * A 482 0 → pl v = plS A j 32 v) : cnt pl (2 * A 482 0) = cnt (plS A j 32) 32 := by
  have hpp := ok.2.1
  rw [cnt_congr _ h]
  have e : 32 = 2 * A 482 0 + (32 - 2 * A 482 0) := by omega
  have := cnt_more (s := plS A j 32) (n := 2 * A 482 0) (fun k hk => plS_out hpp j 32 k hk) (32 - 2 * A 482 0)
  rw [← e] at this; exact this.symm
theorem xo_shutOff {P : Pic} {x : Nat} {g : Nat → Nat → Nat} {ow : Nat → Nat × Nat} {fl : Nat} {A : Nat → Nat → Nat} {B : Nat → Nat → Int64} {po : Option Value → Pic → Prop} {th : String → Pic → Prop} {x1 : Int32} (h : RX P x g ow fl A B) (ok : Ok A B) (hfl : fl + 50 < 2 ^ 30)
    (h1 : (∀ j, j < A 482 0 → x1 ≠ nI j) → th "java/lang/IndexOutOfBoundsException" P)
    (h0 : ∀ j, j < A 482 0 → x1 = nI j → Fq A j → ∀ P' fl', XM P P' → fl' ≤ fl + 50 → RX P' x g ow fl' A B → po (some (.int (-1))) P')
    (h2 : ∀ j, j < A 482 0 → x1 = nI j → ¬ Fq A j → ∀ P' fl', XM P P' → fl' ≤ fl + 50 → RX P' x g ow fl' A B → po (some (.int (nI (cnt (plS A j 32) 32)))) P') : wp_Wa_shutOff po th P x x1 := by
  obtain ⟨pl0, ns, z⟩ := h.ns ok.1
  obtain ⟨hw, xa, xg, xn, xd, xe, ⟨pl, xp⟩, xf, xc, xr, xb, xt, xo⟩ := id h
  refine ⟨xa.1, _, xa.2.1, xo_middleOf h ok.1.2.1 h1 (fun j hj hx => ⟨_, rfl, xg.1, ?_⟩)⟩
  refine ne_plan ok.1 ok.2.2.2.2.2 hj hfl ns z (fun hq P2 pl2 fl2 t2 n2 z2 hle hs => ⟨_, rfl, fun z => absurd z (by decide), fun _ => ?_⟩) (fun hq P2 pl2 fl2 t2 n2 z2 hle hs => ⟨_, rfl, fun _ => h0 j hj hx hq P2 fl2 t2.xmG (by omega) (h.net ok.1 t2 n2 z2), fun z => absurd rfl z⟩)
  have r2 := h.net ok.1 t2 n2 z2
  obtain ⟨_, xa2, xg2, _⟩ := id r2
  refine ⟨xa2.1, _, xa2.2.1, xg2.1, ne_planned ok.1 n2 ⟨_, rfl, ?_⟩⟩
  rw [cnt_pl ok.1 hs]
  exact h2 j hj hx hq P2 fl2 t2.xmG (by omega) r2
theorem xo_plan {P : Pic} {x : Nat} {g : Nat → Nat → Nat} {ow : Nat → Nat × Nat} {fl : Nat} {A : Nat → Nat → Nat} {B : Nat → Nat → Int64} {po : Option Value → Pic → Prop} {th : String → Pic → Prop} {x1 x2 : Int32} (h : RX P x g ow fl A B) (ok : Ok A B) (hfl : fl + 50 < 2 ^ 30)
    (h1 : (∀ j, j < A 482 0 → x1 ≠ nI j) → th "java/lang/IndexOutOfBoundsException" P)
    (h0 : ∀ j, j < A 482 0 → x1 = nI j → ∀ P' fl', XM P P' → fl' ≤ fl + 50 → RX P' x g ow fl' A B → po (some (.int (pick (plS A j 32) 32 x2 0))) P') : wp_Wa_plan po th P x x1 x2 := by
  obtain ⟨pl0, ns, z⟩ := h.ns ok.1
  have hpp := ok.1.2.1
  obtain ⟨hw, xa, xg, xn, xd, xe, ⟨pl, xp⟩, xf, xc, xr, xb, xt, xo⟩ := id h
  refine ⟨xa.1, _, xa.2.1, xo_middleOf h ok.1.2.1 h1 (fun j hj hx => ⟨_, rfl, xg.1, ?_⟩)⟩
  have e32 : ∀ n, pick (plS A j 32) 32 n 0 = pick (plS A j 32) (2 * A 482 0) n 0 := fun n => by
    have := pick_more (s := plS A j 32) (2 * A 482 0) (32 - 2 * A 482 0) n 0 (fun k hk => plS_out hpp j 32 k (by omega))
    have e : 2 * A 482 0 + (32 - 2 * A 482 0) = 32 := by omega
    rw [e] at this; exact this
  have loop : ∀ (th0 : Nat) (P2 : Pic) (pl2 : Nat → Nat) (fl2 : Nat), th0 ≤ 1 → RX P2 x g ow fl2 A B → NS P2 g ow A pl2 → (∀ v, v < 2 * A 482 0 → pl2 v = plS A j 32 v) → (th0 = 0 → ∀ v, plS A j 32 v = 0) → po (some (.int (pick (plS A j 32) (2 * A 482 0) x2 0))) P2 → ∃ n, wl_Wa_plan_19 po th n P2 x (nI th0) x2 0 := by
    intro th0 P2 pl2 fl2 hth r2 n2 hs h00 hp
    obtain ⟨_, xa2, xg2, _⟩ := id r2
    have xe := n2.2.2.2.2.1
    have xp := n2.2.2.2.2.2.1
    have key : ∀ r v n, v + r = 2 * A 482 0 → po (some (.int (pick (plS A j 32) r n v))) P2 → wl_Wa_plan_19 po th (r + 1) P2 x (nI th0) n (nI v) := by
      intro r
      induction r with
      | zero =>
        intro v n hv hp
        have : v = 2 * A 482 0 := hv
        subst this
        exact ⟨xa2.1, _, xa2.2.1, xg2.1, _, xg2.2.2.2.1, xe.1.1, ls_size' xe.1 ⟨_, rfl, fun _ => hp, fun z => absurd (nI_le (Nat.le_refl _) (by omega)) z⟩⟩
      | succ r ih =>
        intro v n hv hp
        have hii : v < 2 * A 482 0 := by omega
        rw [pick] at hp
        refine ⟨xa2.1, _, xa2.2.1, xg2.1, _, xg2.2.2.2.1, xe.1.1, ls_size' xe.1 ⟨_, rfl, fun z => absurd z (nI_ge hii (by omega)), fun _ => ?_⟩⟩
        rw [b0 hth]
        refine ⟨fun e y hy => ?_, fun e => ⟨_, xa2.2.1, xg2.1, _, xg2.2.2.2.1, xe.1.1, ls_get' xe.1 hii (fun hk5 => ⟨_, rfl, hk5, ?_⟩)⟩⟩
        · rw [hy, ← nI_succ]
          rw [if_pos (h00 e v)] at hp; exact ih (v + 1) n (by omega) hp
        · have e6 := (xp v hii).2
          rw [hs v hii] at e6
          rw [e6, b0 (plS_le A j 32 v)]
          refine ⟨fun e2 y hy => ?_, fun e2 => ⟨fun e3 w hw y hy => ?_, fun e3 => ⟨_, xa2.2.1, xg2.1, _, xg2.2.2.2.1, xe.1.1, ls_get' xe.1 hii (fun hk5' => ⟨_, rfl, hk5', ?_⟩)⟩⟩⟩
          · rw [hy, ← nI_succ]; rw [if_pos e2] at hp; exact ih (v + 1) n (by omega) hp
          · rw [hy, ← nI_succ, hw]; rw [if_neg e2, if_neg e3] at hp; exact ih (v + 1) _ (by omega) hp
          · rw [(xe.2 v hii).2.2.2.1]; rw [if_neg e2, if_pos e3] at hp; exact hp
    exact ⟨_, key (2 * A 482 0) 0 x2 (by omega) hp⟩
  refine ne_plan ok.1 ok.2.2.2.2.2 hj hfl ns z (fun hq P2 pl2 fl2 t2 n2 z2 hle hs => ⟨_, rfl, ?_⟩) (fun hq P2 pl2 fl2 t2 n2 z2 hle hs => ⟨_, rfl, ?_⟩)
  · have fin := h0 j hj hx P2 fl2 t2.xmG (by omega) (h.net ok.1 t2 n2 z2)
    rw [e32] at fin
    exact loop 1 P2 pl2 fl2 (Nat.le_refl 1) (h.net ok.1 t2 n2 z2) n2 hs (fun z => by omega) fin
  · have fin := h0 j hj hx P2 fl2 t2.xmG (by omega) (h.net ok.1 t2 n2 z2)
    rw [e32] at fin
    exact loop 0 P2 pl2 fl2 (Nat.zero_le 1) (h.net ok.1 t2 n2 z2) n2 hs (fun _ => plS_zero (fun v => ind_neg (fun z => z.1 hq)) 32) fin
