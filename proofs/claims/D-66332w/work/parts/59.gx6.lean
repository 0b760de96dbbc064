/-! the component's plan: its loops -/
theorem wi_fd {A : Nat → Nat → Nat} (ok : OkN A) {pl s : Nat → Nat} {v : Nat} (hv : v < 2 * A 482 0) (e : pl v = s v) (hs : s v ≠ 0 → A 486 v ≠ 0) : (wiT A pl v ≠ 0 ↔ fdT (row A 493 s) 1 v ≠ 0) := by
  have hvo := (ok.2.2.2.1 v hv).2
  unfold wiT fdT
  rw [row_eq, row_ne A s (F := 486) (by decide), row_ne A s (F := 487) (by decide), e]
  by_cases c : A 487 v ≠ 0 ∧ s v = 0
  · rw [if_pos c, if_pos (by omega)]
  · rw [if_neg c]
    by_cases d : A 486 v = 0
    · have := hvo d
      have : s v = 0 := by
        rcases Nat.eq_zero_or_pos (s v) with z | z
        · exact z
        · exact absurd d (hs (by omega))
      omega
    · rw [if_neg (by omega)]
theorem ne_plan3 {g : Nat → Nat → Nat} {ow : Nat → Nat × Nat} {A : Nat → Nat → Nat} {po : Option Value → Pic → Prop} {th : String → Pic → Prop} {j : Nat} (ok : OkN A) (hI : OkI A) (hj : j < A 482 0) (P0 : Pic) (fl0 : Nat) (hfl : fl0 + 40 < 2 ^ 30)
    (hp : ∀ P' pl' fl', TX P0 P' (fun _ => False) fG → NS P' g ow A pl' → FZ P' g A fl' → fl' ≤ fl0 + 32 → (∀ v, v < 2 * A 482 0 → pl' v = plS A j (2 * A 482 0) v) → po (some (.int 1)) P') :
    ∀ r i, i + r = 2 * A 482 0 → ∀ P pl fl, TX P0 P (fun _ => False) fG → NS P g ow A pl → FZ P g A fl → fl ≤ fl0 + i → (∀ v, v < 2 * A 482 0 → pl v = plS A j i v) → wl_Ne_plan_137 po th (r + 1) P (g 0 0) (g 8 j) (nI i) := by
  have hpp := ok.2.1
  have hn := ok.1
  intro r
  induction r with
  | zero =>
    intro i hi P pl fl tx ns z hle hs
    have : i = 2 * A 482 0 := hi
    subst this
    exact ⟨ns.2.1.1, _, ns.2.1.2.2.2.1, ns.2.2.2.2.1.1.1, ls_size' ns.2.2.2.2.1.1 ⟨_, rfl, fun _ => hp P pl fl tx ns z (by omega) hs, fun z => absurd (nI_le (Nat.le_refl _) (by omega)) z⟩⟩
  | succ r ih =>
    intro i hi P pl fl tx ns z hle hs
    have hii : i < 2 * A 482 0 := by omega
    have xe := ns.2.2.2.2.1
    have xp := ns.2.2.2.2.2.1
    refine ⟨ns.2.1.1, _, ns.2.1.2.2.2.1, xe.1.1, ls_size' xe.1 ⟨_, rfl, fun z => absurd z (nI_ge hii (by omega)), fun _ => ⟨_, ns.2.1.2.2.2.1, xe.1.1, ls_get' xe.1 hii (fun hk5 => ⟨_, rfl, hk5, ?_⟩)⟩⟩⟩
    rw [(xp i hii).2, b0 (xp i hii).1]
    refine ⟨fun e y hy => ?_, fun e => ⟨_, ns.2.1.2.2.2.1, xe.1.1, ls_get' xe.1 hii (fun hk5' => ⟨_, rfl, hk5', ?_⟩)⟩⟩
    · rw [hy, ← nI_succ]
      refine ih (i + 1) (by omega) P pl fl tx ns z (by omega) (fun v hv => ?_)
      rw [hs v hv, plS_s, if_pos (by rw [← hs i hii]; exact e)]
    · obtain ⟨t1, n1⟩ := ns_pl ns (v := i) (b := 0) hii (Nat.zero_le 1)
      refine ⟨_, n1.2.1.2.2.2.2.2.1, ?_⟩
      refine ne_fromSources ok hI (by omega) (gt_wi ok) (fun v _ => by unfold wiT; split <;> omega) n1 (z.pl _ _) (fun P2 Q2 M2 t2 n2 f2 hr => ⟨rfl, n2.2.1.1, _, n2.2.1.2.2.2.1, n2.2.2.2.2.1.1.1, ls_get' n2.2.2.2.2.1.1 hii (fun hk6 => ⟨_, rfl, hk6, ?_⟩)⟩)
      have hir : IR A (12 + j) := Or.inr (by omega)
      have epa : g 8 j = pa g (12 + j) := (pa_m g j).symm
      rw [epa]
      refine ne_isReached n2 ok f2 (by omega) hir ⟨_, rfl, b01 (ind_le _), fun y hy => ?_⟩
      rw [hy, ← nI_succ, ← epa]
      obtain ⟨t3, n3⟩ := ns_pl n2 (v := i) (b := ind (M2 (12 + j) ≠ 0)) hii (ind_le _)
      refine ih (i + 1) (by omega) _ _ (fl + 1) ((tx.GG t1).GG (t2.G.GG t3)) n3 (f2.z.pl _ _) (by omega) (fun v hv => ?_)
      have hne : plS A j i i ≠ 0 := by rw [← hs i hii]; exact e
      rw [plS_s, if_neg hne]
      unfold va_up
      by_cases c : v = i
      · rw [if_pos c, if_pos c]
        refine ind_congr ((hr (12 + j)).trans (Rch.congr (fun w hw => ?_) (fun k => Iff.rfl) _))
        refine wi_fd ok hw ?_ (fun hh => ?_)
        · unfold va_up
          by_cases d : w = i
          · rw [if_pos d, if_pos d]
          · rw [if_neg d, if_neg d]; exact hs w hw
        · unfold va_up at hh
          by_cases d : w = i
          · rw [if_pos d] at hh; exact absurd rfl hh
          · rw [if_neg d] at hh
            exact (ind_ne.mp (plS_sub A j i w hh)).2.2.1
      · rw [if_neg c, if_neg c, if_neg c]; exact hs v hv
theorem ne_plan2 {g : Nat → Nat → Nat} {ow : Nat → Nat × Nat} {A : Nat → Nat → Nat} {po : Option Value → Pic → Prop} {th : String → Pic → Prop} {j : Nat} {Q : List Nat} {M : Nat → Nat} (ok : OkN A) (hI : OkI A) (hj : j < A 482 0) (hq : ¬ Fq A j) (P0 : Pic) (fl0 : Nat) (hfl : fl0 + 40 < 2 ^ 30) (hM : ∀ k, M k ≠ 0 ↔ FR A j k)
    (hp : ∀ P' pl' fl', TX P0 P' (fun _ => False) fG → NS P' g ow A pl' → FZ P' g A fl' → fl' ≤ fl0 + 32 → (∀ v, v < 2 * A 482 0 → pl' v = plS A j (2 * A 482 0) v) → po (some (.int 1)) P') :
    ∀ r i, i + r = 2 * A 482 0 → ∀ P pl, TX P0 P (fun _ => False) fG → NS P g ow A pl → FL P g A fl0 Q M → (∀ v, v < i → pl v = pl0 A j v) → wl_Ne_plan_71 po th (r + 1) P (g 0 0) (g 8 j) (nI i) := by
  have hpp := ok.2.1
  have hn := ok.1
  intro r
  induction r with
  | zero =>
    intro i hi P pl tx ns f hs
    have : i = 2 * A 482 0 := hi
    subst this
    exact ⟨ns.2.1.1, _, ns.2.1.2.2.2.1, ns.2.2.2.2.1.1.1, ls_size' ns.2.2.2.2.1.1 ⟨_, rfl, fun _ => ⟨_, ne_plan3 ok hI hj P0 fl0 hfl hp (2 * A 482 0) 0 (by omega) P pl fl0 tx ns f.z (by omega) hs⟩, fun z => absurd (nI_le (Nat.le_refl _) (by omega)) z⟩⟩
  | succ r ih =>
    intro i hi P pl tx ns f hs
    have hii : i < 2 * A 482 0 := by omega
    have xe := ns.2.2.2.2.1
    have hev := (ok.2.2.2.1 i hii).1
    obtain ⟨a1, a2, a3, a4⟩ := xe.2 i hii
    refine ⟨ns.2.1.1, _, ns.2.1.2.2.2.1, xe.1.1, ls_size' xe.1 ⟨_, rfl, fun z => absurd z (nI_ge hii (by omega)), fun _ => ⟨_, ns.2.1.2.2.2.1, xe.1.1, ls_get' xe.1 hii (fun hk5 => ⟨_, rfl, hk5, ?_⟩)⟩⟩⟩
    have set : ∀ (t0 : Int32) (b : Nat), t0 = nI b → b = pl0 A j i → wb_Ne_plan_126 po th (wl_Ne_plan_71 po th (r + 1)) P (g 0 0) (g 8 j) (nI i) t0 (g 9 i) := by
      intro t0 b ht hb
      subst ht
      have hb1 : b ≤ 1 := by rw [hb]; exact ind_le _
      refine ⟨a1, b01 hb1, fun y hy => ?_⟩
      rw [hy, ← nI_succ]
      obtain ⟨t1, n1⟩ := ns_pl ns (v := i) (b := b) hii hb1
      refine ih (i + 1) (by omega) _ _ (tx.GG t1) n1 (f.pl _ _) (fun v hv => ?_)
      unfold va_up
      by_cases c : v = i
      · rw [if_pos c, c, hb]
      · rw [if_neg c]; exact hs v (by omega)
    refine ne_canBeShut ns ok hii (fun c => ⟨_, rfl, fun z => absurd z (by decide), fun _ => ⟨_, a2, ?_⟩⟩) (fun c => ⟨_, rfl, fun _ => set 0 0 rfl (ind_neg (fun z => c ⟨z.2.2.1, z.2.2.2.1, z.2.2.2.2.1⟩)).symm, fun z => absurd rfl z⟩)
    have e1 : g 8 (i / 2) = pa g (12 + i / 2) := (pa_m g _).symm
    have e2 : g 7 (A 485 i) = pa g (A 485 i) := (pa_n g (by omega)).symm
    rw [e1]
    refine ne_isReached ns ok f (by omega) (Or.inr (by omega)) ⟨_, rfl, _, a3, ?_⟩
    rw [e2]
    refine ne_isReached ns ok f (by omega) (Or.inl hev) ⟨_, rfl, ?_⟩
    have b1 := ind_le (M (12 + i / 2) ≠ 0)
    have b2 := ind_le (M (A 485 i) ≠ 0)
    dsimp only
    rw [nI_eq (by omega) (by omega)]
    have hiff : ind (M (12 + i / 2) ≠ 0) = ind (M (A 485 i) ≠ 0) ↔ (FR A j (12 + i / 2) ↔ FR A j (A 485 i)) := by
      rw [← hM, ← hM]
      constructor
      · intro z
        constructor
        · intro y; exact ind_ne.mp (by rw [← z]; exact ind_ne.mpr y)
        · intro y; exact ind_ne.mp (by rw [z]; exact ind_ne.mpr y)
      · intro z; exact ind_congr z
    exact ⟨fun e => set 0 0 rfl (ind_neg (fun z => z.2.2.2.2.2 (hiff.mp e))).symm, fun e => set 1 1 rfl (ind_pos ⟨hq, hii, c.1, c.2.1, c.2.2, fun z => e (hiff.mpr z)⟩).symm⟩
theorem ne_plan {P : Pic} {g : Nat → Nat → Nat} {ow : Nat → Nat × Nat} {fl : Nat} {A : Nat → Nat → Nat} {pl : Nat → Nat} {po : Option Value → Pic → Prop} {th : String → Pic → Prop} {j : Nat} (ok : OkN A) (hI : OkI A) (hj : j < A 482 0) (hfl : fl + 50 < 2 ^ 30) (ns : NS P g ow A pl) (z : FZ P g A fl)
    (hp1 : ¬ Fq A j → ∀ P' pl' fl', TX P P' (fun _ => False) fG → NS P' g ow A pl' → FZ P' g A fl' → fl' ≤ fl + 33 → (∀ v, v < 2 * A 482 0 → pl' v = plS A j 32 v) → po (some (.int 1)) P')
    (hp0 : Fq A j → ∀ P' pl' fl', TX P P' (fun _ => False) fG → NS P' g ow A pl' → FZ P' g A fl' → fl' ≤ fl + 33 → (∀ v, v < 2 * A 482 0 → pl' v = plS A j 32 v) → po (some (.int 0)) P') : wp_Ne_plan po th P (g 0 0) (g 8 j) := by
  have hpp := ok.2.1
  have hn := ok.1
  refine ⟨ns.2.1.1, ne_forgetPlan ok ns z (fun P1 pl1 t1 n1 z1 h0 => ⟨rfl, n1.2.1.1, _, n1.2.1.2.2.2.2.2.2.1, ?_⟩)⟩
  have epa : g 8 j = pa g (12 + j) := (pa_m g j).symm
  have hir : IR A (12 + j) := Or.inr (by omega)
  rw [epa]
  refine ne_from ok hI (by omega) (gt_fx ok) (fun v _ => fxT_le A v) n1 z1 hir (fun P2 Q2 M2 t2 n2 f2 hr => ⟨rfl, A 481 0 + 1, ?_⟩)
  rw [← epa]
  have tx2 : TX P P2 (fun _ => False) fG := t1.GG t2.G
  have more : ∀ d v, v < 2 * A 482 0 → plS A j (2 * A 482 0 + d) v = plS A j (2 * A 482 0) v := by
    intro d
    induction d with
    | zero => intro v _; rfl
    | succ d ih =>
      intro v hv
      have e : 2 * A 482 0 + (d + 1) = (2 * A 482 0 + d) + 1 := by omega
      rw [e, plS_s, if_pos (plS_out hpp j _ _ (by omega))]; exact ih v hv
  have e32 : ∀ v, v < 2 * A 482 0 → plS A j (2 * A 482 0) v = plS A j 32 v := fun v hv => by
    have := more (32 - 2 * A 482 0) v hv
    have e : 2 * A 482 0 + (32 - 2 * A 482 0) = 32 := by omega
    rw [e] at this; exact this.symm
  have key : ∀ r i, i + r = A 481 0 → (∀ k, k < i → ¬ (FR A j k ∧ A 484 k ≠ 0)) → wl_Ne_plan_15 po th (r + 1) P2 (g 0 0) (g 8 j) (nI i) := by
    intro r
    induction r with
    | zero =>
      intro i hi hno
      have : i = A 481 0 := hi
      subst this
      have hq : ¬ Fq A j := fun ⟨k, k1, k2⟩ => hno k k1 k2
      refine ⟨n2.2.1.1, _, n2.2.1.2.1, n2.2.2.1.1.1, ls_size' n2.2.2.1.1 ⟨_, rfl, fun _ => ⟨_, ne_plan2 ok hI hj hq P (fl + 1) (by omega) hr (fun P' pl' fl' a b c d e => hp1 hq P' pl' fl' a b c (by omega) (fun v hv => (e v hv).trans (e32 v hv))) (2 * A 482 0) 0 (by omega) P2 pl1 tx2 n2 f2 (fun v hv => absurd hv (Nat.not_lt_zero v))⟩, fun z => absurd (nI_le (Nat.le_refl _) (by omega)) z⟩⟩
    | succ r ih =>
      intro i hi hno
      have hii : i < A 481 0 := by omega
      have xn := n2.2.2.1
      refine ⟨n2.2.1.1, _, n2.2.1.2.1, xn.1.1, ls_size' xn.1 ⟨_, rfl, fun z => absurd z (nI_ge hii (by omega)), fun _ => ⟨_, n2.2.1.2.1, xn.1.1, ls_get' xn.1 hii (fun hk8 => ⟨_, rfl, hk8, ?_⟩)⟩⟩⟩
      rw [(xn.2 i hii).2.1, b0 (ok.2.2.2.2.2 i).1]
      have next : ¬ (FR A j i ∧ A 484 i ≠ 0) → wb_Ne_plan_63 po th (wl_Ne_plan_15 po th (r + 1)) P2 (g 0 0) (g 8 j) (nI i) := by
        intro hni y hy
        rw [hy, ← nI_succ]
        refine ih (i + 1) (by omega) (fun k hk => ?_)
        by_cases c : k = i
        · rw [c]; exact hni
        · exact hno k (by omega)
      refine ⟨fun e => next (fun z => z.2 e), fun e => ⟨_, n2.2.1.2.1, xn.1.1, ls_get' xn.1 hii (fun hk8' => ⟨_, rfl, Or.inl hk8', ?_⟩)⟩⟩
      have e7 : g 7 i = pa g i := (pa_n g (by omega)).symm
      rw [e7]
      refine ne_isReached n2 ok f2 (by omega) (Or.inl hii) ⟨_, rfl, ?_⟩
      dsimp only
      rw [b0 (ind_le _)]
      refine ⟨fun e3 => next (fun z => ind_ne.mpr ((hr i).mpr z.1) e3), fun e3 => ?_⟩
      have hq : Fq A j := ⟨i, hii, (hr i).mp (ind_ne.mp e3), e⟩
      have z0 : ∀ v, pl0 A j v = 0 := fun v => ind_neg (fun z => z.1 hq)
      exact hp0 hq P2 pl1 (fl + 1) tx2 n2 f2.z (by omega) (fun v hv => by rw [h0 v hv, plS_zero z0])
  exact key (A 481 0) 0 (by omega) (fun k hk => absurd hk (Nat.not_lt_zero k))
