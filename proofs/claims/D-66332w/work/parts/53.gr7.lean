/-! carryOut and dry (reference) -/
theorem plS_out {A : Nat → Nat → Nat} (hp : A 482 0 ≤ 16) (j : Nat) : ∀ n v, 2 * A 482 0 ≤ v → plS A j n v = 0
  | 0, v, h => ind_neg (fun z => by omega)
  | n + 1, v, h => by
    rw [plS_s]
    split
    · exact plS_out hp j n v h
    · rename_i hne
      unfold va_up
      split
      · rename_i e; exact absurd (plS_out hp j n n (by omega)) hne
      · exact plS_out hp j n v h
def cO (A : Nat → Nat → Nat) (s : Nat → Nat) (v : Nat) : Nat := if s v ≠ 0 then 0 else A 487 v
theorem mo_carryOut {P0 P : Pic} {m : Nat} {ar : Nat → Nat} {A : Nat → Nat → Nat} {B : Nat → Nat → Int64} {po : Option Value → Pic → Prop} {th : String → Pic → Prop} {x1 : Int32} (h : MM P0 P m ar A B) (ok : OkN A)
    (h1 : (∀ j, j < A 482 0 → x1 ≠ nI j) → ∀ P' A', MM P0 P' m ar A' B → scr A A' → A' 480 0 = 1 → po (some (.int 0)) P')
    (h0 : ∀ j, j < A 482 0 → x1 = nI j → Fq A j → ∀ P' A', MM P0 P' m ar A' B → scr A A' → A' 480 0 = 0 → po (some (.int (-1))) P')
    (h2 : ∀ j, j < A 482 0 → x1 = nI j → ¬ Fq A j → ∀ P' A', MM P0 P' m ar A' B → scr (row A 487 (cO A (plS A j 32))) A' → A' 480 0 = 0 → po (some (.int (nI (cnt (plS A j 32) 32)))) P') : wp_Mo_carryOut po th P m x1 := by
  have hpp := ok.2.1
  refine ⟨h.k, mo_noPipe h (by omega) (fun e => ⟨_, rfl, fun z => absurd z (by decide), fun _ => mg_no h 1 rfl (by decide) (by decide) (fun h' => h1 e _ _ h' (fun f hf => up2_fn _ _ (fun z => hf (by rw [z]; decide))) (up2_eq _ _ _ _))⟩) (fun j hj hx => ⟨_, rfl, fun _ => ?_, fun z => absurd rfl z⟩)⟩
  refine mg_ok h (fun h' => ?_)
  rw [hx]
  have e80 := eqN_80 A 0 0
  refine mo_planFor h' (ok.cA e80) hj (fun hq P' A' h2' hA hs => ⟨_, rfl, fun _ => ⟨33, ?_⟩, fun z => absurd z (by decide)⟩) (fun hq P' A' h2' hA hs => ⟨_, rfl, fun z => absurd rfl z, fun _ => ?_⟩)
  · rw [plS_cA e80] at hs
    have fin := h2 j hj hx (fun z => hq ((Fq_cA e80 j).mpr z))
    have e87 : A' 487 = A 487 := by rw [hA 487 (by decide), up2_fn _ _ (by decide)]
    have key : ∀ r v, v + r = 32 → ∀ (P : Pic), MM P0 P m ar (row A' 487 (fl2 (A 487) (cO A (plS A j 32)) v)) B → wl_Mo_carryOut_38 po th (r + 1) P m (nI v) := by
      intro r
      induction r with
      | zero =>
        intro v hv P g
        have : v = 32 := hv
        subst this
        refine ⟨fun _ => ⟨g.k, mo_shutCount g ⟨_, rfl, ?_⟩⟩, fun z => absurd (by decide) z⟩
        rw [row_ne _ _ (by decide), cnt_congr 32 hs]
        refine fin P _ g (fun f hf => ?_) ?_
        · by_cases c : f = 487
          · subst c
            rw [row_eq, row_eq]
            funext v
            unfold fl2
            by_cases c : v < 32
            · rw [if_pos c]
            · rw [if_neg c]; unfold cO; rw [plS_out hpp j 32 v (by omega), if_neg (fun z => z rfl)]
          · rw [row_ne _ _ c, row_ne _ _ c]; exact (scr_of hA).1 f hf
        · rw [row_ne _ _ (by decide)]; exact (scr_of hA).2
      | succ r ih =>
        intro v hv P g
        have hv32 : v < 32 := by omega
        refine ⟨fun z => absurd z (nI_ge (b := 32) hv32 (by omega)), fun _ => ⟨g.k, _, g.r 487 103 32, mg_r g 487 103 32 rfl hv32 ?_⟩⟩
        have bo := (ok.2.2.2.2.2 v).2.2.1
        have set : ∀ (t0 : Int32) (w : Nat), t0 = nI w → w = cO A (plS A j 32) v → wb_Mo_carryOut_72 po th (wl_Mo_carryOut_38 po th (r + 1)) P m (nI v) t0 (nI v) (ar 487) := by
          intro t0 w ht hw
          subst ht
          have hw1 : w ≤ 1 := by rw [hw]; unfold cO; split <;> omega
          refine ⟨g.ak 487 103 32, by rw [g.an 487 103 32]; exact vp_in_nI hv32 (by decide), b01 hw1, ?_⟩
          intro z hz
          rw [hz, ← nI_succ, nI_clamp (by omega)]
          have h' := g.sai 487 103 32 v w (fun _ => hw1)
          rw [up2_row, hw, fl2_s] at h'
          rw [hw]
          exact ih (v + 1) (by omega) _ h'
        have r7 : p_ai P (ar 487) v = nI (A 487 v) := by rw [g.ai 487 103 32 hv32, row_eq, fl2, if_neg (by omega)]
        have r3 : p_ai P (ar 493) v = nI (plS A j 32 v) := by rw [g.ai 493 103 32 hv32, row_ne _ _ (by decide), hs v hv32]
        rw [nI_clamp (by omega), r7, b0 bo]
        refine ⟨fun e => set 0 0 rfl (by unfold cO; split <;> omega), fun e => mg_r g 493 103 32 rfl hv32 ?_⟩
        rw [r3, b0 (plS_le A j 32 v)]
        exact ⟨fun e2 => set 0 0 rfl (by unfold cO; rw [if_pos e2]), fun e2 => set 1 1 rfl (by unfold cO; rw [if_neg (fun z => z e2)]; omega)⟩
    refine key 32 0 (by omega) P' ?_
    rw [fl2_0, ← e87, row_self]; exact h2'
  · exact h0 j hj hx ((Fq_cA e80 j).mp hq) P' A' h2' (scr_of hA).1 (scr_of hA).2
/-- a set of customers as bits -/
def orf (b : Nat → Nat) : Nat → Int32
  | 0 => 0
  | n + 1 => if b n = 0 then orf b n else orf b n ||| ((1 : Int32) <<< (nI n &&& 31))
theorem orf_congr {b b' : Nat → Nat} : ∀ n, (∀ k, k < n → b k = b' k) → orf b n = orf b' n
  | 0, _ => rfl
  | n + 1, h => by rw [orf, orf, orf_congr n (fun k hk => h k (by omega)), h n (by omega)]
/-- fed as it is -/
def AR (A : Nat → Nat → Nat) (k : Nat) : Prop := Rch (A 482 0) (A 485) (fun v => fdT A 0 v ≠ 0) (fun k => k < 28 ∧ fdS A k = 1) k
theorem AR_cA {A A' : Nat → Nat → Nat} (e : eqN A A') (k : Nat) : AR A' k ↔ AR A k := by
  have e1 : ∀ v, fdT A' 0 v = fdT A 0 v := fun v => by
    unfold fdT
    rw [e 486 (by decide), e 487 (by decide)]
    by_cases c : A 486 v = 0 ∨ A 487 v ≠ 0
    · rw [if_pos (by omega), if_pos (by omega)]
    · rw [if_neg (by omega), if_neg (by omega)]
  have e2 : ∀ k, fdS A' k = fdS A k := fun k => by unfold fdS; rw [e 481 (by decide), e 484 (by decide)]
  unfold AR; rw [e 482 (by decide), e 485 (by decide)]; simp only [e1, e2]
theorem mo_feed' {P0 P : Pic} {m : Nat} {ar : Nat → Nat} {A : Nat → Nat → Nat} {B : Nat → Nat → Int64} {po : Option Value → Pic → Prop} {th : String → Pic → Prop} {wp : Nat} {x1 : Int32} (h : MM P0 P m ar A B) (ok : OkN A) (hx : x1 = nI wp) (hwp : wp ≤ 1)
    (hp : ∀ P' A', MM P0 P' m ar A' B → (∀ f, f ∉ [490, 491] → A' f = A f) → (∀ k, k < 28 → A' 490 k = ind (Rch (A 482 0) (A 485) (fun v => fdT A wp v ≠ 0) (fun k => k < 28 ∧ fdS A k = 1) k)) → po none P') : wp_Mo_feed po th P m x1 := by
  refine mo_feed h ok hx hwp (fun P' R T h' hb hr => hp P' _ h' (fun f hf => ?_) (fun k hk => ?_))
  · rw [row_ne _ _ (fun z => hf (by rw [z]; decide)), row_ne _ _ (fun z => hf (by rw [z]; decide))]
  · rw [row_ne _ _ (by decide), row_eq]
    have hiff := hr k hk
    have := hb k hk
    by_cases c : Rch (A 482 0) (A 485) (fun v => fdT A wp v ≠ 0) (fun k => k < 28 ∧ fdS A k = 1) k
    · rw [ind_pos c]; exact hiff.mpr c
    · rw [ind_neg c]
      have : R k ≠ 1 := fun z => c (hiff.mp z)
      omega
theorem mo_dry {P0 P : Pic} {m : Nat} {ar : Nat → Nat} {A : Nat → Nat → Nat} {B : Nat → Nat → Int64} {po : Option Value → Pic → Prop} {th : String → Pic → Prop} {x1 : Int32} (h : MM P0 P m ar A B) (ok : Ok A B)
    (h1 : (∀ j, j < A 482 0 → x1 ≠ nI j) → ∀ P' A', MM P0 P' m ar A' B → scr A A' → A' 480 0 = 1 → po (some (.int 0)) P')
    (h0 : ∀ j, j < A 482 0 → x1 = nI j → Fq A j → ∀ P' A', MM P0 P' m ar A' B → scr A A' → A' 480 0 = 0 → po (some (.int 0)) P')
    (h2 : ∀ j, j < A 482 0 → x1 = nI j → ¬ Fq A j → ∀ P' A', MM P0 P' m ar A' B → scr A A' → A' 480 0 = 0 → po (some (.int (orf (fun c => ind (AR A (A 489 c) ∧ ¬ SR A (plS A j 32) (A 489 c))) (A 483 0)))) P') : wp_Mo_dry po th P m x1 := by
  have hpp := ok.1.2.1
  have hn := ok.1.1
  have hcb := ok.2.1.1
  have hpl := ok.2.1.2.2.1
  refine ⟨h.k, mo_noPipe h (by omega) (fun e => ⟨_, rfl, fun z => absurd z (by decide), fun _ => ⟨h.k, h.k, fun _ => ?_, fun z => absurd (by rw [gpi_i, if_pos ⟨rfl, rfl⟩]; decide) z⟩⟩) (fun j hj hx => ⟨_, rfl, fun _ => ⟨h.k, h.k, fun z => absurd (by rw [gpi_i, if_pos ⟨rfl, rfl⟩] at z; exact z) (by decide), fun _ => ?_⟩, fun z => absurd rfl z⟩)⟩
  · exact h1 e _ _ (h.si 480 1) (fun f hf => up2_fn _ _ (fun z => hf (by rw [z]; decide))) (up2_eq _ _ _ _)
  rw [hx]
  have h' : MM P0 (s_i P 480 m 0) m ar (up2 A 480 0 0) B := h.si 480 0
  have e80 := eqN_80 A 0 0
  refine mo_planFor h' (ok.1.cA e80) hj (fun hq P1 A1 g1 hA hs => ⟨_, rfl, fun _ => ⟨g1.k, ?_⟩, fun z => absurd z (by decide)⟩) (fun hq P' A' h2' hA hs => ⟨_, rfl, fun z => absurd rfl z, fun _ => h0 j hj hx ((Fq_cA e80 j).mp hq) P' A' h2' (scr_of hA).1 (scr_of hA).2⟩)
  rw [plS_cA e80] at hs
  have fin := h2 j hj hx (fun z => hq ((Fq_cA e80 j).mpr z))
  have s1 := (scr_of hA).1
  have t1 := (scr_of hA).2
  have eq1 : eqN A A1 := fun f hf => s1 f (by
    intro z
    simp only [List.mem_cons, List.not_mem_nil, or_false] at hf z
    omega)
  refine mo_feed' (wp := 0) g1 (ok.1.cA eq1) rfl (Nat.zero_le 1) (fun P2 A2 g2 hA2 hR2 => ⟨rfl, A 483 0 + 1, ?_⟩)
  have hR2' : ∀ k, k < 28 → A2 490 k = ind (AR A k) := fun k hk => by rw [hR2 k hk]; exact ind_congr (AR_cA eq1 k)
  have s2 : scr A A2 := fun f hf => by
    rw [hA2 f (fun z => hf (by simp only [List.mem_cons, List.not_mem_nil, or_false] at z ⊢; omega))]; exact s1 f hf
  have t2 : A2 480 0 = 0 := by rw [hA2 480 (by decide)]; exact t1
  have u2 : ∀ v, v < 32 → A2 493 v = plS A j 32 v := fun v hv => by rw [hA2 493 (by decide)]; exact hs v hv
  have loop2 : ∀ (P3 : Pic) (A3 : Nat → Nat → Nat), MM P0 P3 m ar A3 B → scr A A3 → A3 480 0 = 0 → (∀ c, c < A 483 0 → A3 494 c = ind (AR A (A 489 c))) → (∀ k, k < 28 → A3 490 k = ind (SR A (plS A j 32) k)) → ∃ n, wl_Mo_dry_81 po th n P3 m 0 0 := by
    intro P3 A3 g3 s3 t3 b3 r3
    have key : ∀ r c, c + r = A 483 0 → wl_Mo_dry_81 po th (r + 1) P3 m (orf (fun c => ind (AR A (A 489 c) ∧ ¬ SR A (plS A j 32) (A 489 c))) c) (nI c) := by
      intro r
      induction r with
      | zero =>
        intro c hc
        have : c = A 483 0 := hc
        subst this
        refine ⟨g3.k, fun _ => fin P3 A3 g3 s3 t3, fun z => absurd (by rw [g3.i 483, s3 483 (by decide)]; exact nI_le (Nat.le_refl _) (by omega)) z⟩
      | succ r ih =>
        intro c hc
        have i1 := ih (c + 1) (by omega)
        have hp489 := hpl c (by omega)
        refine ⟨g3.k, fun z => absurd (by rw [g3.i 483, s3 483 (by decide)] at z; exact z) (nI_ge (by omega) (by omega)), fun _ => mg_r g3 494 103 10 rfl (by omega) ?_⟩
        have q4 : p_ai P3 (ar 494) c = nI (ind (AR A (A 489 c))) := by rw [g3.ai 494 103 10 (by omega), b3 c (by omega)]
        have q9 : p_ai P3 (ar 489) c = nI (A 489 c) := by rw [g3.ai 489 101 10 (by omega), s3 489 (by decide)]
        have q0 : p_ai P3 (ar 490) (A 489 c) = nI (ind (SR A (plS A j 32) (A 489 c))) := by rw [g3.ai 490 103 28 (by omega), r3 _ (by omega)]
        rw [nI_clamp (by omega), q4, b0 (ind_le _)]
        have skip : ¬ (AR A (A 489 c) ∧ ¬ SR A (plS A j 32) (A 489 c)) → wb_Mo_dry_120 po th (wl_Mo_dry_81 po th (r + 1)) P3 m (orf (fun c => ind (AR A (A 489 c) ∧ ¬ SR A (plS A j 32) (A 489 c))) c) (nI c) := by
          intro hno z hz
          rw [hz, ← nI_succ]
          rw [orf, if_pos (ind_neg hno)] at i1; exact i1
        refine ⟨fun e => skip (fun z => by rw [ind_pos z.1] at e; omega), fun e => ⟨_, g3.r 490 103 28, mg_r g3 489 101 10 rfl (by omega) ⟨g3.ak 490 103 28, ?_⟩⟩⟩
        rw [q9, nI_clamp (by omega), q0, g3.an 490 103 28, b0 (ind_le _)]
        refine ⟨vp_in_nI (by omega) (by decide), fun e2 => skip (fun z => z.2 (ind_ne.mp e2)), fun e2 z hz => ?_⟩
        rw [hz, ← nI_succ]
        have hyes : AR A (A 489 c) ∧ ¬ SR A (plS A j 32) (A 489 c) := ⟨ind_ne.mp e, fun z => ind_ne.mpr z e2⟩
        rw [orf, if_neg (ind_ne.mpr hyes)] at i1; exact i1
    exact ⟨_, key (A 483 0) 0 (by omega)⟩
  have loop1 : ∀ r c, c + r = A 483 0 → ∀ (P3 : Pic) (A3 : Nat → Nat → Nat), MM P0 P3 m ar A3 B → scr A A3 → A3 480 0 = 0 → (∀ k, k < c → A3 494 k = ind (AR A (A 489 k))) → (∀ k, k < 28 → A3 490 k = ind (AR A k)) → (∀ v, v < 32 → A3 493 v = plS A j 32 v) → wl_Mo_dry_41 po th (r + 1) P3 m (nI c) := by
    intro r
    induction r with
    | zero =>
      intro c hc P3 A3 g3 s3 t3 b3 r3 u3
      have : c = A 483 0 := hc
      subst this
      have eq3 : eqN A A3 := fun f hf => s3 f (by
        intro z
        simp only [List.mem_cons, List.not_mem_nil, or_false] at hf z
        omega)
      refine ⟨g3.k, fun _ => ?_, fun z => absurd (by rw [g3.i 483, s3 483 (by decide)]; exact nI_le (Nat.le_refl _) (by omega)) z⟩
      refine mo_feed' (wp := 1) g3 (ok.1.cA eq3) rfl (Nat.le_refl 1) (fun P4 A4 g4 hA4 hR4 => ⟨rfl, loop2 P4 A4 g4 (fun f hf => ?_) ?_ (fun c hc => ?_) (fun k hk => ?_)⟩)
      · rw [hA4 f (fun z => hf (by simp only [List.mem_cons, List.not_mem_nil, or_false] at z ⊢; omega))]; exact s3 f hf
      · rw [hA4 480 (by decide)]; exact t3
      · rw [hA4 494 (by decide)]; exact b3 c hc
      · rw [hR4 k hk]
        refine ind_congr ?_
        rw [eq3 482 (by decide), eq3 485 (by decide)]
        refine Rch.congr (fun v hv => ?_) (fun k => ?_) k
        · have : fdT A3 1 v = fdT (row A 493 (plS A j 32)) 1 v := by
            unfold fdT
            rw [row_eq, row_ne A (plS A j 32) (F := 486) (by decide), row_ne A (plS A j 32) (F := 487) (by decide), eq3 486 (by decide), eq3 487 (by decide), u3 v (by omega)]
          rw [this]
        · unfold fdS; rw [eq3 481 (by decide), eq3 484 (by decide)]
    | succ r ih =>
      intro c hc P3 A3 g3 s3 t3 b3 r3 u3
      have hp489 := hpl c (by omega)
      refine ⟨g3.k, fun z => absurd (by rw [g3.i 483, s3 483 (by decide)] at z; exact z) (nI_ge (by omega) (by omega)), fun _ => ⟨_, g3.r 494 103 10, _, g3.r 490 103 28, mg_r g3 489 101 10 rfl (by omega) ⟨g3.ak 490 103 28, ?_⟩⟩⟩
      have q9 : p_ai P3 (ar 489) c = nI (A 489 c) := by rw [g3.ai 489 101 10 (by omega), s3 489 (by decide)]
      have q0 : p_ai P3 (ar 490) (A 489 c) = nI (ind (AR A (A 489 c))) := by rw [g3.ai 490 103 28 (by omega), r3 _ (by omega)]
      rw [nI_clamp (by omega), q9, nI_clamp (by omega), q0, g3.an 490 103 28, g3.an 494 103 10]
      refine ⟨vp_in_nI (by omega) (by decide), g3.ak 494 103 10, vp_in_nI (by omega) (by decide), b01 (ind_le _), ?_⟩
      intro P4 hP4 z hz
      have g4 := g3.sai 494 103 10 c (ind (AR A (A 489 c))) (fun _ => ind_le _)
      rw [← hP4] at g4
      rw [hz, ← nI_succ]
      refine ih (c + 1) (by omega) P4 _ g4 (fun f hf => ?_) ?_ (fun k hk => ?_) (fun k hk => ?_) (fun v hv => ?_)
      · rw [up2_fn _ _ (fun z => hf (by rw [z]; decide))]; exact s3 f hf
      · rw [up2_ne _ _ (Or.inl (by decide))]; exact t3
      · by_cases e : k = c
        · rw [e, up2_eq]
        · rw [up2_ne _ _ (Or.inr e)]; exact b3 k (by omega)
      · rw [up2_ne _ _ (Or.inl (by decide))]; exact r3 k hk
      · rw [up2_ne _ _ (Or.inl (by decide))]; exact u3 v hv
  exact loop1 (A 483 0) 0 (by omega) P2 A2 g2 s2 t2 (fun k hk => absurd hk (Nat.not_lt_zero k)) hR2' u2
