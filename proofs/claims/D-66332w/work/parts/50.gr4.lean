/-! the plan's other loops -/
theorem sc_ne {f : Nat} (h : f ∈ [481, 482, 484, 485, 486, 487, 488]) : f ∉ [490, 491, 492, 493] := by
  intro y
  simp only [List.mem_cons, List.not_mem_nil, or_false] at h y
  omega
theorem Sc.ok {A A0 : Nat → Nat → Nat} (ok : OkN A0) (hA : ∀ f, f ∉ [490, 491, 492, 493] → A f = A0 f) : OkN A := ok.cA (fun f hf => hA f (sc_ne hf))
theorem Sc.up {A A0 : Nat → Nat → Nat} (hA : ∀ f, f ∉ [490, 491, 492, 493] → A f = A0 f) {F : Nat} (hF : F ∈ [490, 491, 492, 493]) (j v : Nat) : ∀ f, f ∉ [490, 491, 492, 493] → up2 A F j v f = A0 f := fun f hf => by
  rw [up2_fn _ _ (fun z => hf (by rw [z]; exact hF))]; exact hA f hf
theorem mo_plan3 {P0 P : Pic} {m : Nat} {ar : Nat → Nat} {A : Nat → Nat → Nat} {B : Nat → Nat → Int64} {po : Option Value → Pic → Prop} {th : String → Pic → Prop} {j fd : Nat} {A0 : Nat → Nat → Nat} (ok : OkN A0) (hj : j < A0 482 0) (hfd : fd = ind (Fq A0 j))
    (hp1 : ¬ Fq A0 j → ∀ P' A', MM P0 P' m ar A' B → (∀ f, f ∉ [490, 491, 492, 493] → A' f = A0 f) → (∀ v, v < 32 → A' 493 v = plS A0 j 32 v) → po (some (.int 1)) P')
    (hp0 : Fq A0 j → ∀ P' A', MM P0 P' m ar A' B → (∀ f, f ∉ [490, 491, 492, 493] → A' f = A0 f) → (∀ v, v < 32 → A' 493 v = plS A0 j 32 v) → po (some (.int 0)) P') :
    ∀ r v, v + r = 32 → ∀ (P : Pic) (A : Nat → Nat → Nat), MM P0 P m ar A B → (∀ f, f ∉ [490, 491, 492, 493] → A f = A0 f) → (∀ k, k < 28 → (A 492 k = ind (FR A0 j k))) → (∀ w, w < v → A 493 w = pl0 A0 j w) → wl_Mo_planFor_159 po th (r + 1) P m (nI j) (nI fd) (nI v) := by
  have hpp := ok.2.1
  have hn := ok.1
  intro r
  induction r with
  | zero =>
    intro v hv P A h hA hr hs
    have : v = 32 := hv
    subst this
    refine ⟨fun _ => ?_, fun z => absurd (by decide) z⟩
    by_cases c : Fq A0 j
    · rw [ind_pos c] at hfd
      subst hfd
      refine ⟨1, ⟨fun z => absurd z (by decide), fun _ => ⟨fun _ => ⟨fun _ => hp0 c P A h hA (fun v hv => ?_), fun z => absurd z (by decide)⟩, fun z => absurd z (by decide)⟩⟩⟩
      have z0 : ∀ v, pl0 A0 j v = 0 := fun v => ind_neg (fun z => z.1 c)
      rw [hs v hv, z0, plS_zero z0]
    · rw [ind_neg c] at hfd
      subst hfd
      exact ⟨33, mo_plan4 (P := P) (A := A) ok hj (hp1 c) 32 0 (by omega) P A h hA (fun w hw => hs w hw)⟩
  | succ r ih =>
    intro v hv P A h hA hr hs
    have hv32 : v < 32 := by omega
    have okA := Sc.ok ok hA
    refine ⟨fun z => absurd z (nI_ge (b := 32) hv32 (by omega)), fun _ => ⟨h.k, _, h.r 493 103 32, ?_⟩⟩
    have set : ∀ (t0 : Int32) (w : Nat), t0 = nI w → w = pl0 A0 j v → wb_Mo_planFor_222 po th (wl_Mo_planFor_159 po th (r + 1)) P m (nI j) (nI fd) (nI v) t0 (nI v) (ar 493) := by
      intro t0 w ht hw
      subst ht
      have hw1 : w ≤ 1 := by rw [hw]; exact ind_le _
      refine ⟨h.ak 493 103 32, by rw [h.an 493 103 32]; exact vp_in_nI hv32 (by decide), b01 hw1, ?_⟩
      intro z hz
      rw [hz, ← nI_succ, nI_clamp (by omega)]
      refine ih (v + 1) (by omega) _ _ (h.sai 493 103 32 v w (fun _ => hw1)) (Sc.up hA (by decide) v w) (fun k hk => ?_) (fun u hu => ?_)
      · rw [up2_ne _ _ (Or.inl (by decide))]; exact hr k hk
      · by_cases c : u = v
        · rw [c, up2_eq, hw]
        · rw [up2_ne _ _ (Or.inr c)]; exact hs u (by omega)
    have e82 : (2 : Int32) * p_i P 482 m = nI (2 * A0 482 0) := by rw [h.i 482, hA 482 (by decide)]; exact pk_mul 2 _
    have fdb : fd ≤ 1 := by rw [hfd]; exact ind_le _
    rw [b0 fdb, e82, nI_leI (by omega) (by omega)]
    have fd0 : fd = 0 ↔ ¬ Fq A0 j := by
      constructor
      · intro z c; rw [hfd, ind_pos c] at z; omega
      · intro c; rw [hfd, ind_neg c]
    refine ⟨fun e => set 0 0 rfl (ind_neg (fun z => e (fd0.mpr z.1))).symm, fun e => ⟨fun e2 => set 0 0 rfl (ind_neg (fun z => by omega)).symm, fun e2 => ?_⟩⟩
    have hnf := fd0.mp e
    have a6 := hA 486 (by decide)
    have a7 := hA 487 (by decide)
    have a8 := hA 488 (by decide)
    have a5 := hA 485 (by decide)
    refine mo_canTurn h okA hv32 (fun ct => ⟨_, rfl, fun z => absurd z (by decide), fun _ => ?_⟩) (fun ct => ⟨_, rfl, fun _ => set 0 0 rfl (ind_neg (fun z => ct (by rw [a6, a7, a8]; exact ⟨z.2.2.1, z.2.2.2.1, z.2.2.2.2.1⟩))).symm, fun z => absurd rfl z⟩)
    rw [a6, a7, a8] at ct
    have em : (12 : Int32) + nI v / 2 = nI (12 + v / 2) := by
      show nI 12 + nI v / nI 2 = _; rw [pk_div (by omega) (by omega) (by omega), nI_add]
    rw [em]
    have hev := (ok.2.2.2.1 v (by omega)).1
    have eE : p_ai P (ar 485) v = nI (A0 485 v) := by rw [h.ai 485 101 32 hv32, a5]
    refine mg_r h 492 103 28 rfl (by omega) ⟨_, h.r 492 103 28, mg_r h 485 101 32 rfl hv32 ?_⟩
    have r1 : p_ai P (ar 492) (12 + v / 2) = nI (ind (FR A0 j (12 + v / 2))) := by rw [h.ai 492 103 28 (by omega), hr _ (by omega)]
    have r2 : p_ai P (ar 492) (A0 485 v) = nI (ind (FR A0 j (A0 485 v))) := by rw [h.ai 492 103 28 (by omega), hr _ (by omega)]
    have b1 := ind_le (FR A0 j (12 + v / 2))
    have b2 := ind_le (FR A0 j (A0 485 v))
    rw [nI_clamp (by omega), nI_clamp (by omega), eE, nI_clamp (by omega), r1, r2, nI_eq (by omega) (by omega)]
    have hiff : ind (FR A0 j (12 + v / 2)) = ind (FR A0 j (A0 485 v)) ↔ (FR A0 j (12 + v / 2) ↔ FR A0 j (A0 485 v)) := by
      constructor
      · intro z
        constructor
        · intro y; exact ind_ne.mp (by rw [← z]; exact ind_ne.mpr y)
        · intro y; exact ind_ne.mp (by rw [z]; exact ind_ne.mpr y)
      · intro z; exact ind_congr z
    refine ⟨h.ak 492 103 28, by rw [h.an 492 103 28]; exact vp_in_nI (by omega) (by decide), fun e3 => set 0 0 rfl (ind_neg (fun z => z.2.2.2.2.2 (hiff.mp e3))).symm, fun e3 => set 1 1 rfl (ind_pos ⟨hnf, by omega, ct.1, ct.2.1, ct.2.2, fun z => e3 (hiff.mpr z)⟩).symm⟩
theorem mo_plan2 {P0 P : Pic} {m : Nat} {ar : Nat → Nat} {A : Nat → Nat → Nat} {B : Nat → Nat → Int64} {po : Option Value → Pic → Prop} {th : String → Pic → Prop} {j : Nat} {A0 : Nat → Nat → Nat} (ok : OkN A0) (hj : j < A0 482 0)
    (hp1 : ¬ Fq A0 j → ∀ P' A', MM P0 P' m ar A' B → (∀ f, f ∉ [490, 491, 492, 493] → A' f = A0 f) → (∀ v, v < 32 → A' 493 v = plS A0 j 32 v) → po (some (.int 1)) P')
    (hp0 : Fq A0 j → ∀ P' A', MM P0 P' m ar A' B → (∀ f, f ∉ [490, 491, 492, 493] → A' f = A0 f) → (∀ v, v < 32 → A' 493 v = plS A0 j 32 v) → po (some (.int 0)) P') :
    ∀ r v, v + r = 28 → ∀ (P : Pic) (A : Nat → Nat → Nat) (fd : Nat), MM P0 P m ar A B → (∀ f, f ∉ [490, 491, 492, 493] → A f = A0 f) → (∀ k, k < 28 → (A 490 k = ind (FR A0 j k))) → (∀ k, k < v → A 492 k = ind (FR A0 j k)) → fd = ind (∃ k, k < v ∧ k < A0 481 0 ∧ FR A0 j k ∧ A0 484 k ≠ 0) → wl_Mo_planFor_97 po th (r + 1) P m (nI j) (nI fd) (nI v) := by
  have hpp := ok.2.1
  have hn := ok.1
  intro r
  induction r with
  | zero =>
    intro v hv P A fd h hA hr hs hfd
    have : v = 28 := hv
    subst this
    refine ⟨fun _ => ⟨33, ?_⟩, fun z => absurd (by decide) z⟩
    refine mo_plan3 (P := P) (A := A) ok hj (hfd.trans (ind_congr ⟨fun z => ?_, fun z => ?_⟩)) hp1 hp0 32 0 (by omega) P A h hA hs (fun w hw => absurd hw (Nat.not_lt_zero w))
    · obtain ⟨k, _, k2, k3⟩ := z; exact ⟨k, k2, k3⟩
    · obtain ⟨k, k2, k3⟩ := z; exact ⟨k, by omega, k2, k3⟩
  | succ r ih =>
    intro v hv P A fd h hA hr hs hfd
    have hv28 : v < 28 := by omega
    refine ⟨fun z => absurd z (nI_ge (b := 28) hv28 (by omega)), fun _ => ⟨h.k, _, h.r 492 103 28, mg_r h 490 103 28 rfl hv28 ⟨h.ak 492 103 28, by rw [h.an 492 103 28]; exact vp_in_nI hv28 (by decide), ?_⟩⟩⟩
    have r0 : p_ai P (ar 490) v = nI (ind (FR A0 j v)) := by rw [h.ai 490 103 28 hv28, hr v hv28]
    have bv := ind_le (FR A0 j v)
    rw [nI_clamp (by omega), r0]
    refine ⟨b01 bv, ?_⟩
    intro P1 hP1
    have h1 := h.sai 492 103 28 v (ind (FR A0 j v)) (fun _ => bv)
    rw [← hP1] at h1
    have hA1 := Sc.up hA (F := 492) (by decide) v (ind (FR A0 j v))
    have next : ∀ (fd' : Nat), fd' = ind (∃ k, k < v + 1 ∧ k < A0 481 0 ∧ FR A0 j k ∧ A0 484 k ≠ 0) → wb_Mo_planFor_150 po th (wl_Mo_planFor_97 po th (r + 1)) P1 m (nI j) (nI v) (nI fd') := by
      intro fd' hfd' z hz
      rw [hz, ← nI_succ]
      refine ih (v + 1) (by omega) P1 _ fd' h1 hA1 (fun k hk => ?_) (fun k hk => ?_) hfd'
      · rw [up2_ne _ _ (Or.inl (by decide))]; exact hr k hk
      · by_cases c : k = v
        · rw [c, up2_eq]
        · rw [up2_ne _ _ (Or.inr c)]; exact hs k (by omega)
    have fdb : fd ≤ 1 := by rw [hfd]; exact ind_le _
    have keep : fd = 0 → ¬ (v < A0 481 0 ∧ FR A0 j v ∧ A0 484 v ≠ 0) → (0 : Nat) = ind (∃ k, k < v + 1 ∧ k < A0 481 0 ∧ FR A0 j k ∧ A0 484 k ≠ 0) := by
      intro z hno
      rw [ind_neg]
      rintro ⟨k, k1, k2⟩
      by_cases c : k = v
      · rw [c] at k2; exact hno k2
      · rw [hfd, ind_pos ⟨k, by omega, k2⟩] at z; omega
    rw [b0 fdb]
    refine ⟨fun e => next 1 ?_, fun e => ?_⟩
    · rw [ind_pos]
      have : ind (∃ k, k < v ∧ k < A0 481 0 ∧ FR A0 j k ∧ A0 484 k ≠ 0) ≠ 0 := by rw [← hfd]; exact e
      obtain ⟨k, k1, k2⟩ := ind_ne.mp this
      exact ⟨k, by omega, k2⟩
    · have e81 : p_i P1 481 m = nI (A0 481 0) := by rw [h1.i 481, hA1 481 (by decide)]
      rw [e81, nI_leI (by omega) (by omega)]
      refine ⟨fun e2 => next 0 (keep e (by omega)), fun e2 => mg_r h1 490 103 28 rfl hv28 ?_⟩
      have r1 : p_ai P1 (ar 490) v = nI (ind (FR A0 j v)) := by rw [h1.ai 490 103 28 hv28, up2_ne _ _ (Or.inl (by decide)), hr v hv28]
      have r4 : p_ai P1 (ar 484) v = nI (A0 484 v) := by rw [h1.ai 484 103 12 (by omega), hA1 484 (by decide)]
      rw [r1, b0 bv]
      refine ⟨fun e3 => next 0 (keep e (fun z => by rw [ind_pos z.2.1] at e3; omega)), fun e3 => mg_r h1 484 103 12 rfl (by omega) ?_⟩
      rw [r4, b0 (ok.2.2.2.2.2 v).1]
      refine ⟨fun e4 => next 0 (keep e (fun z => z.2.2 e4)), fun e4 => next 1 ?_⟩
      rw [ind_pos ⟨v, by omega, by omega, ind_ne.mp e3, e4⟩]
theorem mo_planFor {P0 P : Pic} {m : Nat} {ar : Nat → Nat} {A : Nat → Nat → Nat} {B : Nat → Nat → Int64} {po : Option Value → Pic → Prop} {th : String → Pic → Prop} {j : Nat} (h : MM P0 P m ar A B) (ok : OkN A) (hj : j < A 482 0)
    (hp1 : ¬ Fq A j → ∀ P' A', MM P0 P' m ar A' B → (∀ f, f ∉ [490, 491, 492, 493] → A' f = A f) → (∀ v, v < 32 → A' 493 v = plS A j 32 v) → po (some (.int 1)) P')
    (hp0 : Fq A j → ∀ P' A', MM P0 P' m ar A' B → (∀ f, f ∉ [490, 491, 492, 493] → A' f = A f) → (∀ v, v < 32 → A' 493 v = plS A j 32 v) → po (some (.int 0)) P') : wp_Mo_planFor po th P m (nI j) := by
  have hn := ok.1
  have hpp := ok.2.1
  have second : ∀ r v, v + r = 2 * A 482 0 → ∀ (P : Pic), MM P0 P m ar (row (row A 490 (fl2 (A 490) (fun k => if k = 12 + j then 1 else 0) 28)) 491 (fl2 (A 491) (fxT A) v)) B → wl_Mo_planFor_35 po th (r + 1) P m (nI j) (nI v) := by
    intro r
    induction r with
    | zero =>
      intro v hv P h
      have e82 : p_i P 482 m = nI (A 482 0) := by rw [h.i 482, row_ne _ _ (by decide), row_ne _ _ (by decide)]
      have e2 : (2 : Int32) * p_i P 482 m = nI (2 * A 482 0) := by rw [e82]; exact pk_mul 2 _
      refine ⟨h.k, fun _ => ?_, fun z => absurd (by rw [e2]; exact nI_le (by omega) (by omega)) z⟩
      have : v = 2 * A 482 0 := hv
      subst this
      rw [row_comm _ _ _ (by decide)] at h
      have q2 : row A 491 (fl2 (A 491) (fxT A) (2 * A 482 0)) 482 = A 482 := row_ne _ _ (by decide)
      have q5 : row A 491 (fl2 (A 491) (fxT A) (2 * A 482 0)) 485 = A 485 := row_ne _ _ (by decide)
      have q1 : row A 491 (fl2 (A 491) (fxT A) (2 * A 482 0)) 491 = fl2 (A 491) (fxT A) (2 * A 482 0) := row_eq _ _ _
      refine mo_spread (A := row A 491 (fl2 (A 491) (fxT A) (2 * A 482 0))) (by rw [q2]; exact hpp) (by rw [q2, q5]; intro v hv; have := (ok.2.2.2.1 v hv).1; omega) (fun v hv => by have := h.b 491 32 hv; rw [row_ne _ _ (by decide)] at this; exact this) h (fun P' R h' hb hr => ⟨rfl, 29, ?_⟩)
      refine mo_plan2 (P := P) (A := A) (A0 := A) ok hj hp1 hp0 28 0 (by omega) P' _ 0 h' (fun f hf => ?_) (fun k hk => ?_) (fun k hk => absurd hk (Nat.not_lt_zero k)) ?_
      · rw [row_ne _ _ (fun z => hf (by rw [z]; decide)), row_ne _ _ (fun z => hf (by rw [z]; decide))]
      · rw [row_eq]
        have hiff : R k = 1 ↔ FR A j k := by
          refine (hr k hk).trans ?_
          rw [q2, q5, q1]
          refine Rch.congr (fun v hv => ?_) (fun k => ?_) k
          · unfold fl2; rw [if_pos hv]
          · constructor
            · intro z
              have := z.2
              unfold fl2 at this
              rw [if_pos z.1] at this
              by_cases c : k = 12 + j
              · exact c
              · have this : (if k = 12 + j then 1 else 0) = 1 := this
                rw [if_neg c] at this; omega
            · intro z
              refine ⟨by omega, ?_⟩
              unfold fl2
              rw [if_pos (by omega)]
              exact if_pos z
        by_cases c : FR A j k
        · rw [ind_pos c]; exact hiff.mpr c
        · rw [ind_neg c]
          have : R k ≠ 1 := fun z => c (hiff.mp z)
          have := hb k hk
          omega
      · rw [ind_neg]
        rintro ⟨k, k1, _⟩
        omega
    | succ r ih =>
      intro v hv P h
      have e82 : p_i P 482 m = nI (A 482 0) := by rw [h.i 482, row_ne _ _ (by decide), row_ne _ _ (by decide)]
      have e2 : (2 : Int32) * p_i P 482 m = nI (2 * A 482 0) := by rw [e82]; exact pk_mul 2 _
      refine ⟨h.k, fun z => absurd (by rw [e2] at z; exact z) (nI_ge (by omega) (by omega)), fun _ => ⟨_, h.r 491 103 32, mg_r h 486 103 32 rfl (by omega) ?_⟩⟩
      have set : ∀ (t0 : Int32) (w : Nat), t0 = nI w → w = fxT A v → wb_Mo_planFor_82 po th (wl_Mo_planFor_35 po th (r + 1)) P m (nI j) (nI v) t0 (nI v) (ar 491) := by
        intro t0 w ht hw
        subst ht
        have hw1 : w ≤ 1 := by rw [hw]; exact fxT_le A v
        refine ⟨h.ak 491 103 32, by rw [h.an 491 103 32]; exact vp_in_nI (by omega) (by omega), b01 hw1, ?_⟩
        intro z hz
        rw [hz, ← nI_succ, nI_clamp (by omega)]
        have h' := h.sai 491 103 32 v w (fun _ => hw1)
        rw [up2_row, hw, fl2_s] at h'
        rw [hw]
        exact ih (v + 1) (by omega) _ h'
      have r6 : p_ai P (ar 486) v = nI (A 486 v) := by rw [h.ai 486 103 32 (by omega), row_ne _ _ (by decide), row_ne _ _ (by decide)]
      have r7 : p_ai P (ar 487) v = nI (A 487 v) := by rw [h.ai 487 103 32 (by omega), row_ne _ _ (by decide), row_ne _ _ (by decide)]
      have r8 : p_ai P (ar 488) v = nI (A 488 v) := by rw [h.ai 488 103 32 (by omega), row_ne _ _ (by decide), row_ne _ _ (by decide)]
      have bb := ok.2.2.2.2.2 v
      rw [nI_clamp (by omega), r6, b0 bb.2.1]
      refine ⟨fun e => set 1 1 rfl (by unfold fxT; rw [if_pos (Or.inl e)]), fun e => mg_r h 487 103 32 rfl (by omega) ?_⟩
      rw [r7, b0 bb.2.2.1]
      refine ⟨fun e3 => set 0 0 rfl (by unfold fxT; rw [if_neg (by omega)]), fun e3 => mg_r h 488 103 32 rfl (by omega) ?_⟩
      rw [r8, b0 bb.2.2.2]
      exact ⟨fun e5 => set 0 0 rfl (by unfold fxT; rw [if_neg (by omega)]), fun e5 => set 1 1 rfl (by unfold fxT; rw [if_pos (by omega)])⟩
  have first : ∀ r v, v + r = 28 → ∀ (P : Pic), MM P0 P m ar (row A 490 (fl2 (A 490) (fun k => if k = 12 + j then 1 else 0) v)) B → wl_Mo_planFor_2 po th (r + 1) P m (nI j) (nI v) := by
    intro r
    induction r with
    | zero =>
      intro v hv P h
      have : v = 28 := hv
      subst this
      refine ⟨fun _ => ⟨_, second (2 * A 482 0) 0 (by omega) P ?_⟩, fun z => absurd (by decide) z⟩
      have : row (row A 490 (fl2 (A 490) (fun k => if k = 12 + j then 1 else 0) 28)) 491 (fl2 (A 491) (fxT A) 0) = row A 490 (fl2 (A 490) (fun k => if k = 12 + j then 1 else 0) 28) := by
        rw [fl2_0]
        have e : A 491 = row A 490 (fl2 (A 490) (fun k => if k = 12 + j then 1 else 0) 28) 491 := (row_ne _ _ (by decide)).symm
        rw [e, row_self]
      rw [this]; exact h
    | succ r ih =>
      intro v hv P h
      refine ⟨fun z => absurd z (nI_ge (b := 28) (by omega) (by omega)), fun _ => ⟨h.k, _, h.r 490 103 28, ?_⟩⟩
      have set : ∀ (t0 : Int32) (w : Nat), t0 = nI w → w = (if v = 12 + j then 1 else 0) → wb_Mo_planFor_26 po th (wl_Mo_planFor_2 po th (r + 1)) P m (nI j) (nI v) t0 (nI v) (ar 490) := by
        intro t0 w ht hw
        subst ht
        have hw1 : w ≤ 1 := by rw [hw]; split <;> omega
        refine ⟨h.ak 490 103 28, by rw [h.an 490 103 28]; exact vp_in_nI (by omega) (by omega), b01 hw1, ?_⟩
        intro z hz
        rw [hz, ← nI_succ, nI_clamp (by omega)]
        have h' := h.sai 490 103 28 v w (fun _ => hw1)
        have e := fl2_s (A 490) (fun k => if k = 12 + j then 1 else 0) v
        rw [up2_row, hw, e] at h'
        rw [hw]
        exact ih (v + 1) (by omega) _ h'
      have ej : (12 : Int32) + nI j = nI (12 + j) := nI_add 12 j
      rw [ej, nI_eq (by omega) (by omega)]
      exact ⟨fun e => set 0 0 rfl (by rw [if_neg e]), fun e => set 1 1 rfl (by rw [if_pos e])⟩
  refine ⟨_, first 28 0 (by omega) P ?_⟩
  rw [fl2_0, row_self]; exact h
