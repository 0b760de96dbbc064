/-! the reference's spread and feed -/
theorem mo_spread {P0 P : Pic} {m : Nat} {ar : Nat → Nat} {A : Nat → Nat → Nat} {B : Nat → Nat → Int64} {po : Option Value → Pic → Prop} {th : String → Pic → Prop} {R0 : Nat → Nat} (hA : A 482 0 ≤ 16) (he : ∀ v, v < 2 * A 482 0 → A 485 v < 12) (hT : ∀ v, v < 32 → A 491 v ≤ 1) (h : MM P0 P m ar (row A 490 R0) B)
    (hp : ∀ P' R, MM P0 P' m ar (row A 490 R) B → (∀ k, k < 28 → R k ≤ 1) → (∀ k, k < 28 → (R k = 1 ↔ Rch (A 482 0) (A 485) (fun v => A 491 v ≠ 0) (fun k => k < 28 ∧ R0 k = 1) k)) → po none P') : wp_Mo_spread po th P m := by
  have key : ∀ d (P : Pic) (R : Nat → Nat), MM P0 P m ar (row A 490 R) B → (∀ k, k < 28 → R0 k ≠ 0 → R k ≠ 0) → (∀ k, k < 28 → R k ≠ 0 → Rch (A 482 0) (A 485) (fun v => A 491 v ≠ 0) (fun k => k < 28 ∧ R0 k = 1) k) → 28 - cnt R 28 ≤ d → wl_Mo_spread_2 po th (d + 2) P m (nI 1) := by
    intro d
    induction d with
    | zero =>
      intro P R h hm hr hd
      refine ⟨fun z => absurd z (by decide), fun _ => ⟨2 * A 482 0 + 1, ?_⟩⟩
      refine mo_pass1 (P := P) (S := fun k => k < 28 ∧ R0 k = 1) hA he hT R ?_ (2 * A 482 0) 0 (by omega) P R 0 h ⟨fun k hk => by have := h.b 490 28 hk; rw [row_eq] at this; exact this, fun _ _ z => z, hr, Or.inl rfl, fun _ w hw => absurd hw (Nat.not_lt_zero w), fun z => by omega⟩
      intro P' R' more h' hI
      obtain ⟨i1, i2, i3, i4, i5, i6⟩ := hI
      rcases i4 with z | z
      · subst z
        refine ⟨fun _ => hp P' R' h' i1 (fun k hk => ⟨fun e => i3 k hk (by omega), fun e => ?_⟩), fun z => absurd rfl z⟩
        have := (e (fun x => x < 28 ∧ R' x = 1) (fun x hx => ⟨hx.1, ?_⟩) (fun v hv ht => ?_)).2
        · exact this
        · have := i1 x hx.1; have := i2 x hx.1 (hm x hx.1 (by omega)); omega
        · have e1 := i5 rfl v hv ht
          have := he v hv
          constructor
          · intro z; exact ⟨by omega, by rw [← e1]; exact z.2⟩
          · intro z; exact ⟨by omega, by rw [e1]; exact z.2⟩
      · have := i6 z; have := cnt_le R' 28; omega
    | succ d ih =>
      intro P R h hm hr hd
      refine ⟨fun z => absurd z (by decide), fun _ => ⟨2 * A 482 0 + 1, ?_⟩⟩
      refine mo_pass1 (P := P) (S := fun k => k < 28 ∧ R0 k = 1) hA he hT R ?_ (2 * A 482 0) 0 (by omega) P R 0 h ⟨fun k hk => by have := h.b 490 28 hk; rw [row_eq] at this; exact this, fun _ _ z => z, hr, Or.inl rfl, fun _ w hw => absurd hw (Nat.not_lt_zero w), fun z => by omega⟩
      intro P' R' more h' hI
      obtain ⟨i1, i2, i3, i4, i5, i6⟩ := hI
      rcases i4 with z | z
      · subst z
        refine ⟨fun _ => hp P' R' h' i1 (fun k hk => ⟨fun e => i3 k hk (by omega), fun e => ?_⟩), fun z => absurd rfl z⟩
        have := (e (fun x => x < 28 ∧ R' x = 1) (fun x hx => ⟨hx.1, ?_⟩) (fun v hv ht => ?_)).2
        · exact this
        · have := i1 x hx.1; have := i2 x hx.1 (hm x hx.1 (by omega)); omega
        · have e1 := i5 rfl v hv ht
          have := he v hv
          constructor
          · intro z; exact ⟨by omega, by rw [← e1]; exact z.2⟩
          · intro z; exact ⟨by omega, by rw [e1]; exact z.2⟩
      · have := i6 z
        subst z
        exact ih P' R' h' (fun k hk z => i2 k hk (hm k hk z)) i3 (by omega)
  have h0 : ∀ k, k < 28 → R0 k ≤ 1 := fun k hk => by have := h.b 490 28 hk; rw [row_eq] at this; exact this
  exact ⟨_, key 28 P R0 h (fun _ _ z => z) (fun k hk z => Rch.start ⟨hk, by have := h0 k hk; omega⟩) (by omega)⟩
/-- a row whose first i numbers are new -/
def fl2 (R v : Nat → Nat) (i : Nat) : Nat → Nat := fun j => if j < i then v j else R j
theorem fl2_0 (R v : Nat → Nat) : fl2 R v 0 = R := by funext j; exact if_neg (Nat.not_lt_zero j)
theorem fl2_s (R v : Nat → Nat) (i : Nat) : va_up (fl2 R v i) i (v i) = fl2 R v (i + 1) := by
  funext j
  unfold va_up fl2
  by_cases e : j = i
  · rw [if_pos e, if_pos (by omega), e]
  · rw [if_neg e]
    by_cases c : j < i
    · rw [if_pos c, if_pos (by omega)]
    · rw [if_neg c, if_neg (by omega)]
def fdS (A : Nat → Nat → Nat) (k : Nat) : Nat := if k < A 481 0 ∧ A 484 k ≠ 0 then 1 else 0
def fdT (A : Nat → Nat → Nat) (wp : Nat) (v : Nat) : Nat := if A 486 v = 0 ∨ (A 487 v ≠ 0 ∧ ¬ (wp ≠ 0 ∧ A 493 v ≠ 0)) then 1 else 0
theorem fdS_le (A : Nat → Nat → Nat) (k : Nat) : fdS A k ≤ 1 := by unfold fdS; split <;> omega
theorem fdT_le (A : Nat → Nat → Nat) (w k : Nat) : fdT A w k ≤ 1 := by unfold fdT; split <;> omega
theorem mo_feed {P0 P : Pic} {m : Nat} {ar : Nat → Nat} {A : Nat → Nat → Nat} {B : Nat → Nat → Int64} {po : Option Value → Pic → Prop} {th : String → Pic → Prop} {wp : Nat} {x1 : Int32} (h : MM P0 P m ar A B) (ok : OkN A) (hx : x1 = nI wp) (hwp : wp ≤ 1)
    (hp : ∀ P' R T, MM P0 P' m ar (row (row A 490 R) 491 T) B → (∀ k, k < 28 → R k ≤ 1) → (∀ k, k < 28 → (R k = 1 ↔ Rch (A 482 0) (A 485) (fun v => fdT A wp v ≠ 0) (fun k => k < 28 ∧ fdS A k = 1) k)) → po none P') : wp_Mo_feed po th P m x1 := by
  subst hx
  have hn := ok.1
  have hpp := ok.2.1
  have second : ∀ j v, v + j = 2 * A 482 0 → ∀ (P : Pic), MM P0 P m ar (row (row A 490 (fl2 (A 490) (fdS A) 28)) 491 (fl2 (A 491) (fdT A wp) v)) B → wl_Mo_feed_44 po th (j + 1) P m (nI wp) (nI v) := by
    intro j
    induction j with
    | zero =>
      intro v hv P h
      have e82 : p_i P 482 m = nI (A 482 0) := by rw [h.i 482, row_ne _ _ (by decide), row_ne _ _ (by decide)]
      have e2 : (2 : Int32) * p_i P 482 m = nI (2 * A 482 0) := by rw [e82]; exact pk_mul 2 _
      refine ⟨h.k, fun _ => ?_, fun z => absurd (by rw [e2]; exact nI_le (by omega) (by omega)) z⟩
      have : v = 2 * A 482 0 := hv
      subst this
      rw [row_comm _ _ _ (by decide)] at h
      have q2 : row A 491 (fl2 (A 491) (fdT A wp) (2 * A 482 0)) 482 = A 482 := row_ne _ _ (by decide)
      have q5 : row A 491 (fl2 (A 491) (fdT A wp) (2 * A 482 0)) 485 = A 485 := row_ne _ _ (by decide)
      have q1 : row A 491 (fl2 (A 491) (fdT A wp) (2 * A 482 0)) 491 = fl2 (A 491) (fdT A wp) (2 * A 482 0) := row_eq _ _ _
      refine mo_spread (A := row A 491 (fl2 (A 491) (fdT A wp) (2 * A 482 0))) (by rw [q2]; exact hpp) (by rw [q2, q5]; intro v hv; have := (ok.2.2.2.1 v hv).1; omega) (fun v hv => by have := h.b 491 32 hv; rw [row_ne _ _ (by decide)] at this; exact this) h (fun P' R h' hb hr => ⟨rfl, hp P' R (fl2 (A 491) (fdT A wp) (2 * A 482 0)) ?_ hb (fun k hk => (hr k hk).trans ?_)⟩)
      · rw [row_comm _ _ _ (by decide)]; exact h'
      · rw [q2, q5, q1]
        refine Rch.congr (fun v hv => ?_) (fun k => ?_) k
        · unfold fl2; rw [if_pos hv]
        · constructor
          · intro z; refine ⟨z.1, ?_⟩; have := z.2; unfold fl2 at this; rw [if_pos z.1] at this; exact this
          · intro z; refine ⟨z.1, ?_⟩; unfold fl2; rw [if_pos z.1]; exact z.2
    | succ j ih =>
      intro v hv P h
      have e82 : p_i P 482 m = nI (A 482 0) := by rw [h.i 482, row_ne _ _ (by decide), row_ne _ _ (by decide)]
      have e2 : (2 : Int32) * p_i P 482 m = nI (2 * A 482 0) := by rw [e82]; exact pk_mul 2 _
      refine ⟨h.k, fun z => absurd (by rw [e2] at z; exact z) (nI_ge (by omega) (by omega)), fun _ => ⟨_, h.r 491 103 32, mg_r h 486 103 32 rfl (by omega) ?_⟩⟩
      have set : ∀ (t0 : Int32) (w : Nat), t0 = nI w → w = fdT A wp v → wb_Mo_feed_95 po th (wl_Mo_feed_44 po th (j + 1)) P m (nI wp) (nI v) t0 (nI v) (ar 491) := by
        intro t0 w ht hw
        subst ht
        have hw1 : w ≤ 1 := by rw [hw]; exact fdT_le A wp v
        refine ⟨h.ak 491 103 32, by rw [h.an 491 103 32]; exact vp_in_nI (by omega) (by omega), b01 hw1, ?_⟩
        intro z hz
        rw [hz, ← nI_succ, nI_clamp (by omega)]
        have h' := h.sai 491 103 32 v w (fun _ => hw1)
        rw [up2_row, hw, fl2_s] at h'
        rw [hw]
        exact ih (v + 1) (by omega) _ h'
      have r6 : p_ai P (ar 486) v = nI (A 486 v) := by rw [h.ai 486 103 32 (by omega), row_ne _ _ (by decide), row_ne _ _ (by decide)]
      have r7 : p_ai P (ar 487) v = nI (A 487 v) := by rw [h.ai 487 103 32 (by omega), row_ne _ _ (by decide), row_ne _ _ (by decide)]
      have r3 : p_ai P (ar 493) v = nI (A 493 v) := by rw [h.ai 493 103 32 (by omega), row_ne _ _ (by decide), row_ne _ _ (by decide)]
      have b3 : A 493 v ≤ 1 := by have := h.b 493 32 (j := v) (by omega); rw [row_ne _ _ (by decide), row_ne _ _ (by decide)] at this; exact this
      have bb := ok.2.2.2.2.2 v
      rw [nI_clamp (by omega), r6, b0 bb.2.1]
      refine ⟨fun e => set 1 1 rfl (by unfold fdT; rw [if_pos (Or.inl e)]), fun e => mg_r h 487 103 32 rfl (by omega) ?_⟩
      rw [r7, b0 bb.2.2.1]
      refine ⟨fun e3 => set 0 0 rfl (by unfold fdT; rw [if_neg (by omega)]), fun e3 => ?_⟩
      rw [b0 hwp]
      refine ⟨fun e4 => set 1 1 rfl (by unfold fdT; rw [if_pos (by omega)]), fun e4 => mg_r h 493 103 32 rfl (by omega) ?_⟩
      rw [r3, b0 b3]
      exact ⟨fun e5 => set 0 0 rfl (by unfold fdT; rw [if_neg (by omega)]), fun e5 => set 1 1 rfl (by unfold fdT; rw [if_pos (by omega)])⟩
  have first : ∀ j v, v + j = 28 → ∀ (P : Pic), MM P0 P m ar (row A 490 (fl2 (A 490) (fdS A) v)) B → wl_Mo_feed_2 po th (j + 1) P m (nI wp) (nI v) := by
    intro j
    induction j with
    | zero =>
      intro v hv P h
      have : v = 28 := hv
      subst this
      refine ⟨fun _ => ⟨_, second (2 * A 482 0) 0 (by omega) P ?_⟩, fun z => absurd (by decide) z⟩
      have : row (row A 490 (fl2 (A 490) (fdS A) 28)) 491 (fl2 (A 491) (fdT A wp) 0) = row A 490 (fl2 (A 490) (fdS A) 28) := by
        rw [fl2_0]
        have e : A 491 = row A 490 (fl2 (A 490) (fdS A) 28) 491 := (row_ne _ _ (by decide)).symm
        rw [e, row_self]
      rw [this]; exact h
    | succ j ih =>
      intro v hv P h
      refine ⟨fun z => absurd z (nI_ge (b := 28) (by omega) (by omega)), fun _ => ⟨h.k, _, h.r 490 103 28, ?_⟩⟩
      have set : ∀ (t0 : Int32) (w : Nat), t0 = nI w → w = fdS A v → wb_Mo_feed_35 po th (wl_Mo_feed_2 po th (j + 1)) P m (nI wp) (nI v) t0 (nI v) (ar 490) := by
        intro t0 w ht hw
        subst ht
        have hw1 : w ≤ 1 := by rw [hw]; exact fdS_le A v
        refine ⟨h.ak 490 103 28, by rw [h.an 490 103 28]; exact vp_in_nI (by omega) (by omega), b01 hw1, ?_⟩
        intro z hz
        rw [hz, ← nI_succ, nI_clamp (by omega)]
        have h' := h.sai 490 103 28 v w (fun _ => hw1)
        rw [up2_row, hw, fl2_s] at h'
        rw [hw]
        exact ih (v + 1) (by omega) _ h'
      have e81 : p_i P 481 m = nI (A 481 0) := by rw [h.i 481, row_ne _ _ (by decide)]
      rw [e81, nI_leI (by omega) (by omega)]
      refine ⟨fun e => set 0 0 rfl (by unfold fdS; rw [if_neg (by omega)]), fun e => mg_r h 484 103 12 rfl (by omega) ?_⟩
      have r4 : p_ai P (ar 484) v = nI (A 484 v) := by rw [h.ai 484 103 12 (by omega), row_ne _ _ (by decide)]
      rw [nI_clamp (by omega), r4, b0 (ok.2.2.2.2.2 v).1]
      exact ⟨fun e5 => set 0 0 rfl (by unfold fdS; rw [if_neg (by omega)]), fun e5 => set 1 1 rfl (by unfold fdS; rw [if_pos (by omega)])⟩
  refine ⟨_, first 28 0 (by omega) P ?_⟩
  rw [fl2_0, row_self]; exact h
