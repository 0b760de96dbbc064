/-! the plan, told by numbers -/
noncomputable def ind (p : Prop) : Nat := @ite Nat p (Classical.propDecidable p) 1 0
theorem ind_pos {p : Prop} (h : p) : ind p = 1 := if_pos h
theorem ind_neg {p : Prop} (h : ¬ p) : ind p = 0 := if_neg h
theorem ind_le (p : Prop) : ind p ≤ 1 := by
  by_cases h : p
  · rw [ind_pos h]; exact Nat.le_refl 1
  · rw [ind_neg h]; exact Nat.zero_le 1
theorem ind_ne {p : Prop} : ind p ≠ 0 ↔ p := by
  by_cases h : p
  · rw [ind_pos h]; exact ⟨fun _ => h, fun _ => by decide⟩
  · rw [ind_neg h]; exact ⟨fun z => absurd rfl z, fun z => absurd z h⟩
theorem ind_eq {p : Prop} : ind p = 1 ↔ p := by
  by_cases h : p
  · rw [ind_pos h]; exact ⟨fun _ => h, fun _ => rfl⟩
  · rw [ind_neg h]; exact ⟨fun z => absurd z (by decide), fun z => absurd z h⟩
theorem ind_congr {p q : Prop} (h : p ↔ q) : ind p = ind q := by
  by_cases hp : p
  · rw [ind_pos hp, ind_pos (h.mp hp)]
  · rw [ind_neg hp, ind_neg (fun z => hp (h.mpr z))]
def fxT (A : Nat → Nat → Nat) (v : Nat) : Nat := if A 486 v = 0 ∨ (A 487 v ≠ 0 ∧ A 488 v ≠ 0) then 1 else 0
theorem fxT_le (A : Nat → Nat → Nat) (k : Nat) : fxT A k ≤ 1 := by unfold fxT; split <;> omega
/-- reached from the pipe's middle over what can't be shut -/
def FR (A : Nat → Nat → Nat) (j k : Nat) : Prop := Rch (A 482 0) (A 485) (fun v => fxT A v ≠ 0) (fun k => k = 12 + j) k
def Fq (A : Nat → Nat → Nat) (j : Nat) : Prop := ∃ k, k < A 481 0 ∧ FR A j k ∧ A 484 k ≠ 0
/-- fed when those of s are shut too -/
def SR (A : Nat → Nat → Nat) (s : Nat → Nat) (k : Nat) : Prop := Rch (A 482 0) (A 485) (fun v => fdT (row A 493 s) 1 v ≠ 0) (fun k => k < 28 ∧ fdS A k = 1) k
noncomputable def pl0 (A : Nat → Nat → Nat) (j v : Nat) : Nat := ind (¬ Fq A j ∧ v < 2 * A 482 0 ∧ A 486 v ≠ 0 ∧ A 487 v ≠ 0 ∧ A 488 v = 0 ∧ ¬ (FR A j (12 + v / 2) ↔ FR A j (A 485 v)))
noncomputable def plS (A : Nat → Nat → Nat) (j : Nat) : Nat → Nat → Nat
  | 0 => pl0 A j
  | v + 1 => if plS A j v v = 0 then plS A j v else va_up (plS A j v) v (ind (SR A (va_up (plS A j v) v 0) (12 + j)))
theorem plS_s (A : Nat → Nat → Nat) (j v : Nat) : plS A j (v + 1) = if plS A j v v = 0 then plS A j v else va_up (plS A j v) v (ind (SR A (va_up (plS A j v) v 0) (12 + j))) := by rw [plS]
theorem plS_le (A : Nat → Nat → Nat) (j : Nat) : ∀ n v, plS A j n v ≤ 1
  | 0, v => ind_le _
  | n + 1, v => by
    unfold plS
    split
    · exact plS_le A j n v
    · unfold va_up; split
      · exact ind_le _
      · exact plS_le A j n v
/-- what lies from v on is as it was at first -/
theorem plS_ge (A : Nat → Nat → Nat) (j : Nat) : ∀ n v, n ≤ v → plS A j n v = pl0 A j v
  | 0, v, _ => rfl
  | n + 1, v, h => by
    unfold plS
    split
    · exact plS_ge A j n v (by omega)
    · unfold va_up; rw [if_neg (by omega)]; exact plS_ge A j n v (by omega)
theorem plS_zero {A : Nat → Nat → Nat} {j : Nat} (h : ∀ v, pl0 A j v = 0) : ∀ n v, plS A j n v = 0
  | 0, v => h v
  | n + 1, v => by
    unfold plS
    rw [if_pos (plS_zero h n n)]; exact plS_zero h n v
theorem OkN.cA {A A' : Nat → Nat → Nat} (h : OkN A) (e : ∀ f, f ∈ [481, 482, 484, 485, 486, 487, 488] → A' f = A f) : OkN A' := by
  unfold OkN at h ⊢
  rw [e 481 (by decide), e 482 (by decide), e 484 (by decide), e 485 (by decide), e 486 (by decide), e 487 (by decide), e 488 (by decide)]; exact h
theorem mo_canTurn {P0 P : Pic} {m : Nat} {ar : Nat → Nat} {A : Nat → Nat → Nat} {B : Nat → Nat → Int64} {po : Option Value → Pic → Prop} {th : String → Pic → Prop} {v : Nat} (h : MM P0 P m ar A B) (ok : OkN A) (hv : v < 32) (h1 : (A 486 v ≠ 0 ∧ A 487 v ≠ 0 ∧ A 488 v = 0) → po (some (.int 1)) P) (h0 : ¬ (A 486 v ≠ 0 ∧ A 487 v ≠ 0 ∧ A 488 v = 0) → po (some (.int 0)) P) : wp_Mo_canTurn po th P m (nI v) := by
  have bb := ok.2.2.2.2.2 v
  refine ⟨h.k, mg_r h 486 103 32 rfl hv ?_⟩
  rw [nI_clamp (by omega), h.ai 486 103 32 hv, b0 bb.2.1]
  refine ⟨fun e => h0 (by omega), fun e => mg_r h 487 103 32 rfl hv ?_⟩
  rw [h.ai 487 103 32 hv, b0 bb.2.2.1]
  refine ⟨fun e => h0 (by omega), fun e => mg_r h 488 103 32 rfl hv ?_⟩
  rw [h.ai 488 103 32 hv, b0 bb.2.2.2]
  exact ⟨fun e => h0 (by omega), fun e => h1 (by omega)⟩
/-- the last loop of the plan: each valve of it is tried -/
theorem mo_plan4 {P0 P : Pic} {m : Nat} {ar : Nat → Nat} {A : Nat → Nat → Nat} {B : Nat → Nat → Int64} {po : Option Value → Pic → Prop} {th : String → Pic → Prop} {j : Nat} {A0 : Nat → Nat → Nat} (ok : OkN A0) (hj : j < A0 482 0)
    (hp : ∀ P' A', MM P0 P' m ar A' B → (∀ f, f ∉ [490, 491, 492, 493] → A' f = A0 f) → (∀ v, v < 32 → A' 493 v = plS A0 j 32 v) → po (some (.int 1)) P') :
    ∀ r v, v + r = 32 → ∀ (P : Pic) (A : Nat → Nat → Nat), MM P0 P m ar A B → (∀ f, f ∉ [490, 491, 492, 493] → A f = A0 f) → (∀ w, w < 32 → A 493 w = plS A0 j v w) → wl_Mo_planFor_231 po th (r + 1) P m (nI j) 0 (nI v) := by
  have hpp := ok.2.1
  intro r
  induction r with
  | zero =>
    intro v hv P A h hA hs
    have : v = 32 := hv
    subst this
    exact ⟨fun _ => ⟨fun z => absurd rfl z, fun _ => hp P A h hA hs⟩, fun z => absurd (by decide) z⟩
  | succ r ih =>
    intro v hv P A h hA hs
    have hv32 : v < 32 := by omega
    refine ⟨fun z => absurd z (nI_ge (b := 32) hv32 (by omega)), fun _ => ⟨fun z => absurd rfl z, fun _ => ⟨h.k, mg_r h 493 103 32 rfl hv32 ?_⟩⟩⟩
    have next : ∀ (P' : Pic) (A' : Nat → Nat → Nat), MM P0 P' m ar A' B → (∀ f, f ∉ [490, 491, 492, 493] → A' f = A0 f) → (∀ w, w < 32 → A' 493 w = plS A0 j (v + 1) w) → wb_Mo_planFor_277 po th (wl_Mo_planFor_231 po th (r + 1)) P' m (nI j) 0 (nI v) := by
      intro P' A' h' hA' hs' z hz
      rw [hz, ← nI_succ]
      exact ih (v + 1) (by omega) P' A' h' hA' hs'
    have es := hs v hv32
    rw [nI_clamp (by omega), h.ai 493 103 32 hv32, es, b0 (plS_le A0 j v v)]
    refine ⟨fun e => next P A h hA (fun w hw => ?_), fun e => mg_r h 493 103 32 rfl hv32 ?_⟩
    · rw [hs w hw, plS_s, if_pos e]
    · have hs0 := h.sai 493 103 32 v 0 (fun _ => Nat.zero_le 1)
      have e1 : ∀ f, f ∉ [490, 491, 492, 493] → up2 A 493 v 0 f = A0 f := fun f hf => by rw [up2_fn _ _ (fun z => hf (by rw [z]; decide)), hA f hf]
      have ok' : OkN (up2 A 493 v 0) := ok.cA (fun f hf => e1 f (by
        have : f ∈ [481, 482, 484, 485, 486, 487, 488] → f ∉ [490, 491, 492, 493] := by
          intro z y
          simp only [List.mem_cons, List.not_mem_nil, or_false] at z y
          omega
        exact this hf))
      refine mo_feed (A := up2 A 493 v 0) (wp := 1) hs0 ok' rfl (Nat.le_refl 1) (fun P' R T h' hb hr => ⟨rfl, h'.k, _, h'.r 493 103 32, ?_⟩)
      have ej : (12 : Int32) + nI j = nI (12 + j) := nI_add 12 j
      rw [ej]
      refine mg_r h' 490 103 28 rfl (by omega) ⟨h'.ak 493 103 32, by rw [h'.an 493 103 32]; exact vp_in_nI hv32 (by decide), ?_⟩
      have r0 : p_ai P' (ar 490) (12 + j) = nI (R (12 + j)) := by rw [h'.ai 490 103 28 (by omega), row_ne _ _ (by decide), row_eq]
      rw [nI_clamp (by omega), r0]
      have hR := hb (12 + j) (by omega)
      refine ⟨b01 hR, ?_⟩
      intro P2 hP2
      have h2 := h'.sai 493 103 32 v (R (12 + j)) (fun _ => hR)
      rw [← hP2] at h2
      refine next P2 _ h2 (fun f hf => ?_) (fun w hw => ?_)
      · rw [up2_fn _ _ (fun z => hf (by rw [z]; decide)), row_ne _ _ (fun z => hf (by rw [z]; decide)), row_ne _ _ (fun z => hf (by rw [z]; decide))]; exact e1 f hf
      · have eR : R (12 + j) = ind (SR A0 (va_up (plS A0 j v) v 0) (12 + j)) := by
          have hiff := hr (12 + j) (by omega)
          rw [e1 482 (by decide), e1 485 (by decide)] at hiff
          have hiff2 : R (12 + j) = 1 ↔ SR A0 (va_up (plS A0 j v) v 0) (12 + j) := by
            refine hiff.trans (Rch.congr (fun w hw => ?_) (fun k => ?_) _)
            · have : fdT (up2 A 493 v 0) 1 w = fdT (row A0 493 (va_up (plS A0 j v) v 0)) 1 w := by
                unfold fdT
                rw [e1 486 (by decide), e1 487 (by decide), row_ne _ _ (by decide), row_ne _ _ (by decide), row_eq]
                have : up2 A 493 v 0 493 w = va_up (plS A0 j v) v 0 w := by
                  unfold va_up
                  by_cases c : w = v
                  · rw [if_pos c, c, up2_eq]
                  · rw [if_neg c, up2_ne _ _ (Or.inr c)]; exact hs w (by omega)
                rw [this]
              rw [this]
            · unfold fdS
              rw [e1 481 (by decide), e1 484 (by decide)]
          by_cases c : SR A0 (va_up (plS A0 j v) v 0) (12 + j)
          · rw [ind_pos c]; exact hiff2.mpr c
          · rw [ind_neg c]
            have : R (12 + j) ≠ 1 := fun z => c (hiff2.mp z)
            omega
        rw [plS_s, if_neg e, ← eR]
        unfold va_up
        by_cases c : w = v
        · rw [if_pos c, c, up2_eq]
        · rw [if_neg c, up2_ne _ _ (Or.inr c), row_ne _ _ (by decide), row_ne _ _ (by decide), up2_ne _ _ (Or.inr c)]; exact hs w hw
