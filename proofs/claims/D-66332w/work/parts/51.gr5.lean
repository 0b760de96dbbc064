/-! the reference's questions about the net -/
def scr (A A' : Nat → Nat → Nat) : Prop := ∀ f, f ∉ [480, 490, 491, 492, 493, 494] → A' f = A f
theorem mo_fed {P0 P : Pic} {m : Nat} {ar : Nat → Nat} {A : Nat → Nat → Nat} {B : Nat → Nat → Int64} {po : Option Value → Pic → Prop} {th : String → Pic → Prop} {x1 : Int32} (h : MM P0 P m ar A B) (ok : Ok A B)
    (h1 : (∀ j, j < A 483 0 → x1 ≠ nI j) → ∀ P' A', MM P0 P' m ar A' B → scr A A' → A' 480 0 = 1 → po (some (.int 0)) P')
    (h0 : ∀ c, c < A 483 0 → x1 = nI c → ∀ P' A', MM P0 P' m ar A' B → scr A A' → A' 480 0 = 0 → po (some (.int (nI (ind (Rch (A 482 0) (A 485) (fun v => fdT A 0 v ≠ 0) (fun k => k < 28 ∧ fdS A k = 1) (A 489 c)))))) P') : wp_Mo_fed po th P m x1 := by
  have hcb := ok.2.1.1
  have hn := ok.1.1
  refine ⟨h.k, mo_noCustomer h (by omega) (fun e => ⟨_, rfl, fun z => absurd z (by decide), fun _ => mg_no h 1 rfl (by decide) (by decide) (fun h' => h1 e _ _ h' (fun f hf => up2_fn _ _ (fun z => hf (by rw [z]; decide))) (up2_eq _ _ _ _))⟩) (fun c hc hx => ⟨_, rfl, fun _ => ?_, fun z => absurd rfl z⟩)⟩
  refine mg_ok h (fun h' => ?_)
  have e1 : ∀ f, f ≠ 480 → up2 A 480 0 0 f = A f := fun f hf => up2_fn _ _ hf
  refine mo_feed (wp := 0) h' (ok.1.cA (fun f hf => e1 f (by
    simp only [List.mem_cons, List.not_mem_nil, or_false] at hf
    omega))) rfl (Nat.zero_le 1) (fun P' R T h2 hb hr => ⟨rfl, h2.k, _, h2.r 490 103 28, ?_⟩)
  refine mg_r h2 489 101 10 hx (by omega) ⟨h2.ak 490 103 28, ?_⟩
  have hpl := ok.2.1.2.2.1 c hc
  have ec : p_ai P' (ar 489) (Int32.toNatClampNeg x1) = nI (A 489 c) := by
    rw [hx, nI_clamp (by omega), h2.ai 489 101 10 (by omega), row_ne _ _ (by decide), row_ne _ _ (by decide), e1 489 (by decide)]
  have er : p_ai P' (ar 490) (A 489 c) = nI (R (A 489 c)) := by
    rw [h2.ai 490 103 28 (by omega), row_ne _ _ (by decide), row_eq]
  rw [ec, nI_clamp (by omega), er, h2.an 490 103 28]
  have hR := hb (A 489 c) (by omega)
  refine ⟨vp_in_nI (by omega) (by decide), b01 hR, ?_⟩
  have hiff := hr (A 489 c) (by omega)
  have ef : ∀ v, fdT (up2 A 480 0 0) 0 v = fdT A 0 v := fun v => by unfold fdT; rw [e1 486 (by decide), e1 487 (by decide), e1 493 (by decide)]
  have es : ∀ k, fdS (up2 A 480 0 0) k = fdS A k := fun k => by unfold fdS; rw [e1 481 (by decide), e1 484 (by decide)]
  rw [e1 482 (by decide), e1 485 (by decide)] at hiff
  simp only [ef, es] at hiff
  have eR : R (A 489 c) = ind (Rch (A 482 0) (A 485) (fun v => fdT A 0 v ≠ 0) (fun k => k < 28 ∧ fdS A k = 1) (A 489 c)) := by
    by_cases q : Rch (A 482 0) (A 485) (fun v => fdT A 0 v ≠ 0) (fun k => k < 28 ∧ fdS A k = 1) (A 489 c)
    · rw [ind_pos q]; exact hiff.mpr q
    · rw [ind_neg q]
      have : R (A 489 c) ≠ 1 := fun z => q (hiff.mp z)
      omega
  rw [eR]
  refine h0 c hc hx P' _ h2 (fun f hf => ?_) ?_
  · rw [row_ne _ _ (fun z => hf (by rw [z]; decide)), row_ne _ _ (fun z => hf (by rw [z]; decide)), e1 f (fun z => hf (by rw [z]; decide))]
  · rw [row_ne _ _ (by decide), row_ne _ _ (by decide), up2_eq]
theorem mo_shutCount {P0 P : Pic} {m : Nat} {ar : Nat → Nat} {A : Nat → Nat → Nat} {B : Nat → Nat → Int64} {po : Option Value → Pic → Prop} {th : String → Pic → Prop} (h : MM P0 P m ar A B) (hp : po (some (.int (nI (cnt (A 493) 32)))) P) : wp_Mo_shutCount po th P m := by
  have key : ∀ r v, v + r = 32 → wl_Mo_shutCount_4 po th (r + 1) P m (nI (cnt (A 493) v)) (nI v) := by
    intro r
    induction r with
    | zero =>
      intro v hv
      have : v = 32 := hv
      subst this
      exact ⟨fun _ => hp, fun z => absurd (by decide) z⟩
    | succ r ih =>
      intro v hv
      have b := h.b 493 32 (j := v) (by omega)
      refine ⟨fun z => absurd z (nI_ge (b := 32) (by omega) (by omega)), fun _ => ⟨h.k, mg_r h 493 103 32 rfl (by omega) ?_⟩⟩
      rw [nI_clamp (by omega), h.ai 493 103 32 (by omega), b0 b]
      have i1 := ih (v + 1) (by omega)
      refine ⟨fun e z hz => ?_, fun e z hz => ?_⟩
      · rw [hz, ← nI_succ]
        rw [cnt, if_pos e] at i1; exact i1
      · rw [hz, ← nI_succ, ← nI_succ]
        rw [cnt, if_neg e] at i1; exact i1
  exact ⟨33, key 32 0 (by omega)⟩
