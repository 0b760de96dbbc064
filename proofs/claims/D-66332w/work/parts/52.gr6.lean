/-! the plan's questions (reference) -/
def eqN (A A' : Nat → Nat → Nat) : Prop := ∀ f, f ∈ [481, 482, 484, 485, 486, 487, 488] → A' f = A f
theorem fxT_cA {A A' : Nat → Nat → Nat} (e : eqN A A') (v : Nat) : fxT A' v = fxT A v := by unfold fxT; rw [e 486 (by decide), e 487 (by decide), e 488 (by decide)]
theorem FR_cA {A A' : Nat → Nat → Nat} (e : eqN A A') (j k : Nat) : FR A' j k ↔ FR A j k := by
  unfold FR; rw [e 482 (by decide), e 485 (by decide)]; simp only [fxT_cA e]
theorem Fq_cA {A A' : Nat → Nat → Nat} (e : eqN A A') (j : Nat) : Fq A' j ↔ Fq A j := by
  unfold Fq; rw [e 481 (by decide), e 484 (by decide)]; simp only [FR_cA e]
theorem pl0_cA {A A' : Nat → Nat → Nat} (e : eqN A A') (j v : Nat) : pl0 A' j v = pl0 A j v := by
  unfold pl0; rw [e 482 (by decide), e 485 (by decide), e 486 (by decide), e 487 (by decide), e 488 (by decide)]; simp only [FR_cA e, Fq_cA e]
theorem SR_cA {A A' : Nat → Nat → Nat} (e : eqN A A') (s : Nat → Nat) (k : Nat) : SR A' s k ↔ SR A s k := by
  have e1 : ∀ v, fdT (row A' 493 s) 1 v = fdT (row A 493 s) 1 v := fun v => by
    unfold fdT; rw [row_eq, row_eq, row_ne A' s (F := 486) (by decide), row_ne A' s (F := 487) (by decide), row_ne A s (F := 486) (by decide), row_ne A s (F := 487) (by decide), e 486 (by decide), e 487 (by decide)]
  have e2 : ∀ k, fdS A' k = fdS A k := fun k => by unfold fdS; rw [e 481 (by decide), e 484 (by decide)]
  unfold SR; rw [e 482 (by decide), e 485 (by decide)]; simp only [e1, e2]
theorem plS_cA {A A' : Nat → Nat → Nat} (e : eqN A A') (j : Nat) : ∀ n, plS A' j n = plS A j n
  | 0 => by funext v; exact pl0_cA e j v
  | n + 1 => by
    rw [plS_s, plS_s, plS_cA e j n, ind_congr (SR_cA e _ _)]
theorem eqN_80 (A : Nat → Nat → Nat) (i v : Nat) : eqN A (up2 A 480 i v) := fun f hf => up2_fn _ _ (fun z => by
  rw [z] at hf; revert hf; decide)
theorem scr_of {A A' : Nat → Nat → Nat} {v : Nat} (h : ∀ f, f ∉ [490, 491, 492, 493] → A' f = up2 A 480 0 v f) : scr A A' ∧ A' 480 0 = v := by
  refine ⟨fun f hf => ?_, ?_⟩
  · rw [h f (fun z => hf (by simp only [List.mem_cons, List.not_mem_nil, or_false] at z ⊢; omega)), up2_fn _ _ (fun z => hf (by rw [z]; decide))]
  · rw [h 480 (by decide), up2_eq]
theorem cnt_congr {R R' : Nat → Nat} : ∀ n, (∀ k, k < n → R k = R' k) → cnt R n = cnt R' n
  | 0, _ => rfl
  | n + 1, h => by rw [cnt, cnt, cnt_congr n (fun k hk => h k (by omega)), h n (by omega)]
/-- which one the i-th is -/
def pick (s : Nat → Nat) : Nat → Int32 → Nat → Int32
  | 0, _, _ => -1
  | r + 1, n, v => if s v = 0 then pick s r n (v + 1) else if n = 0 then nI v else pick s r (n + (-1)) (v + 1)
theorem pick_congr {s s' : Nat → Nat} : ∀ r n v, (∀ k, k < v + r → s k = s' k) → pick s r n v = pick s' r n v
  | 0, _, _, _ => rfl
  | r + 1, n, v, h => by
    rw [pick, pick, h v (by omega), pick_congr r n (v + 1) (fun k hk => h k (by omega)), pick_congr r (n + (-1)) (v + 1) (fun k hk => h k (by omega))]
theorem pick_zero {s : Nat → Nat} : ∀ r n v, (∀ k, v ≤ k → s k = 0) → pick s r n v = -1
  | 0, _, _, _ => rfl
  | r + 1, n, v, h => by rw [pick, if_pos (h v (Nat.le_refl v))]; exact pick_zero r n (v + 1) (fun k hk => h k (by omega))
theorem pick_more {s : Nat → Nat} : ∀ r t n v, (∀ k, v + r ≤ k → s k = 0) → pick s (r + t) n v = pick s r n v
  | 0, t, n, v, h => by rw [Nat.zero_add]; exact pick_zero t n v (fun k hk => h k (by omega))
  | r + 1, t, n, v, h => by
    have e : r + 1 + t = (r + t) + 1 := by omega
    rw [e, pick, pick, pick_more r t n (v + 1) (fun k hk => h k (by omega)), pick_more r t (n + (-1)) (v + 1) (fun k hk => h k (by omega))]
theorem mo_shutOff {P0 P : Pic} {m : Nat} {ar : Nat → Nat} {A : Nat → Nat → Nat} {B : Nat → Nat → Int64} {po : Option Value → Pic → Prop} {th : String → Pic → Prop} {x1 : Int32} (h : MM P0 P m ar A B) (ok : OkN A)
    (h1 : (∀ j, j < A 482 0 → x1 ≠ nI j) → ∀ P' A', MM P0 P' m ar A' B → scr A A' → A' 480 0 = 1 → po (some (.int 0)) P')
    (h0 : ∀ j, j < A 482 0 → x1 = nI j → Fq A j → ∀ P' A', MM P0 P' m ar A' B → scr A A' → A' 480 0 = 0 → po (some (.int (-1))) P')
    (h2 : ∀ j, j < A 482 0 → x1 = nI j → ¬ Fq A j → ∀ P' A', MM P0 P' m ar A' B → scr A A' → A' 480 0 = 0 → po (some (.int (nI (cnt (plS A j 32) 32)))) P') : wp_Mo_shutOff po th P m x1 := by
  have hpp := ok.2.1
  refine ⟨h.k, mo_noPipe h (by omega) (fun e => ⟨_, rfl, fun z => absurd z (by decide), fun _ => mg_no h 1 rfl (by decide) (by decide) (fun h' => h1 e _ _ h' (fun f hf => up2_fn _ _ (fun z => hf (by rw [z]; decide))) (up2_eq _ _ _ _))⟩) (fun j hj hx => ⟨_, rfl, fun _ => ?_, fun z => absurd rfl z⟩)⟩
  refine mg_ok h (fun h' => ?_)
  rw [hx]
  refine mo_planFor h' (ok.cA (eqN_80 A 0 0)) hj (fun hq P' A' h2' hA hs => ⟨_, rfl, fun z => absurd z (by decide), fun _ => ⟨h2'.k, mo_shutCount h2' ⟨_, rfl, ?_⟩⟩⟩) (fun hq P' A' h2' hA hs => ⟨_, rfl, fun _ => ?_, fun z => absurd rfl z⟩)
  · rw [cnt_congr 32 hs, plS_cA (eqN_80 A 0 0)]
    exact h2 j hj hx (fun z => hq ((Fq_cA (eqN_80 A 0 0) j).mpr z)) P' A' h2' (scr_of hA).1 (scr_of hA).2
  · exact h0 j hj hx ((Fq_cA (eqN_80 A 0 0) j).mp hq) P' A' h2' (scr_of hA).1 (scr_of hA).2
theorem mo_plan {P0 P : Pic} {m : Nat} {ar : Nat → Nat} {A : Nat → Nat → Nat} {B : Nat → Nat → Int64} {po : Option Value → Pic → Prop} {th : String → Pic → Prop} {x1 x2 : Int32} (h : MM P0 P m ar A B) (ok : OkN A)
    (h1 : (∀ j, j < A 482 0 → x1 ≠ nI j) → ∀ P' A', MM P0 P' m ar A' B → scr A A' → A' 480 0 = 1 → po (some (.int 0)) P')
    (h0 : ∀ j, j < A 482 0 → x1 = nI j → ∀ P' A', MM P0 P' m ar A' B → scr A A' → A' 480 0 = 0 → po (some (.int (pick (plS A j 32) 32 x2 0))) P') : wp_Mo_plan po th P m x1 x2 := by
  have hpp := ok.2.1
  refine ⟨h.k, mo_noPipe h (by omega) (fun e => ⟨_, rfl, fun z => absurd z (by decide), fun _ => mg_no h 1 rfl (by decide) (by decide) (fun h' => h1 e _ _ h' (fun f hf => up2_fn _ _ (fun z => hf (by rw [z]; decide))) (up2_eq _ _ _ _))⟩) (fun j hj hx => ⟨_, rfl, fun _ => ?_, fun z => absurd rfl z⟩)⟩
  refine mg_ok h (fun h' => ?_)
  rw [hx]
  have loop : ∀ (P' : Pic) (A' : Nat → Nat → Nat) (n0 : Int32), MM P0 P' m ar A' B → po (some (.int (pick (A' 493) 32 n0 0))) P' → wb_Mo_plan_39 po th P' m n0 := by
    intro P' A' n0 g hp
    have key : ∀ r v n, v + r = 32 → po (some (.int (pick (A' 493) r n v))) P' → wl_Mo_plan_43 po th (r + 1) P' m n (nI v) := by
      intro r
      induction r with
      | zero =>
        intro v n hv hp
        have : v = 32 := hv
        subst this
        exact ⟨fun _ => hp, fun z => absurd (by decide) z⟩
      | succ r ih =>
        intro v n hv hp
        have b := g.b 493 32 (j := v) (by omega)
        refine ⟨fun z => absurd z (nI_ge (b := 32) (by omega) (by omega)), fun _ => ⟨g.k, mg_r g 493 103 32 rfl (by omega) ?_⟩⟩
        rw [nI_clamp (by omega), g.ai 493 103 32 (by omega), b0 b]
        rw [pick] at hp
        refine ⟨fun e z hz => ?_, fun e => ⟨fun e2 y hy z hz => ?_, fun e2 => ?_⟩⟩
        · rw [hz, ← nI_succ]; rw [if_pos e] at hp; exact ih (v + 1) n (by omega) hp
        · rw [hz, ← nI_succ, hy]; rw [if_neg e, if_neg e2] at hp; exact ih (v + 1) _ (by omega) hp
        · rw [if_neg e, if_pos e2] at hp; exact hp
    exact ⟨33, key 32 0 n0 (by omega) hp⟩
  have e80 := eqN_80 A 0 0
  refine mo_planFor h' (ok.cA e80) hj (fun hq P' A' h2' hA hs => ⟨_, rfl, fun z => absurd z (by decide), fun _ => loop P' A' x2 h2' ?_⟩) (fun hq P' A' h2' hA hs => ⟨_, rfl, fun _ => loop P' A' (-1) h2' ?_, fun z => absurd rfl z⟩)
  · rw [pick_congr 32 x2 0 (fun k hk => hs k (by omega)), plS_cA e80]
    exact h0 j hj hx P' A' h2' (scr_of hA).1 (scr_of hA).2
  · have z0 : ∀ v, plS A j 32 v = 0 := plS_zero (fun v => ind_neg (fun z => z.1 ((Fq_cA e80 j).mp hq))) 32
    rw [pick_congr 32 (-1) 0 (fun k hk => hs k (by omega)), plS_cA e80, pick_zero 32 (-1) 0 (fun k _ => z0 k)]
    have := h0 j hj hx P' A' h2' (scr_of hA).1 (scr_of hA).2
    rw [pick_zero 32 x2 0 (fun k _ => z0 k)] at this
    exact this
