/-! what water reaches: the least set that holds the start and is closed over the ends that let through -/
def Cl (p : Nat) (e : Nat → Nat) (thr : Nat → Prop) (C : Nat → Prop) : Prop := ∀ v, v < 2 * p → thr v → (C (12 + v / 2) ↔ C (e v))
def Rch (p : Nat) (e : Nat → Nat) (thr : Nat → Prop) (S : Nat → Prop) (k : Nat) : Prop := ∀ C : Nat → Prop, (∀ x, S x → C x) → Cl p e thr C → C k
theorem Rch.start {p : Nat} {e : Nat → Nat} {thr S : Nat → Prop} {k : Nat} (h : S k) : Rch p e thr S k := fun _ hS _ => hS k h
theorem Rch.cl (p : Nat) (e : Nat → Nat) (thr S : Nat → Prop) : Cl p e thr (Rch p e thr S) := fun v hv ht => ⟨fun h C hS hC => (hC v hv ht).mp (h C hS hC), fun h C hS hC => (hC v hv ht).mpr (h C hS hC)⟩
theorem Rch.congr {p : Nat} {e : Nat → Nat} {thr thr' S S' : Nat → Prop} (ht : ∀ v, v < 2 * p → (thr v ↔ thr' v)) (hS : ∀ k, S k ↔ S' k) (k : Nat) : Rch p e thr S k ↔ Rch p e thr' S' k :=
  ⟨fun h C h1 h2 => h C (fun x hx => h1 x ((hS x).mp hx)) (fun v hv hh => h2 v hv ((ht v hv).mp hh)), fun h C h1 h2 => h C (fun x hx => h1 x ((hS x).mpr hx)) (fun v hv hh => h2 v hv ((ht v hv).mpr hh))⟩
/-- rows of numbers -/
def row (A : Nat → Nat → Nat) (f : Nat) (R : Nat → Nat) : Nat → Nat → Nat := fun F => if F = f then R else A F
theorem row_eq (A : Nat → Nat → Nat) (f : Nat) (R : Nat → Nat) : row A f R f = R := if_pos rfl
theorem row_ne (A : Nat → Nat → Nat) {f F : Nat} (R : Nat → Nat) (h : F ≠ f) : row A f R F = A F := if_neg h
theorem row_self (A : Nat → Nat → Nat) (f : Nat) : row A f (A f) = A := by
  funext F
  by_cases e : F = f
  · rw [e, row_eq]
  · rw [row_ne _ _ e]
theorem up2_row (A : Nat → Nat → Nat) (f : Nat) (R : Nat → Nat) (j v : Nat) : up2 (row A f R) f j v = row A f (va_up R j v) := by
  funext F i
  by_cases e : F = f
  · subst e
    rw [row_eq]
    by_cases e' : i = j
    · rw [e', up2_eq, va_up, if_pos rfl]
    · rw [up2_ne _ _ (Or.inr e'), row_eq, va_up, if_neg e']
  · rw [up2_ne _ _ (Or.inl e), row_ne _ _ e, row_ne _ _ e]
theorem up2_row0 (A : Nat → Nat → Nat) (f : Nat) (j v : Nat) : up2 A f j v = row A f (va_up (A f) j v) := by
  rw [← up2_row, row_self]
theorem row_row (A : Nat → Nat → Nat) (f : Nat) (R R' : Nat → Nat) : row (row A f R) f R' = row A f R' := by
  funext F
  by_cases e : F = f
  · rw [e, row_eq, row_eq]
  · rw [row_ne _ _ e, row_ne _ _ e, row_ne _ _ e]
theorem row_comm (A : Nat → Nat → Nat) {f f' : Nat} (R R' : Nat → Nat) (h : f ≠ f') : row (row A f R) f' R' = row (row A f' R') f R := by
  funext F
  by_cases e : F = f
  · subst e; rw [row_eq, row_ne _ _ h, row_eq]
  · rw [row_ne _ (F := F) R e]
    by_cases e' : F = f'
    · subst e'; rw [row_eq, row_eq]
    · rw [row_ne _ _ e', row_ne _ _ e', row_ne _ _ e]
/-- how many are marked -/
def cnt (R : Nat → Nat) : Nat → Nat
  | 0 => 0
  | n + 1 => cnt R n + (if R n = 0 then 0 else 1)
theorem cnt_le (R : Nat → Nat) : ∀ n, cnt R n ≤ n
  | 0 => Nat.le_refl 0
  | n + 1 => by
    have := cnt_le R n
    unfold cnt
    split <;> omega
theorem cnt_mono {R R' : Nat → Nat} : ∀ n, (∀ k, k < n → R k ≠ 0 → R' k ≠ 0) → cnt R n ≤ cnt R' n
  | 0, _ => Nat.le_refl 0
  | n + 1, h => by
    have := cnt_mono n (fun k hk => h k (by omega))
    have hn := h n (by omega)
    unfold cnt
    by_cases e : R n = 0
    · rw [if_pos e]; omega
    · rw [if_neg e, if_neg (hn e)]; omega
theorem cnt_lt {R R' : Nat → Nat} : ∀ n, (∀ k, k < n → R k ≠ 0 → R' k ≠ 0) → (∃ k, k < n ∧ R k = 0 ∧ R' k ≠ 0) → cnt R n < cnt R' n
  | 0, _, h => by obtain ⟨k, hk, _⟩ := h; omega
  | n + 1, h, hx => by
    obtain ⟨k, hk, h0, h1⟩ := hx
    have hm := cnt_mono n (fun k hk => h k (by omega))
    unfold cnt
    by_cases e : k = n
    · subst e
      rw [if_pos h0, if_neg h1]; omega
    · have := cnt_lt n (fun k hk => h k (by omega)) ⟨k, by omega, h0, h1⟩
      have hn := h n (by omega)
      by_cases e2 : R n = 0
      · rw [if_pos e2]; omega
      · rw [if_neg e2, if_neg (hn e2)]; omega
/-- within a pass of the reference's spread -/
def SpI (p : Nat) (e T : Nat → Nat) (S : Nat → Prop) (R0 : Nat → Nat) (v : Nat) (R : Nat → Nat) (more : Nat) : Prop :=
  (∀ k, k < 28 → R k ≤ 1) ∧ (∀ k, k < 28 → R0 k ≠ 0 → R k ≠ 0) ∧ (∀ k, k < 28 → R k ≠ 0 → Rch p e (fun v => T v ≠ 0) S k) ∧ (more = 0 ∨ more = 1) ∧ (more = 0 → (∀ w, w < v → T w ≠ 0 → (R (12 + w / 2) = R (e w)))) ∧ (more = 1 → cnt R0 28 < cnt R 28)
theorem mo_pass1 {P0 P : Pic} {m : Nat} {ar : Nat → Nat} {A : Nat → Nat → Nat} {B : Nat → Nat → Int64} {po : Option Value → Pic → Prop} {th : String → Pic → Prop} {K2 : Pic → Nat → Int32 → Prop} {S : Nat → Prop} (hA : A 482 0 ≤ 16) (he : ∀ v, v < 2 * A 482 0 → A 485 v < 12) (hT : ∀ v, v < 32 → A 491 v ≤ 1) (R0 : Nat → Nat)
    (hK : ∀ P' R more, MM P0 P' m ar (row A 490 R) B → SpI (A 482 0) (A 485) (A 491) S R0 (2 * A 482 0) R more → K2 P' m (nI more)) :
    ∀ j v, v + j = 2 * A 482 0 → ∀ (P : Pic) (R : Nat → Nat) (more : Nat), MM P0 P m ar (row A 490 R) B → SpI (A 482 0) (A 485) (A 491) S R0 v R more → wl_Mo_spread_10 po th K2 (j + 1) P m (nI more) (nI v) := by
  intro j
  induction j with
  | zero =>
    intro v hv P R more h hI
    have e82 : p_i P 482 m = nI (A 482 0) := by rw [h.i 482, row_ne _ _ (by decide)]
    have e2 : (2 : Int32) * p_i P 482 m = nI (2 * A 482 0) := by rw [e82]; exact pk_mul 2 _
    refine ⟨h.k, fun _ => ?_, fun z => absurd (by rw [e2]; exact nI_le (by omega) (by omega)) z⟩
    have : v = 2 * A 482 0 := hv
    subst this
    exact hK P R more h hI
  | succ j ih =>
    intro v hv P R more h hI
    have e82 : p_i P 482 m = nI (A 482 0) := by rw [h.i 482, row_ne _ _ (by decide)]
    have e2 : (2 : Int32) * p_i P 482 m = nI (2 * A 482 0) := by rw [e82]; exact pk_mul 2 _
    refine ⟨h.k, fun z => absurd (by rw [e2] at z; exact z) (nI_ge (by omega) (by omega)), fun _ => ?_⟩
    intro y hy
    have hy' : y = nI (12 + v / 2) := by
      rw [hy]; show nI 12 + nI v / nI 2 = _; rw [pk_div (by omega) (by omega) (by omega), nI_add]
    subst hy'
    have hev := he v (by omega)
    have next : ∀ (P' : Pic) (R' : Nat → Nat) (more' : Nat), MM P0 P' m ar (row A 490 R') B → SpI (A 482 0) (A 485) (A 491) S R0 (v + 1) R' more' → wb_Mo_spread_77 po th K2 (wl_Mo_spread_10 po th K2 (j + 1)) P' m (nI more') (nI v) := by
      intro P' R' more' h' hI' z hz
      rw [hz, ← nI_succ]
      exact ih (v + 1) (by omega) P' R' more' h' hI'
    obtain ⟨i1, i2, i3, i4, i5, i6⟩ := hI
    refine mg_r h 491 103 32 rfl (by omega) ?_
    have eT : p_ai P (ar 491) v = nI (A 491 v) := by rw [h.ai 491 103 32 (by omega), row_ne _ _ (by decide)]
    rw [nI_clamp (by omega), nI_clamp (by omega), eT, b0 (hT v (by omega))]
    refine ⟨fun e0 => next P R more h ⟨i1, i2, i3, i4, fun hm w hw hw0 => ?_, i6⟩, fun e0 => ?_⟩
    · by_cases c : w = v
      · rw [c] at hw0; exact absurd e0 hw0
      · exact i5 hm w (by omega) hw0
    · refine mg_r h 490 103 28 rfl (by omega) ⟨_, h.r 490 103 28, ?_⟩
      refine mg_r h 485 101 32 rfl (by omega) ?_
      have eE : p_ai P (ar 485) v = nI (A 485 v) := by rw [h.ai 485 101 32 (by omega), row_ne _ _ (by decide)]
      have r1 : p_ai P (ar 490) (12 + v / 2) = nI (R (12 + v / 2)) := by rw [h.ai 490 103 28 (by omega), row_eq]
      have r2 : p_ai P (ar 490) (A 485 v) = nI (R (A 485 v)) := by rw [h.ai 490 103 28 (by omega), row_eq]
      have b1 := i1 (12 + v / 2) (by omega)
      have b2 := i1 (A 485 v) (by omega)
      rw [eE, nI_clamp (by omega), r1, r2, nI_eq (by omega) (by omega)]
      refine ⟨h.ak 490 103 28, by rw [h.an 490 103 28]; exact vp_in_nI (by omega) (by omega), fun e3 => next P R more h ⟨i1, i2, i3, i4, fun hm w hw hw0 => ?_, i6⟩, fun e3 => ?_⟩
      · by_cases c : w = v
        · rw [c]; exact e3
        · exact i5 hm w (by omega) hw0
      · refine mg_r h 490 103 28 rfl (by omega) ?_
        have h1 := h.sai 490 103 28 (12 + v / 2) 1 (fun _ => Nat.le_refl 1)
        rw [up2_row] at h1
        refine ⟨_, h1.r 490 103 28, ?_⟩
        refine mg_r h1 485 101 32 rfl (by omega) ?_
        have eE1 : p_ai (s_ai P (ar 490) (12 + v / 2) 1) (ar 485) v = nI (A 485 v) := by
          have := h1.ai 485 101 32 (j := v) (by omega)
          rw [row_ne _ _ (by decide)] at this; exact this
        rw [eE1, nI_clamp (by omega)]
        refine ⟨h1.ak 490 103 28, by rw [show p_n (s_ai P (ar 490) (12 + v / 2) 1) (ar 490) = 28 from h1.an 490 103 28]; exact vp_in_nI (by omega) (by omega), ?_⟩
        intro P2 hP2
        have h2 := h1.sai 490 103 28 (A 485 v) 1 (fun _ => Nat.le_refl 1)
        rw [up2_row] at h2
        have hP2 : P2 = s_ai (s_ai P (ar 490) (12 + v / 2) (nI 1)) (ar 490) (A 485 v) (nI 1) := hP2
        rw [← hP2] at h2
        have ev : ∀ k, va_up (va_up R (12 + v / 2) 1) (A 485 v) 1 k = if k = A 485 v then 1 else if k = 12 + v / 2 then 1 else R k := fun k => rfl
        refine next P2 _ 1 h2 ⟨fun k hk => ?_, fun k hk hk0 => ?_, fun k hk hk0 => ?_, Or.inr rfl, fun z => by omega, fun _ => ?_⟩
        · rw [ev]; split
          · omega
          · split
            · omega
            · exact i1 k hk
        · rw [ev]; split
          · omega
          · split
            · omega
            · exact i2 k hk hk0
        · have ex : Rch (A 482 0) (A 485) (fun v => A 491 v ≠ 0) S (12 + v / 2) ∧ Rch (A 482 0) (A 485) (fun v => A 491 v ≠ 0) S (A 485 v) := by
            have hc := Rch.cl (A 482 0) (A 485) (fun v => A 491 v ≠ 0) S v (by omega) e0
            by_cases c : R (12 + v / 2) = 0
            · have := i3 (A 485 v) (by omega) (by omega)
              exact ⟨hc.mpr this, this⟩
            · have := i3 (12 + v / 2) (by omega) c
              exact ⟨this, hc.mp this⟩
          rw [ev] at hk0
          by_cases c : k = A 485 v
          · rw [c]; exact ex.2
          · rw [if_neg c] at hk0
            by_cases c' : k = 12 + v / 2
            · rw [c']; exact ex.1
            · rw [if_neg c'] at hk0; exact i3 k hk hk0
        · have hle : cnt R0 28 ≤ cnt R 28 := cnt_mono 28 i2
          refine Nat.lt_of_le_of_lt hle (cnt_lt 28 (fun k hk hk0 => ?_) ?_)
          · rw [ev]; split
            · omega
            · split
              · omega
              · exact hk0
          · by_cases c : R (12 + v / 2) = 0
            · refine ⟨12 + v / 2, by omega, c, ?_⟩
              rw [ev]; split
              · omega
              · rw [if_pos rfl]; omega
            · refine ⟨A 485 v, by omega, by omega, ?_⟩
              rw [ev, if_pos rfl]; omega
