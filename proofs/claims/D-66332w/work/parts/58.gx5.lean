/-! the component's plan -/
def fG (f : Nat) : Bool := f == 321 || f == 247 || f == 248 || f == 166
theorem fF_fG {f : Nat} (h : fG f = false) : fF f = false := by
  unfold fG at h; unfold fF
  rw [Bool.or_eq_false_iff] at h; exact h.1
theorem TX.G {P P' : Pic} (h : TX P P' (fun _ => False) fF) : TX P P' (fun _ => False) fG := h.trans (TX.rfl' P' (fun _ => False) fG) (fun _ z => z) (fun _ z => z) (fun _ z => fF_fG z) (fun _ z => z)
theorem TX.GG {P P' P'' : Pic} (h : TX P P' (fun _ => False) fG) (h' : TX P' P'' (fun _ => False) fG) : TX P P'' (fun _ => False) fG := h.trans h' (fun _ z => z) (fun _ z => z) (fun _ z => z) (fun _ z => z)
theorem ns_pl {P : Pic} {g : Nat → Nat → Nat} {ow : Nat → Nat × Nat} {A : Nat → Nat → Nat} {pl : Nat → Nat} (ns : NS P g ow A pl) {v b : Nat} (hv : v < 2 * A 482 0) (hb : b ≤ 1) : TX P (s_i P 166 (g 9 v) (nI b)) (fun _ => False) fG ∧ NS (s_i P 166 (g 9 v) (nI b)) g ow A (va_up pl v b) := by
  have t : TX P (s_i P 166 (g 9 v) (nI b)) (fun _ => False) fG := tx_i P 166 (by decide) _ _ _ rfl
  obtain ⟨hw, xg, xn, xd, xe, xp, xo⟩ := ns
  refine ⟨t, wf_i hw _ _ _, xg.tx hw t, xn.tx hw t rfl (fun z => z) (fun _ _ z => z), xd.tx hw t (fun z => z) (fun _ _ z => z), xe.tx hw t ⟨rfl, rfl, rfl, rfl⟩ (fun z => z), fun i hi => ?_, xo.tx t⟩
  rw [gpi_i]
  unfold va_up
  by_cases c : i = v
  · rw [if_pos c, if_pos ⟨rfl, by rw [c]⟩]; exact ⟨hb, rfl⟩
  · rw [if_neg c, if_neg (fun z => c (xo.inj (inx9 hi) (inx9 hv) z.2))]; exact xp i hi
theorem FL.pl {P : Pic} {g : Nat → Nat → Nat} {A : Nat → Nat → Nat} {fl : Nat} {Q : List Nat} {M : Nat → Nat} (h : FL P g A fl Q M) (a : Nat) (b : Int32) : FL (s_i P 166 a b) g A fl Q M := by
  obtain ⟨f1, f2, f3, f4, f5, f6, f7⟩ := h
  refine ⟨by rw [gpi_i, if_neg (by omega)]; exact f1, by rw [gpi_i, if_neg (by omega)]; exact f2, f3, f4, f5, f6, fun k hk => ?_⟩
  rw [gpi_i, if_neg (by omega)]; exact f7 k hk
theorem FZ.pl {P : Pic} {g : Nat → Nat → Nat} {A : Nat → Nat → Nat} {fl : Nat} (h : FZ P g A fl) (a : Nat) (b : Int32) : FZ (s_i P 166 a b) g A fl := by
  refine ⟨by rw [gpi_i, if_neg (by omega)]; exact h.1, fun k hk => ?_⟩
  rw [gpi_i, if_neg (by omega)]; exact h.2 k hk
theorem ne_forgetPlan {P : Pic} {g : Nat → Nat → Nat} {ow : Nat → Nat × Nat} {fl : Nat} {A : Nat → Nat → Nat} {pl : Nat → Nat} {po : Option Value → Pic → Prop} {th : String → Pic → Prop} (ok : OkN A) (ns : NS P g ow A pl) (z : FZ P g A fl)
    (hp : ∀ P' pl', TX P P' (fun _ => False) fG → NS P' g ow A pl' → FZ P' g A fl → (∀ v, v < 2 * A 482 0 → pl' v = 0) → po none P') : wp_Ne_forgetPlan po th P (g 0 0) := by
  have hpp := ok.2.1
  have key : ∀ r i, i + r = 2 * A 482 0 → ∀ P' pl', TX P P' (fun _ => False) fG → NS P' g ow A pl' → FZ P' g A fl → (∀ v, v < i → pl' v = 0) → wl_Ne_forgetPlan_2 po th (r + 1) P' (g 0 0) (nI i) := by
    intro r
    induction r with
    | zero =>
      intro i hi P' pl' tx ns' z' h0
      have : i = 2 * A 482 0 := hi
      subst this
      refine ⟨ns'.2.1.1, _, ns'.2.1.2.2.2.1, ns'.2.2.2.2.1.1.1, ls_size' ns'.2.2.2.2.1.1 ⟨_, rfl, fun _ => hp P' pl' tx ns' z' h0, fun z => absurd (nI_le (Nat.le_refl _) (by omega)) z⟩⟩
    | succ r ih =>
      intro i hi P' pl' tx ns' z' h0
      have hii : i < 2 * A 482 0 := by omega
      have xe := ns'.2.2.2.2.1
      refine ⟨ns'.2.1.1, _, ns'.2.1.2.2.2.1, xe.1.1, ls_size' xe.1 ⟨_, rfl, fun z => absurd z (nI_ge hii (by omega)), fun _ => ⟨_, ns'.2.1.2.2.2.1, xe.1.1, ls_get' xe.1 hii (fun hk5 => ⟨_, rfl, hk5, fun y hy => ?_⟩)⟩⟩⟩
      rw [hy, ← nI_succ]
      obtain ⟨t1, n1⟩ := ns_pl ns' (v := i) (b := 0) hii (Nat.zero_le 1)
      refine ih (i + 1) (by omega) _ _ (tx.GG t1) n1 (z'.pl _ _) (fun v hv => ?_)
      unfold va_up
      by_cases c : v = i
      · rw [if_pos c]
      · rw [if_neg c]; exact h0 v (by omega)
  exact ⟨_, key (2 * A 482 0) 0 (by omega) P pl (TX.rfl' P _ _) ns z (fun v hv => absurd hv (Nat.not_lt_zero v))⟩
theorem plS_sub (A : Nat → Nat → Nat) (j : Nat) : ∀ n v, plS A j n v ≠ 0 → pl0 A j v ≠ 0
  | 0, v, h => h
  | n + 1, v, h => by
    rw [plS_s] at h
    by_cases c : plS A j n n = 0
    · rw [if_pos c] at h; exact plS_sub A j n v h
    · rw [if_neg c] at h
      unfold va_up at h
      by_cases d : v = n
      · rw [d]; exact plS_sub A j n n c
      · rw [if_neg d] at h; exact plS_sub A j n v h
