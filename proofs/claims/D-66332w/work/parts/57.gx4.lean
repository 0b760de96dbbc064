/-! floods and gates (component) -/
theorem ne_from {P : Pic} {g : Nat → Nat → Nat} {ow : Nat → Nat × Nat} {fl : Nat} {A : Nat → Nat → Nat} {pl thr : Nat → Nat} {po : Option Value → Pic → Prop} {th : String → Pic → Prop} {a1 k : Nat} (ok : OkN A) (hI : OkI A) (hfl : fl < 2 ^ 30) (gt : GT g ow A pl a1 thr) (ht : ∀ v, v < 2 * A 482 0 → thr v ≤ 1) (ns : NS P g ow A pl) (z : FZ P g A fl) (hk : IR A k)
    (hp : ∀ P' Q' M', TX P P' (fun _ => False) fF → NS P' g ow A pl → FL P' g A (fl + 1) Q' M' → (∀ i, M' i ≠ 0 ↔ Rch (A 482 0) (A 485) (fun v => thr v ≠ 0) (fun i => i = k) i) → po none P') : wp_Ne_from po th P (g 0 0) (pa g k) a1 := by
  obtain ⟨t, ns1, f1⟩ := ne_begin ns ok hfl z
  refine ⟨ns.2.1.1, ?_⟩
  rw [z.1, ← nI_succ]
  refine ne_reach ns1 ok f1 (by omega) hk (fun P2 Q2 M2 t2 ns2 f2 hor => ⟨rfl, ns2.2.1.1, ?_⟩)
  have hM2 : M2 = va_up (fun _ => 0) k 1 := by
    rcases hor with h | h
    · exact absurd rfl h.1
    · exact h.2.2
  refine ne_spread (S := fun i => i = k) ok hI (by omega) gt ht ns2 f2 ⟨fun i hi => ?_, fun i hi => ?_⟩ (fun P' Q' M' t' ns' f' hr => ⟨rfl, hp P' Q' M' ((t.trans t2 (T := fun _ => False) (G := fF) (fun _ z => z) (fun _ z => z) (fun _ z => z) (fun _ z => z)).trans t' (fun _ z => z) (fun _ z => z) (fun _ z => z) (fun _ z => z)) ns' f' hr⟩)
  · rw [hM2, hi]; unfold va_up; rw [if_pos rfl]; decide
  · refine Rch.start ?_
    rw [hM2] at hi
    unfold va_up at hi
    by_cases c : i = k
    · exact c
    · rw [if_neg c] at hi; exact absurd rfl hi
theorem ne_fromSources {P : Pic} {g : Nat → Nat → Nat} {ow : Nat → Nat × Nat} {fl : Nat} {A : Nat → Nat → Nat} {pl thr : Nat → Nat} {po : Option Value → Pic → Prop} {th : String → Pic → Prop} {a1 : Nat} (ok : OkN A) (hI : OkI A) (hfl : fl < 2 ^ 30) (gt : GT g ow A pl a1 thr) (ht : ∀ v, v < 2 * A 482 0 → thr v ≤ 1) (ns : NS P g ow A pl) (z : FZ P g A fl)
    (hp : ∀ P' Q' M', TX P P' (fun _ => False) fF → NS P' g ow A pl → FL P' g A (fl + 1) Q' M' → (∀ i, M' i ≠ 0 ↔ Rch (A 482 0) (A 485) (fun v => thr v ≠ 0) (fun k => k < 28 ∧ fdS A k = 1) i) → po none P') : wp_Ne_fromSources po th P (g 0 0) a1 := by
  have hn := ok.1
  obtain ⟨t, ns1, f1⟩ := ne_begin ns ok hfl z
  refine ⟨ns.2.1.1, A 481 0 + 1, ?_⟩
  rw [z.1, ← nI_succ]
  have key : ∀ r i, i + r = A 481 0 → ∀ P' Q' M', TX P P' (fun _ => False) fF → NS P' g ow A pl → FL P' g A (fl + 1) Q' M' → (∀ k, M' k ≠ 0 ↔ (k < i ∧ A 484 k ≠ 0)) → wl_Ne_fromSources_17 po th (r + 1) P' (g 0 0) a1 (nI i) := by
    intro r
    induction r with
    | zero =>
      intro i hi P' Q' M' tx ns' f' hM
      have : i = A 481 0 := hi
      subst this
      refine ⟨ns'.2.1.1, _, ns'.2.1.2.1, ns'.2.2.1.1.1, ls_size' ns'.2.2.1.1 ⟨_, rfl, fun _ => ?_, fun z => absurd (nI_le (Nat.le_refl _) (by omega)) z⟩⟩
      have hS : ∀ k, (k < 28 ∧ fdS A k = 1) ↔ M' k ≠ 0 := fun k => by
        rw [hM k]
        unfold fdS
        by_cases c : k < A 481 0 ∧ A 484 k ≠ 0
        · rw [if_pos c]; exact ⟨fun _ => c, fun _ => ⟨by omega, rfl⟩⟩
        · rw [if_neg c]; exact ⟨fun z => absurd z.2 (by decide), fun z => absurd z c⟩
      exact ne_spread (S := fun k => k < 28 ∧ fdS A k = 1) ok hI (by omega) gt ht ns' f' ⟨fun k hk => (hS k).mp hk, fun k hk => Rch.start ((hS k).mpr hk)⟩ (fun P2 Q2 M2 t2 ns2 f2 hr => ⟨rfl, hp P2 Q2 M2 (tx.trans t2 (fun _ z => z) (fun _ z => z) (fun _ z => z) (fun _ z => z)) ns2 f2 hr⟩)
    | succ r ih =>
      intro i hi P' Q' M' tx ns' f' hM
      have hii : i < A 481 0 := by omega
      have xn := ns'.2.2.1
      refine ⟨ns'.2.1.1, _, ns'.2.1.2.1, xn.1.1, ls_size' xn.1 ⟨_, rfl, fun z => absurd z (nI_ge hii (by omega)), fun _ => ⟨_, ns'.2.1.2.1, xn.1.1, ls_get' xn.1 hii (fun hk8 => ⟨_, rfl, hk8, ?_⟩)⟩⟩⟩
      rw [(xn.2 i hii).2.1, b0 (ok.2.2.2.2.2 i).1]
      refine ⟨fun e y hy => ?_, fun e => ⟨_, ns'.2.1.2.1, xn.1.1, ls_get' xn.1 hii (fun hk8 => ⟨_, rfl, Or.inl hk8, ?_⟩)⟩⟩
      · rw [hy, ← nI_succ]
        refine ih (i + 1) (by omega) P' Q' M' tx ns' f' (fun k => (hM k).trans ⟨fun z => ⟨by omega, z.2⟩, fun z => ⟨?_, z.2⟩⟩)
        by_cases c : k = i
        · rw [c] at z; exact absurd e z.2
        · omega
      · have epa : g 7 i = pa g i := (pa_n g (by omega)).symm
        rw [epa]
        refine ne_reach ns' ok f' (by omega) (Or.inl hii) (fun P2 Q2 M2 t2 ns2 f2 hor => ⟨rfl, fun y hy => ?_⟩)
        rw [hy, ← nI_succ]
        refine ih (i + 1) (by omega) P2 Q2 M2 (tx.trans t2 (fun _ z => z) (fun _ z => z) (fun _ z => z) (fun _ z => z)) ns2 f2 (fun k => ?_)
        rcases hor with h | h
        · have := (hM i).mp h.1; omega
        · rw [h.2.2]
          unfold va_up
          by_cases c : k = i
          · rw [if_pos c]; exact ⟨fun _ => ⟨by omega, by rw [c]; exact e⟩, fun _ => by decide⟩
          · rw [if_neg c, hM k]; exact ⟨fun z => ⟨by omega, z.2⟩, fun z => ⟨by omega, z.2⟩⟩
  exact key (A 481 0) 0 (by omega) _ [] (fun _ => 0) t ns1 f1 (fun k => ⟨fun z => absurd rfl z, fun z => absurd z.1 (Nat.not_lt_zero k)⟩)
theorem ne_isReached {P : Pic} {g : Nat → Nat → Nat} {ow : Nat → Nat × Nat} {fl : Nat} {A : Nat → Nat → Nat} {pl : Nat → Nat} {po : Option Value → Pic → Prop} {th : String → Pic → Prop} {Q : List Nat} {M : Nat → Nat} {k : Nat} (ns : NS P g ow A pl) (ok : OkN A) (f : FL P g A fl Q M) (hfl : fl < 2 ^ 31) (hk : IR A k) (hp : po (some (.int (nI (ind (M k ≠ 0))))) P) : wp_Ne_isReached po th P (g 0 0) (pa g k) := by
  obtain ⟨r, r1, r2, r3⟩ := f.2.2.2.2.2.2 k hk
  refine ⟨ns.kk ok.1 hk, ns.2.1.1, ?_⟩
  rw [r2, f.1, nI_eq (by omega) (by omega)]
  refine ⟨fun e => ?_, fun e => ?_⟩
  · rw [ind_neg (fun z => e (r3.mpr z))] at hp; exact hp
  · rw [ind_pos (r3.mp e)] at hp; exact hp
theorem gt_as {g : Nat → Nat → Nat} {ow : Nat → Nat × Nat} {A : Nat → Nat → Nat} {pl : Nat → Nat} (ok : OkN A) : GT g ow A pl (g 18 0) (A 487) := by
  intro P v po th ns hv hp
  have a := ns.2.2.2.2.1.2 v hv
  refine Or.inl ⟨ns.2.1.2.2.2.2.2.2.2.2.1, a.1, ?_⟩
  rw [a.2.2.2.2.2.1]
  exact ⟨b01 (ok.2.2.2.2.2 v).2.2.1, hp⟩
def wiT (A : Nat → Nat → Nat) (pl : Nat → Nat) (v : Nat) : Nat := if A 487 v ≠ 0 ∧ pl v = 0 then 1 else 0
theorem gt_wi {g : Nat → Nat → Nat} {ow : Nat → Nat × Nat} {A : Nat → Nat → Nat} {pl : Nat → Nat} (ok : OkN A) : GT g ow A pl (g 19 0) (wiT A pl) := by
  intro P v po th ns hv hp
  have a := ns.2.2.2.2.1.2 v hv
  have b := ns.2.2.2.2.2.1 v hv
  have bb := ok.2.2.2.2.2 v
  refine Or.inr (Or.inl ⟨ns.2.1.2.2.2.2.2.2.2.2.2.1, a.1, ?_⟩)
  unfold wiT at hp
  rw [a.2.2.2.2.2.1, b.2, b0 bb.2.2.1, b0 b.1]
  refine ⟨fun e => ?_, fun e => ⟨fun e2 => ?_, fun e2 => ?_⟩⟩
  · rw [if_neg (fun z => z.1 e)] at hp; exact hp
  · rw [if_neg (fun z => e2 z.2)] at hp; exact hp
  · rw [if_pos ⟨e, e2⟩] at hp; exact hp
theorem ne_canBeShut {P : Pic} {g : Nat → Nat → Nat} {ow : Nat → Nat × Nat} {A : Nat → Nat → Nat} {pl : Nat → Nat} {po : Option Value → Pic → Prop} {th : String → Pic → Prop} {v : Nat} (ns : NS P g ow A pl) (ok : OkN A) (hv : v < 2 * A 482 0) (h1 : (A 486 v ≠ 0 ∧ A 487 v ≠ 0 ∧ A 488 v = 0) → po (some (.int 1)) P) (h0 : ¬ (A 486 v ≠ 0 ∧ A 487 v ≠ 0 ∧ A 488 v = 0) → po (some (.int 0)) P) : wp_En_canBeShut po th P (g 9 v) := by
  have a := ns.2.2.2.2.1.2 v hv
  have bb := ok.2.2.2.2.2 v
  refine ⟨a.1, ?_⟩
  rw [a.2.2.2.2.1, a.2.2.2.2.2.1, a.2.2.2.2.2.2, b0 bb.2.1, b0 bb.2.2.1, b0 bb.2.2.2]
  exact ⟨fun e => h0 (by omega), fun e => ⟨fun e2 => h0 (by omega), fun e2 => ⟨fun e3 => h0 (by omega), fun e3 => h1 (by omega)⟩⟩⟩
theorem gt_fx {g : Nat → Nat → Nat} {ow : Nat → Nat × Nat} {A : Nat → Nat → Nat} {pl : Nat → Nat} (ok : OkN A) : GT g ow A pl (g 20 0) (fxT A) := by
  intro P v po th ns hv hp
  have a := ns.2.2.2.2.1.2 v hv
  have bb := ok.2.2.2.2.2 v
  have hvo := (ok.2.2.2.1 v hv).2
  refine Or.inr (Or.inr ⟨ns.2.1.2.2.2.2.2.2.2.2.2.2.1, a.1, ?_⟩)
  unfold fxT at hp
  rw [a.2.2.2.2.2.1, b0 bb.2.2.1]
  refine ⟨fun e => ?_, fun e => ne_canBeShut ns ok hv (fun c => ⟨_, rfl, fun _ => ?_, fun z => absurd z (by decide)⟩) (fun c => ⟨_, rfl, fun z => absurd rfl z, fun _ => ?_⟩)⟩
  · rw [if_neg (by omega)] at hp; exact hp
  · rw [if_neg (by omega)] at hp; exact hp
  · rw [if_pos (by omega)] at hp; exact hp
