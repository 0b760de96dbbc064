/-! dry (component) -/
set_option maxRecDepth 100000 in
theorem ob1 : ∀ n, n < 10 → ∀ i, i < 32 → ((1 : Int32) <<< (nI n &&& 31)).toBitVec.getLsbD i = decide (i = n) := by decide
theorem ob2 : ∀ i, i < 32 → (-1 : Int32).toBitVec.getLsbD i = true := by decide
theorem ob0 : ∀ i, i < 32 → (0 : Int32).toBitVec.getLsbD i = false := by decide
theorem orf_bit (b : Nat → Nat) : ∀ n, n ≤ 10 → ∀ i, i < 32 → (orf b n).toBitVec.getLsbD i = decide (i < n ∧ b i ≠ 0)
  | 0, _, i, hi => by
    rw [orf, ob0 i hi]
    exact (decide_eq_false (fun z => absurd z.1 (Nat.not_lt_zero i))).symm
  | n + 1, hn, i, hi => by
    have ih := orf_bit b n (by omega) i hi
    rw [orf]
    by_cases c : b n = 0
    · rw [if_pos c, ih]
      apply decide_eq_decide.mpr
      constructor
      · intro z; exact ⟨by omega, z.2⟩
      · intro z
        refine ⟨?_, z.2⟩
        by_cases d : i = n
        · rw [d] at z; exact absurd c z.2
        · omega
    · rw [if_neg c, Int32.toBitVec_or, BitVec.getLsbD_or, ih, ob1 n (by omega) i hi]
      by_cases d : i = n
      · rw [decide_eq_true d, Bool.or_true]
        exact (decide_eq_true ⟨by omega, by rw [d]; exact c⟩).symm
      · rw [decide_eq_false d, Bool.or_false]
        apply decide_eq_decide.mpr
        constructor
        · intro z; exact ⟨by omega, z.2⟩
        · intro z; exact ⟨by omega, z.2⟩
theorem orf_dry (a b : Nat → Prop) {n : Nat} (hn : n ≤ 10) : orf (fun c => ind (a c)) n &&& (orf (fun c => ind (b c)) n ^^^ (-1 : Int32)) = orf (fun c => ind (a c ∧ ¬ b c)) n := by
  apply Int32.toBitVec_inj.mp
  apply BitVec.eq_of_getLsbD_eq
  intro i hi
  rw [Int32.toBitVec_and, Int32.toBitVec_xor, BitVec.getLsbD_and, BitVec.getLsbD_xor, orf_bit _ n hn i hi, orf_bit _ n hn i hi, orf_bit _ n hn i hi, ob2 i hi]
  by_cases c : i < n
  · by_cases ha : a i <;> by_cases hb : b i <;> simp [c, ha, hb, ind_ne]
  · simp [c]
theorem xo_fedOnes {P : Pic} {x : Nat} {g : Nat → Nat → Nat} {ow : Nat → Nat × Nat} {fl : Nat} {A : Nat → Nat → Nat} {B : Nat → Nat → Int64} {po : Option Value → Pic → Prop} {th : String → Pic → Prop} {a1 : Nat} {thr : Nat → Nat} {pl : Nat → Nat} {T : Nat → Prop} (h : RX P x g ow fl A B) (ok : Ok A B) (hfl : fl + 50 < 2 ^ 30) (ns : NS P g ow A pl) (z : FZ P g A fl) (gt : GT g ow A pl a1 thr) (ht : ∀ v, v < 2 * A 482 0 → thr v ≤ 1) (hT : ∀ k, Rch (A 482 0) (A 485) (fun v => thr v ≠ 0) (fun k => k < 28 ∧ fdS A k = 1) k ↔ T k)
    (hp : ∀ P', TX P P' (fun _ => False) fF → RX P' x g ow (fl + 1) A B → NS P' g ow A pl → FZ P' g A (fl + 1) → po (some (.int (orf (fun c => ind (T (A 489 c))) (A 483 0)))) P') : wp_Wa_fedOnes po th P x a1 := by
  obtain ⟨hw, xa, xg, xn, xd, xe, ⟨pl, xp⟩, xf, xc, xr, xb, xt, xo⟩ := id h
  have hcb := ok.2.1.1
  have hn := ok.1.1
  refine ⟨xa.1, _, xa.2.1, xg.1, ne_fromSources ok.1 ok.2.2.2.2.2 (by omega) gt ht ns z (fun P2 Q2 M2 t2 n2 f2 hr => ⟨rfl, A 483 0 + 1, ?_⟩)⟩
  have r2 := h.net ok.1 t2.G n2 f2.z
  obtain ⟨_, xa2, xg2, _, _, _, _, _, xc2, _⟩ := id r2
  have key : ∀ r c, c + r = A 483 0 → wl_Wa_fedOnes_12 po th (r + 1) P2 x (orf (fun c => ind (T (A 489 c))) c) (nI c) := by
    intro r
    induction r with
    | zero =>
      intro c hc
      have : c = A 483 0 := hc
      subst this
      exact ⟨xa2.1, _, xa2.2.2.1, xc2.1.1, ls_size' xc2.1 ⟨_, rfl, fun _ => hp P2 t2 r2 n2 f2.z, fun z => absurd (nI_le (Nat.le_refl _) (by omega)) z⟩⟩
    | succ r ih =>
      intro c hc
      have hcc : c < A 483 0 := by omega
      have i1 := ih (c + 1) (by omega)
      have hpl := ok.2.1.2.2.1 c hcc
      refine ⟨xa2.1, _, xa2.2.2.1, xc2.1.1, ls_size' xc2.1 ⟨_, rfl, fun z => absurd z (nI_ge hcc (by omega)), fun _ => ⟨_, xa2.2.1, _, xa2.2.2.1, xc2.1.1, ls_get' xc2.1 hcc (fun hk4 => ⟨_, rfl, hk4, _, (xc2.2 c hcc).2.1, xg2.1, ?_⟩)⟩⟩⟩
      have e7 : g 7 (A 489 c) = pa g (A 489 c) := (pa_n g (by omega)).symm
      rw [e7]
      refine ne_isReached n2 ok.1 f2 (by omega) (Or.inl hpl) ⟨_, rfl, ?_⟩
      dsimp only
      rw [b0 (ind_le _)]
      have hiff : M2 (A 489 c) ≠ 0 ↔ T (A 489 c) := (hr _).trans (hT _)
      refine ⟨fun e y hy w hw => ?_, fun e y hy w hw => ?_⟩
      · have : ¬ T (A 489 c) := fun z => ind_ne.mpr (hiff.mpr z) e
        rw [hw, ← nI_succ, hy, Int32.or_zero]
        rw [orf, if_pos (ind_neg this)] at i1; exact i1
      · have : T (A 489 c) := hiff.mp (ind_ne.mp e)
        rw [hw, ← nI_succ, hy]
        rw [orf, if_neg (ind_ne.mpr this)] at i1; exact i1
  exact key (A 483 0) 0 (by omega)
theorem xo_dry {P : Pic} {x : Nat} {g : Nat → Nat → Nat} {ow : Nat → Nat × Nat} {fl : Nat} {A : Nat → Nat → Nat} {B : Nat → Nat → Int64} {po : Option Value → Pic → Prop} {th : String → Pic → Prop} {x1 : Int32} (h : RX P x g ow fl A B) (ok : Ok A B) (hfl : fl + 100 < 2 ^ 30)
    (h1 : (∀ j, j < A 482 0 → x1 ≠ nI j) → th "java/lang/IndexOutOfBoundsException" P)
    (h0 : ∀ j, j < A 482 0 → x1 = nI j → Fq A j → ∀ P' fl', XM P P' → fl' ≤ fl + 50 → RX P' x g ow fl' A B → po (some (.int 0)) P')
    (h2 : ∀ j, j < A 482 0 → x1 = nI j → ¬ Fq A j → ∀ P' fl', XM P P' → fl' ≤ fl + 50 → RX P' x g ow fl' A B → po (some (.int (orf (fun c => ind (AR A (A 489 c) ∧ ¬ SR A (plS A j 32) (A 489 c))) (A 483 0)))) P') : wp_Wa_dry po th P x x1 := by
  obtain ⟨pl0, ns, z⟩ := h.ns ok.1
  obtain ⟨hw, xa, xg, xn, xd, xe, ⟨pl, xp⟩, xf, xc, xr, xb, xt, xo⟩ := id h
  refine ⟨xa.1, _, xa.2.1, xo_middleOf h ok.1.2.1 h1 (fun j hj hx => ⟨_, rfl, xg.1, ?_⟩)⟩
  refine ne_plan ok.1 ok.2.2.2.2.2 hj (by omega) ns z (fun hq P2 pl2 fl2 t2 n2 z2 hle hs => ⟨_, rfl, fun z => absurd z (by decide), fun _ => ?_⟩) (fun hq P2 pl2 fl2 t2 n2 z2 hle hs => ⟨_, rfl, fun _ => h0 j hj hx hq P2 fl2 t2.xmG (by omega) (h.net ok.1 t2 n2 z2), fun z => absurd rfl z⟩)
  have r2 := h.net ok.1 t2 n2 z2
  obtain ⟨_, xa2, xg2, _⟩ := id r2
  refine ⟨xa2.1, _, xa2.2.1, xg2.1, _, xg2.2.2.2.2.1, ?_⟩
  refine xo_fedOnes (T := AR A) r2 ok (by omega) n2 z2 (gt_as ok.1) (fun v _ => (ok.1.2.2.2.2.2 v).2.2.1) (fun k => Rch.congr (fun v hv => as_fd ok.1 hv) (fun _ => Iff.rfl) k) (fun P3 t3 r3 n3 z3 => ⟨_, rfl, ?_⟩)
  obtain ⟨_, xa3, xg3, _⟩ := id r3
  refine ⟨xa3.1, _, xa3.2.1, xg3.1, _, xg3.2.2.2.2.2.1, ?_⟩
  refine xo_fedOnes (T := SR A (plS A j 32)) r3 ok (by omega) n3 z3 (gt_wi ok.1) (fun v _ => by unfold wiT; split <;> omega) (fun k => Rch.congr (fun v hv => wi_fd ok.1 hv (hs v hv) (fun hh => (ind_ne.mp (plS_sub A j 32 v hh)).2.2.1)) (fun _ => Iff.rfl) k) (fun P4 t4 r4 n4 z4 => ⟨_, rfl, ?_⟩)
  dsimp only
  rw [orf_dry (fun c => AR A (A 489 c)) (fun c => SR A (plS A j 32) (A 489 c)) ok.2.1.1]
  exact h2 j hj hx hq P4 _ (t2.GG (t3.G.GG t4.G)).xmG (by omega) r4
