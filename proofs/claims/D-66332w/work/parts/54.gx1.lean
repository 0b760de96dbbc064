/-! the component's floods -/
def pa (g : Nat → Nat → Nat) (k : Nat) : Nat := if k < 12 then g 7 k else g 8 (k - 12)
def IR (A : Nat → Nat → Nat) (k : Nat) : Prop := k < A 481 0 ∨ (12 ≤ k ∧ k < 12 + A 482 0)
theorem pa_n (g : Nat → Nat → Nat) {k : Nat} (h : k < 12) : pa g k = g 7 k := if_pos h
theorem pa_m (g : Nat → Nat → Nat) (j : Nat) : pa g (12 + j) = g 8 j := by unfold pa; rw [if_neg (by omega)]; congr 1; omega
def NS (P : Pic) (g : Nat → Nat → Nat) (ow : Nat → Nat × Nat) (A : Nat → Nat → Nat) (pl : Nat → Nat) : Prop := Wf P ∧ XG P g ∧ XN P g A ∧ XD P g A ∧ XE P g A ∧ XP P g A pl ∧ XO P g ow A
def fF (f : Nat) : Bool := f == 321 || f == 247 || f == 248
theorem NS.tx {P P' : Pic} {g : Nat → Nat → Nat} {ow : Nat → Nat × Nat} {A : Nat → Nat → Nat} {pl : Nat → Nat} (h : NS P g ow A pl) (t : TX P P' (fun _ => False) fF) (hw' : Wf P') : NS P' g ow A pl := by
  obtain ⟨hw, xg, xn, xd, xe, xp, xo⟩ := h
  exact ⟨hw', xg.tx hw t, xn.tx hw t rfl (fun z => z) (fun _ _ z => z), xd.tx hw t (fun z => z) (fun _ _ z => z), xe.tx hw t ⟨rfl, rfl, rfl, rfl⟩ (fun z => z), xp.tx xe hw t rfl, xo.tx t⟩
theorem NS.inj {P : Pic} {g : Nat → Nat → Nat} {ow : Nat → Nat × Nat} {A : Nat → Nat → Nat} {pl : Nat → Nat} (h : NS P g ow A pl) (hn : A 481 0 ≤ 12) {k k' : Nat} (hk : IR A k) (hk' : IR A k') (e : pa g k = pa g k') : k = k' := by
  obtain ⟨hw, xg, xn, xd, xe, xp, xo⟩ := h
  rcases hk with c | ⟨c1, c2⟩ <;> rcases hk' with d | ⟨d1, d2⟩
  · rw [pa_n g (by omega), pa_n g (by omega)] at e; exact xo.inj (inx7 c) (inx7 d) e
  · obtain ⟨j, rfl⟩ : ∃ j, k' = 12 + j := ⟨k' - 12, by omega⟩
    rw [pa_n g (by omega), pa_m] at e
    exact absurd e (xo.ns (inx8 (by omega)) 7 k (inx7 c) (by omega))
  · obtain ⟨j, rfl⟩ : ∃ j, k = 12 + j := ⟨k - 12, by omega⟩
    rw [pa_n g (k := k') (by omega), pa_m] at e
    exact absurd e.symm (xo.ns (inx8 (by omega)) 7 k' (inx7 d) (by omega))
  · obtain ⟨j, rfl⟩ : ∃ j, k = 12 + j := ⟨k - 12, by omega⟩
    obtain ⟨j', rfl⟩ : ∃ j, k' = 12 + j := ⟨k' - 12, by omega⟩
    rw [pa_m, pa_m] at e
    rw [xo.inj (inx8 (by omega)) (inx8 (by omega)) e]
theorem NS.kk {P : Pic} {g : Nat → Nat → Nat} {ow : Nat → Nat × Nat} {A : Nat → Nat → Nat} {pl : Nat → Nat} (h : NS P g ow A pl) (hn : A 481 0 ≤ 12) {k : Nat} (hk : IR A k) : p_k P (pa g k) = 8 ∨ p_k P (pa g k) = 9 := by
  obtain ⟨hw, xg, xn, xd, xe, xp, xo⟩ := h
  rcases hk with c | ⟨c1, c2⟩
  · rw [pa_n g (by omega)]; exact Or.inl (xn.2 k c).1
  · obtain ⟨j, rfl⟩ : ∃ j, k = 12 + j := ⟨k - 12, by omega⟩
    rw [pa_m]; exact Or.inr (xd.2 j (by omega)).1
theorem cnt_up {M : Nat → Nat} {k : Nat} (h0 : M k = 0) : ∀ n, k < n → cnt (va_up M k 1) n = cnt M n + 1
  | 0, h => by omega
  | n + 1, h => by
    rw [cnt, cnt]
    by_cases e : k = n
    · subst e
      have e1 : cnt (va_up M k 1) k = cnt M k := cnt_congr k (fun i hi => by unfold va_up; rw [if_neg (by omega)])
      have e2 : va_up M k 1 k = 1 := by unfold va_up; rw [if_pos rfl]
      rw [e1, e2, h0, if_neg (by omega), if_pos rfl]
    · have e2 : va_up M k 1 n = M n := by unfold va_up; rw [if_neg (by omega)]
      rw [e2, cnt_up h0 n (by omega)]; omega
/-- a flood under way: the places of Q are marked, and wait -/
def FL (P : Pic) (g : Nat → Nat → Nat) (A : Nat → Nat → Nat) (fl : Nat) (Q : List Nat) (M : Nat → Nat) : Prop := p_i P 248 (g 0 0) = nI fl ∧ p_i P 247 (g 0 0) = nI Q.length ∧ (∀ i, (h : i < Q.length) → p_aq P (g 6 0) i = some (pa g Q[i])) ∧ Q.length = cnt M 28 ∧ (∀ k, k ∈ Q ↔ M k ≠ 0) ∧ (∀ k, M k ≠ 0 → IR A k) ∧ (∀ k, IR A k → ∃ r, r ≤ fl ∧ p_i P 321 (pa g k) = nI r ∧ (r = fl ↔ M k ≠ 0))
theorem ne_reach {P : Pic} {g : Nat → Nat → Nat} {ow : Nat → Nat × Nat} {fl : Nat} {A : Nat → Nat → Nat} {pl : Nat → Nat} {po : Option Value → Pic → Prop} {th : String → Pic → Prop} {Q : List Nat} {M : Nat → Nat} {k : Nat} (h : NS P g ow A pl) (ok : OkN A) (f : FL P g A fl Q M) (hfl : fl < 2 ^ 31) (hk : IR A k)
    (hp : ∀ P' Q' M', TX P P' (fun _ => False) fF → NS P' g ow A pl → FL P' g A fl Q' M' → (M k ≠ 0 ∧ Q' = Q ∧ M' = M ∨ M k = 0 ∧ Q' = Q ++ [k] ∧ M' = va_up M k 1) → po none P') : wp_Ne_reach po th P (g 0 0) (pa g k) := by
  have hn := ok.1
  have hpp := ok.2.1
  have h' := h
  obtain ⟨hw, xg, xn, xd, xe, xp, xo⟩ := h
  obtain ⟨f1, f2, f3, f4, f5, f6, f7⟩ := id f
  obtain ⟨r, r1, r2, r3⟩ := f7 k hk
  have hk28 : k < 28 := by unfold IR at hk; omega
  refine ⟨h'.kk hn hk, xg.1, ?_⟩
  rw [r2, f1, nI_eq (by omega) (by omega)]
  refine ⟨fun e => hp P Q M (TX.rfl' P _ _) h' f (Or.inl ⟨r3.mp e, rfl, rfl⟩), fun e => ?_⟩
  have hM : M k = 0 := by
    rcases Nat.eq_zero_or_pos (M k) with z | z
    · exact z
    · exact absurd (r3.mpr (by omega)) e
  have hlt : Q.length < 28 := by
    have := cnt_up hM 28 hk28
    have := cnt_le (va_up M k 1) 28
    omega
  have e7 : p_i (s_i P 321 (pa g k) (nI fl)) 247 (g 0 0) = nI Q.length := by rw [gpi_i, if_neg (by omega)]; exact f2
  refine ⟨_, xg.2.2.2.2.2.2.2.1, xg.2.2.2.2.2.2.2.2.2.2.2.1, ?_, ?_⟩
  · rw [e7]; show vp_in _ (p_n P (g 6 0)); rw [xg.2.2.2.2.2.2.2.2.2.2.2.2]; exact vp_in_nI hlt (by decide)
  · intro P1 hP1
    rw [e7, nI_clamp (by omega)] at hP1
    have kq : p_k P (g 6 0) = 105 := xg.2.2.2.2.2.2.2.2.2.2.2.1
    have t1 : TX P (s_i P 321 (pa g k) (nI fl)) (fun _ => False) fF := tx_i P 321 (by decide) _ _ _ rfl
    have t2 : TX (s_i P 321 (pa g k) (nI fl)) P1 (fun _ => False) fF := by
      rw [hP1]
      exact tx_aq _ _ (by show p_k P (g 6 0) ≠ 104; rw [kq]; decide) _ _ _ _
    have w1 : p_i P1 247 (g 0 0) = nI Q.length := by rw [hP1, gpi_aq]; exact e7
    rw [w1, ← nI_succ]
    have t3 : TX P1 (s_i P1 247 (g 0 0) (nI (Q.length + 1))) (fun _ => False) fF := tx_i P1 247 (by decide) _ _ _ rfl
    have t : TX P (s_i P1 247 (g 0 0) (nI (Q.length + 1))) (fun _ => False) fF := (t1.trans t2 (fun _ z => z) (fun _ z => z) (fun _ z => z) (fun _ z => z)).trans t3 (fun _ z => z) (fun _ z => z) (fun _ z => z) (fun _ z => z)
    have hw' : Wf (s_i P1 247 (g 0 0) (nI (Q.length + 1))) := by
      rw [hP1]; exact wf_i (wf_aq (wf_i hw _ _ _) _ _ _) _ _ _
    refine hp _ (Q ++ [k]) (va_up M k 1) t (h'.tx t hw') ⟨?_, ?_, fun i hi => ?_, ?_, fun i => ?_, fun i hi => ?_, fun i hi => ?_⟩ (Or.inr ⟨hM, rfl, rfl⟩)
    · rw [gpi_i, if_neg (by omega), hP1, gpi_aq, gpi_i, if_neg (by omega)]; exact f1
    · rw [gpi_i, if_pos ⟨rfl, rfl⟩, List.length_append]; rfl
    · rw [gpaq_i, hP1, gpaq_aq]
      rw [List.length_append] at hi
      have hi : i < Q.length + 1 := hi
      by_cases c : i = Q.length
      · subst c
        rw [if_pos ⟨rfl, rfl⟩, List.getElem_append_right (Nat.le_refl _)]
        simp only [Nat.sub_self, List.getElem_cons_zero]
      · rw [if_neg (fun z => c z.2), gpaq_i, f3 i (by omega), List.getElem_append_left (by omega)]
    · rw [List.length_append, cnt_up hM 28 hk28, ← f4]; rfl
    · rw [List.mem_append, List.mem_singleton, f5]
      unfold va_up
      by_cases c : i = k
      · rw [if_pos c]; exact ⟨fun _ => by decide, fun _ => Or.inr c⟩
      · rw [if_neg c]; exact ⟨fun z => z.elim (fun y => y) (fun y => absurd y c), Or.inl⟩
    · unfold va_up at hi
      by_cases c : i = k
      · rw [c]; exact hk
      · rw [if_neg c] at hi; exact f6 i hi
    · rw [gpi_i, if_neg (by omega), hP1, gpi_aq, gpi_i]
      by_cases c : i = k
      · subst c
        rw [if_pos ⟨rfl, rfl⟩]
        refine ⟨fl, Nat.le_refl _, rfl, fun _ => ?_, fun _ => rfl⟩
        unfold va_up; rw [if_pos rfl]; decide
      · rw [if_neg (fun z => c (h'.inj hn hi hk z.2))]
        have : va_up M k 1 i = M i := by unfold va_up; rw [if_neg c]
        rw [this]; exact f7 i hi
