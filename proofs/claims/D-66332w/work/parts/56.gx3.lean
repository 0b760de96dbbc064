/-! spread, from, fromSources (component) -/
theorem ne_spread {P : Pic} {g : Nat → Nat → Nat} {ow : Nat → Nat × Nat} {fl : Nat} {A : Nat → Nat → Nat} {pl thr : Nat → Nat} {po : Option Value → Pic → Prop} {th : String → Pic → Prop} {a1 : Nat} {S : Nat → Prop} {Q : List Nat} {M : Nat → Nat} (ok : OkN A) (hI : OkI A) (hfl : fl < 2 ^ 31) (gt : GT g ow A pl a1 thr) (ht : ∀ v, v < 2 * A 482 0 → thr v ≤ 1) (ns : NS P g ow A pl) (f : FL P g A fl Q M) (sp : SpX A thr S M)
    (hp : ∀ P' Q' M', TX P P' (fun _ => False) fF → NS P' g ow A pl → FL P' g A fl Q' M' → (∀ k, M' k ≠ 0 ↔ Rch (A 482 0) (A 485) (fun v => thr v ≠ 0) S k) → po none P') : wp_Ne_spread po th P (g 0 0) a1 := by
  have hn := ok.1
  have hpp := ok.2.1
  have key : ∀ d i, i + d = 28 → ∀ P' Q' M', TX P P' (fun _ => False) fF → NS P' g ow A pl → FL P' g A fl Q' M' → SpX A thr S M' → i ≤ Q'.length → (∀ s, (h : s < i) → (h' : s < Q'.length) → ∀ v, v ∈ elq A Q'[s] → thr v ≠ 0 → M' (oth A Q'[s] v) ≠ 0) → wl_Ne_spread_2 po th (d + 1) P' (g 0 0) a1 (nI i) := by
    intro d
    induction d with
    | zero =>
      intro i hi P' Q' M' tx ns f sp hle done
      obtain ⟨f1, f2, f3, f4, f5, f6, f7⟩ := id f
      have hq28 : Q'.length ≤ 28 := by rw [f4]; exact cnt_le _ _
      refine ⟨ns.2.1.1, fun _ => hp P' Q' M' tx ns f (fun k => ⟨sp.2 k, fun hr => ?_⟩), fun z => absurd (by rw [f2]; exact nI_le (by omega) (by omega)) z⟩
      refine hr (fun k => M' k ≠ 0) sp.1 (fun v hv hv0 => ⟨fun z => ?_, fun z => ?_⟩)
      · obtain ⟨s, hs, e⟩ := List.getElem_of_mem ((f5 _).mpr z)
        have := done s (by omega) hs v (by
          rw [e]; unfold elq; rw [if_neg (by omega)]
          simp only [List.mem_cons, List.not_mem_nil, or_false]; omega) hv0
        rw [e] at this
        unfold oth at this
        rw [if_neg (by omega)] at this
        exact this
      · obtain ⟨s, hs, e⟩ := List.getElem_of_mem ((f5 _).mpr z)
        have hev := (ok.2.2.2.1 v hv).1
        have := done s (by omega) hs v (by
          rw [e]; unfold elq inc; rw [if_pos (by omega), List.mem_filter, List.mem_range]
          exact ⟨hv, beq_self_eq_true _⟩) hv0
        rw [e] at this
        unfold oth at this
        rw [if_pos (by omega)] at this
        exact this
    | succ d ih =>
      intro i hi P' Q' M' tx ns f sp hle done
      obtain ⟨f1, f2, f3, f4, f5, f6, f7⟩ := id f
      have hq28 : Q'.length ≤ 28 := by rw [f4]; exact cnt_le _ _
      refine ⟨ns.2.1.1, ?_⟩
      rw [f2, nI_leI (by omega) (by omega)]
      refine ⟨fun hge => hp P' Q' M' tx ns f (fun k => ⟨sp.2 k, fun hr => ?_⟩), fun hlt => ?_⟩
      · refine hr (fun k => M' k ≠ 0) sp.1 (fun v hv hv0 => ⟨fun z => ?_, fun z => ?_⟩)
        · obtain ⟨s, hs, e⟩ := List.getElem_of_mem ((f5 _).mpr z)
          have := done s (by omega) hs v (by
            rw [e]; unfold elq; rw [if_neg (by omega)]
            simp only [List.mem_cons, List.not_mem_nil, or_false]; omega) hv0
          rw [e] at this
          unfold oth at this
          rw [if_neg (by omega)] at this
          exact this
        · obtain ⟨s, hs, e⟩ := List.getElem_of_mem ((f5 _).mpr z)
          have hev := (ok.2.2.2.1 v hv).1
          have := done s (by omega) hs v (by
            rw [e]; unfold elq inc; rw [if_pos (by omega), List.mem_filter, List.mem_range]
            exact ⟨hv, beq_self_eq_true _⟩) hv0
          rw [e] at this
          unfold oth at this
          rw [if_pos (by omega)] at this
          exact this
      · have hil : i < Q'.length := by omega
        have hMi : M' Q'[i] ≠ 0 := (f5 _).mp (List.getElem_mem hil)
        have hki := f6 _ hMi
        refine ⟨_, ns.2.1.2.2.2.2.2.2.2.1, Or.inr ns.2.1.2.2.2.2.2.2.2.2.2.2.2.1, ?_, _, by rw [nI_clamp (by omega)]; exact f3 i hil, (elq A Q'[i]).length + 1, ?_⟩
        · rw [ns.2.1.2.2.2.2.2.2.2.2.2.2.2.2]; exact vp_in_nI (by omega) (by decide)
        · refine ne_inner (S := S) (thr := thr) ok hI hfl gt ht hki P' M' Q' (fun P2 Q2 M2 tx2 ns2 f2' sp2 mono pre dn => ?_) _ 0 (by omega) P' Q' M' (TX.rfl' P' _ _) ns f sp (fun _ z => z) ⟨[], by rw [List.append_nil]⟩ rfl hMi (fun s hs => absurd hs (Nat.not_lt_zero s))
          obtain ⟨R, rfl⟩ := pre
          refine ih (i + 1) (by omega) P2 _ M2 (tx.trans tx2 (fun _ z => z) (fun _ z => z) (fun _ z => z) (fun _ z => z)) ns2 f2' sp2 (by rw [List.length_append]; omega) (fun s hs hs' v hv hv0 => ?_)
          have e : (Q' ++ R)[s] = Q'[s]'(by omega) := List.getElem_append_left (by omega)
          rw [e] at hv ⊢
          by_cases c : s = i
          · subst c; exact dn v hv hv0
          · exact mono _ (done s (by omega) (by omega) v hv hv0)
  exact ⟨_, key 28 0 (by omega) P Q M (TX.rfl' P _ _) ns f sp (Nat.zero_le _) (fun s hs => absurd hs (Nat.not_lt_zero s))⟩
/-- the marks before a flood -/
def FZ (P : Pic) (g : Nat → Nat → Nat) (A : Nat → Nat → Nat) (fl : Nat) : Prop := p_i P 248 (g 0 0) = nI fl ∧ ∀ k, IR A k → ∃ r, r ≤ fl ∧ p_i P 321 (pa g k) = nI r
theorem FL.z {P : Pic} {g : Nat → Nat → Nat} {A : Nat → Nat → Nat} {fl : Nat} {Q : List Nat} {M : Nat → Nat} (h : FL P g A fl Q M) : FZ P g A fl := ⟨h.1, fun k hk => by obtain ⟨r, r1, r2, _⟩ := h.2.2.2.2.2.2 k hk; exact ⟨r, r1, r2⟩⟩
/-- a flood begins -/
theorem ne_begin {P : Pic} {g : Nat → Nat → Nat} {ow : Nat → Nat × Nat} {fl : Nat} {A : Nat → Nat → Nat} {pl : Nat → Nat} (ns : NS P g ow A pl) (ok : OkN A) (hfl : fl < 2 ^ 30) (z : FZ P g A fl) : TX P (s_i (s_i P 248 (g 0 0) (nI (fl + 1))) 247 (g 0 0) 0) (fun _ => False) fF ∧ NS (s_i (s_i P 248 (g 0 0) (nI (fl + 1))) 247 (g 0 0) 0) g ow A pl ∧ FL (s_i (s_i P 248 (g 0 0) (nI (fl + 1))) 247 (g 0 0) 0) g A (fl + 1) [] (fun _ => 0) := by
  have t1 : TX P (s_i P 248 (g 0 0) (nI (fl + 1))) (fun _ => False) fF := tx_i P 248 (by decide) _ _ _ rfl
  have t2 : TX (s_i P 248 (g 0 0) (nI (fl + 1))) (s_i (s_i P 248 (g 0 0) (nI (fl + 1))) 247 (g 0 0) 0) (fun _ => False) fF := tx_i _ 247 (by decide) _ _ _ rfl
  have t := t1.trans t2 (T := fun _ => False) (G := fF) (fun _ z => z) (fun _ z => z) (fun _ z => z) (fun _ z => z)
  refine ⟨t, ns.tx t (wf_i (wf_i ns.1 _ _ _) _ _ _), ?_, ?_, fun i hi => absurd hi (Nat.not_lt_zero i), ?_, fun k => ?_, fun k hk => absurd rfl hk, fun k hk => ?_⟩
  · rw [gpi_i, if_neg (by omega), gpi_i, if_pos ⟨rfl, rfl⟩]
  · rw [gpi_i, if_pos ⟨rfl, rfl⟩]; rfl
  · exact (Nat.le_antisymm (by decide) (Nat.zero_le _))
  · exact ⟨fun h => absurd h List.not_mem_nil, fun h => absurd rfl h⟩
  · obtain ⟨r, r1, r2⟩ := z.2 k hk
    refine ⟨r, by omega, ?_, fun e => by omega, fun e => absurd rfl e⟩
    rw [gpi_i, if_neg (by omega), gpi_i, if_neg (by omega)]; exact r2
