/-! questions about the net (component) -/
theorem RX.ns {P : Pic} {x : Nat} {g : Nat → Nat → Nat} {ow : Nat → Nat × Nat} {fl : Nat} {A : Nat → Nat → Nat} {B : Nat → Nat → Int64} (h : RX P x g ow fl A B) (ok : OkN A) : ∃ pl, NS P g ow A pl ∧ FZ P g A fl := by
  obtain ⟨hw, xa, xg, xn, xd, xe, ⟨pl, xp⟩, xf, xc, xr, xb, xt, xo⟩ := id h
  refine ⟨pl, ⟨hw, xg, xn, xd, xe, xp, xo⟩, xf.1, fun k hk => ?_⟩
  rcases hk with c | ⟨c1, c2⟩
  · rw [pa_n g (by have := ok.1; omega)]; exact xf.2.1 k c
  · obtain ⟨j, rfl⟩ : ∃ j, k = 12 + j := ⟨k - 12, by omega⟩
    rw [pa_m]; exact xf.2.2 j (by omega)
theorem RX.net {P P' : Pic} {x : Nat} {g : Nat → Nat → Nat} {ow : Nat → Nat × Nat} {fl fl' : Nat} {A : Nat → Nat → Nat} {B : Nat → Nat → Int64} {pl' : Nat → Nat} (h : RX P x g ow fl A B) (ok : OkN A) (t : TX P P' (fun _ => False) fG) (ns : NS P' g ow A pl') (z : FZ P' g A fl') : RX P' x g ow fl' A B := by
  obtain ⟨hw, xa, xg, xn, xd, xe, ⟨pl, xp⟩, xf, xc, xr, xb, xt, xo⟩ := id h
  have hn := ok.1
  obtain ⟨hw', xg', xn', xd', xe', xp', xo'⟩ := ns
  refine ⟨hw', xa.tx hw t rfl, xg', xn', xd', xe', ⟨pl', xp'⟩, ⟨z.1, fun i hi => ?_, fun j hj => ?_⟩, xc.tx hw t rfl (fun z => z), xr.tx hw t ⟨rfl, rfl, rfl, rfl⟩ (fun _ _ z => z), xb.tx hw t ⟨rfl, rfl, rfl⟩ (fun _ _ z => z), xt.tx hw t ⟨rfl, rfl⟩ (fun z => z), xo'⟩
  · have := z.2 i (Or.inl hi); rw [pa_n g (by omega)] at this; exact this
  · have := z.2 (12 + j) (Or.inr (by omega)); rw [pa_m] at this; exact this
theorem TX.xmG {P P' : Pic} (t : TX P P' (fun _ => False) fG) : XM P P' := t.xm (fun f h1 h2 => by
  unfold fG
  simp only [Bool.or_eq_false_iff, beq_eq_false_iff_ne]
  omega) rfl
theorem as_fd {A : Nat → Nat → Nat} (ok : OkN A) {v : Nat} (hv : v < 2 * A 482 0) : (A 487 v ≠ 0 ↔ fdT A 0 v ≠ 0) := by
  have hvo := (ok.2.2.2.1 v hv).2
  unfold fdT
  by_cases c : A 487 v ≠ 0
  · rw [if_pos (by omega)]; exact ⟨fun _ => by decide, fun _ => c⟩
  · rw [if_neg (by omega)]; exact ⟨fun z => absurd z c, fun z => absurd rfl z⟩
theorem xo_fed {P : Pic} {x : Nat} {g : Nat → Nat → Nat} {ow : Nat → Nat × Nat} {fl : Nat} {A : Nat → Nat → Nat} {B : Nat → Nat → Int64} {po : Option Value → Pic → Prop} {th : String → Pic → Prop} {x1 : Int32} (h : RX P x g ow fl A B) (ok : Ok A B) (hfl : fl + 50 < 2 ^ 30)
    (h1 : (∀ j, j < A 483 0 → x1 ≠ nI j) → th "java/lang/IndexOutOfBoundsException" P)
    (h0 : ∀ c, c < A 483 0 → x1 = nI c → ∀ P' fl', XM P P' → fl' ≤ fl + 50 → RX P' x g ow fl' A B → po (some (.int (nI (ind (AR A (A 489 c)))))) P') : wp_Wa_fed po th P x x1 := by
  obtain ⟨pl0, ns, z⟩ := h.ns ok.1
  obtain ⟨hw, xa, xg, xn, xd, xe, ⟨pl, xp⟩, xf, xc, xr, xb, xt, xo⟩ := id h
  refine ⟨xa.1, xo_customerAt h ok.2.1.1 h1 (fun c hc hx1 => ⟨_, rfl, _, xa.2.1, _, xa.2.1, xg.1, _, xg.2.2.2.2.1, xg.1, ?_⟩)⟩
  refine ne_fromSources ok.1 ok.2.2.2.2.2 (by omega) (gt_as ok.1) (fun v _ => (ok.1.2.2.2.2.2 v).2.2.1) ns z (fun P2 Q2 M2 t2 n2 f2 hr => ⟨rfl, ?_⟩)
  have r2 := h.net ok.1 t2.G n2 f2.z
  obtain ⟨_, xa2, xg2, _, _, _, _, _, xc2, _⟩ := id r2
  refine ⟨xa2.1, _, xa2.2.1, (xc2.2 c hc).1, _, (xc2.2 c hc).2.1, xg2.1, ?_⟩
  have hpl := ok.2.1.2.2.1 c hc
  have hn := ok.1.1
  have e7 : g 7 (A 489 c) = pa g (A 489 c) := (pa_n g (by omega)).symm
  rw [e7]
  refine ne_isReached n2 ok.1 f2 (by omega) (Or.inl hpl) ⟨_, rfl, b01 (ind_le _), ?_⟩
  have e : ind (M2 (A 489 c) ≠ 0) = ind (AR A (A 489 c)) := ind_congr ((hr _).trans (Rch.congr (fun v hv => as_fd ok.1 hv) (fun _ => Iff.rfl) _))
  rw [e]
  exact h0 c hc hx1 P2 (fl + 1) t2.G.xmG (by omega) r2
