/-! the component's spread -/
def elq (A : Nat → Nat → Nat) (k : Nat) : List Nat := if k < 12 then inc A k else [2 * (k - 12), 2 * (k - 12) + 1]
/-- the other side of an end -/
def oth (A : Nat → Nat → Nat) (k v : Nat) : Nat := if k < 12 then 12 + v / 2 else A 485 v
theorem el_lt {A : Nat → Nat → Nat} (hn : A 481 0 ≤ 12) {k v : Nat} (hk : IR A k) (h : v ∈ elq A k) : v < 2 * A 482 0 ∧ (k < 12 ∧ A 485 v = k ∨ k = 12 + v / 2) := by
  unfold IR at hk
  unfold elq at h
  by_cases c : k < 12
  · rw [if_pos c] at h
    have := inc_lt h
    exact ⟨this.1, Or.inl ⟨c, this.2⟩⟩
  · rw [if_neg c] at h
    simp only [List.mem_cons, List.not_mem_nil, or_false] at h
    omega
theorem NS.el {P : Pic} {g : Nat → Nat → Nat} {ow : Nat → Nat × Nat} {A : Nat → Nat → Nat} {pl : Nat → Nat} (h : NS P g ow A pl) (hn : A 481 0 ≤ 12) {k : Nat} (hk : IR A k) : ∃ L, p_r P 320 (pa g k) = some L ∧ Lst P L 5 2 ((elq A k).map (g 9)) := by
  obtain ⟨hw, xg, xn, xd, xe, xp, xo⟩ := h
  rcases hk with c | ⟨c1, c2⟩
  · rw [pa_n g (by omega)]
    refine ⟨_, (xn.2 k c).2.2.1, ?_⟩
    have : elq A k = inc A k := by unfold elq; rw [if_pos (by omega)]
    rw [this]; exact (xn.2 k c).2.2.2
  · obtain ⟨j, rfl⟩ : ∃ j, k = 12 + j := ⟨k - 12, by omega⟩
    rw [pa_m]
    refine ⟨_, (xd.2 j (by omega)).2.1, ?_⟩
    have : elq A (12 + j) = [2 * j, 2 * j + 1] := by
      unfold elq
      rw [if_neg (by omega)]
      have e : 12 + j - 12 = j := by omega
      rw [e]
    rw [this]; exact (xd.2 j (by omega)).2.2
theorem ne_beyond {P : Pic} {g : Nat → Nat → Nat} {ow : Nat → Nat × Nat} {A : Nat → Nat → Nat} {pl : Nat → Nat} {po : Option Value → Pic → Prop} {th : String → Pic → Prop} {k v : Nat} (h : NS P g ow A pl) (ok : OkN A) (hk : IR A k) (hv : v ∈ elq A k) (hp : IR A (oth A k v) → po (some (.ref (pa g (oth A k v)))) P) : wp_En_beyond po th P (g 9 v) (pa g k) := by
  have hn := ok.1
  have h' := h
  obtain ⟨hw, xg, xn, xd, xe, xp, xo⟩ := h
  have hl := el_lt hn hk hv
  obtain ⟨a1, a2, a3, a4⟩ := xe.2 v hl.1
  have hev := (ok.2.2.2.1 v hl.1).1
  have im : IR A (12 + v / 2) := Or.inr (by omega)
  refine ⟨a1, _, a2, fun e => ⟨_, a2, ?_⟩, fun e => ⟨_, a3, ?_⟩⟩
  · have c : k < 12 := by
      rcases hl.2 with z | z
      · exact z.1
      · exact absurd (by rw [z, pa_m]) e
    have : oth A k v = 12 + v / 2 := if_pos c
    rw [this, pa_m] at hp
    exact hp im
  · have c : ¬ k < 12 := by
      intro c
      have := h'.inj hn hk im (by rw [pa_m]; exact e)
      omega
    have : oth A k v = A 485 v := if_neg c
    rw [this, pa_n g (by omega)] at hp
    exact hp (Or.inl hev)
/-- a gate that lets the ends of thr through -/
def GT (g : Nat → Nat → Nat) (ow : Nat → Nat × Nat) (A : Nat → Nat → Nat) (pl : Nat → Nat) (a1 : Nat) (thr : Nat → Nat) : Prop := ∀ (P : Pic) (v : Nat) (po : Option Value → Pic → Prop) (th : String → Pic → Prop), NS P g ow A pl → v < 2 * A 482 0 → po (some (.int (nI (thr v)))) P → wp_Gate_passes po th P a1 (g 9 v)
def SpX (A : Nat → Nat → Nat) (thr : Nat → Nat) (S : Nat → Prop) (M : Nat → Nat) : Prop := (∀ k, S k → M k ≠ 0) ∧ ∀ k, M k ≠ 0 → Rch (A 482 0) (A 485) (fun v => thr v ≠ 0) S k
theorem ne_inner {g : Nat → Nat → Nat} {ow : Nat → Nat × Nat} {fl : Nat} {A : Nat → Nat → Nat} {pl thr : Nat → Nat} {po : Option Value → Pic → Prop} {th : String → Pic → Prop} {a1 k i : Nat} {S : Nat → Prop} {K2 : Pic → Nat → Nat → Int32 → Prop} (ok : OkN A) (hI : OkI A) (hfl : fl < 2 ^ 31) (gt : GT g ow A pl a1 thr) (ht : ∀ v, v < 2 * A 482 0 → thr v ≤ 1) (hk : IR A k) (P0 : Pic) (M0 : Nat → Nat) (Q0 : List Nat)
    (hK : ∀ P Q M, TX P0 P (fun _ => False) fF → NS P g ow A pl → FL P g A fl Q M → SpX A thr S M → (∀ k, M0 k ≠ 0 → M k ≠ 0) → (∃ R, Q = Q0 ++ R) → (∀ v, v ∈ elq A k → thr v ≠ 0 → M (oth A k v) ≠ 0) → K2 P (g 0 0) a1 (nI (i + 1))) :
    ∀ j t, t + j = (elq A k).length → ∀ P Q M, TX P0 P (fun _ => False) fF → NS P g ow A pl → FL P g A fl Q M → SpX A thr S M → (∀ k, M0 k ≠ 0 → M k ≠ 0) → (∃ R, Q = Q0 ++ R) → (k : Nat) = k → M k ≠ 0 → (∀ s, (h : s < t) → (h' : s < (elq A k).length) → thr (elq A k)[s] ≠ 0 → M (oth A k (elq A k)[s]) ≠ 0) → wl_Ne_spread_20 po th K2 (j + 1) P (g 0 0) a1 (nI i) (pa g k) (nI t) := by
  have hn := ok.1
  have hpp := ok.2.1
  have hlen : (elq A k).length ≤ 32 := by
    unfold elq
    split
    · have := inc_le hI k; omega
    · show 2 ≤ 32; omega
  intro j
  induction j with
  | zero =>
    intro t hteq P Q M tx ns f sp mono pre _ hMk done
    obtain ⟨L, r1, l1⟩ := ns.el hn hk
    have : t = (elq A k).length := hteq
    subst this
    refine ⟨ns.kk hn hk, L, r1, l1.1, ls_size l1 ⟨_, rfl, fun _ => ?_, fun z => absurd (by rw [List.length_map]; exact nI_le (Nat.le_refl _) (by omega)) z⟩⟩
    intro z hz
    rw [hz, ← nI_succ]
    refine hK P Q M tx ns f sp mono pre (fun v hv hv0 => ?_)
    obtain ⟨s, hs, rfl⟩ := List.getElem_of_mem hv
    exact done s hs hs hv0
  | succ j ih =>
    intro t hteq P Q M tx ns f sp mono pre _ hMk done
    obtain ⟨L, r1, l1⟩ := ns.el hn hk
    have htl : t < (elq A k).length := by omega
    have hvm : (elq A k)[t] ∈ elq A k := List.getElem_mem htl
    have hlt := el_lt hn hk hvm
    refine ⟨ns.kk hn hk, L, r1, l1.1, ls_size l1 ⟨_, rfl, fun z => absurd (by rw [List.length_map] at z; exact z) (nI_ge htl (by omega)), fun _ => ⟨L, r1, l1.1, ?_⟩⟩⟩
    refine ls_get l1 (by rw [List.length_map]; exact htl) (fun hk5 => ⟨_, rfl, hk5, ?_⟩)
    rw [List.getElem_map]
    have next : ∀ P' Q' M', TX P0 P' (fun _ => False) fF → NS P' g ow A pl → FL P' g A fl Q' M' → SpX A thr S M' → (∀ k, M k ≠ 0 → M' k ≠ 0) → (∃ R, Q' = Q0 ++ R) → (thr (elq A k)[t] ≠ 0 → M' (oth A k (elq A k)[t]) ≠ 0) → wb_Ne_spread_67 po th K2 (wl_Ne_spread_20 po th K2 (j + 1)) P' (g 0 0) a1 (nI i) (pa g k) (nI t) := by
      intro P' Q' M' tx' ns' f' sp' mono' pre' now z hz
      rw [hz, ← nI_succ]
      refine ih (t + 1) (by omega) P' Q' M' tx' ns' f' sp' (fun q hq => mono' q (mono q hq)) pre' rfl (mono' k hMk) (fun s hs hs' hs0 => ?_)
      by_cases c : s = t
      · subst c; exact now hs0
      · exact mono' _ (done s (by omega) hs' hs0)
    refine gt P (elq A k)[t] _ th ns hlt.1 ⟨_, rfl, fun e => ?_, fun e => ?_⟩
    · exact next P Q M tx ns f sp (fun _ z => z) pre (fun z => absurd ((b0 (ht _ hlt.1)).mp e) z)
    · have hthr : thr (elq A k)[t] ≠ 0 := fun z => e (by rw [z]; rfl)
      refine ne_beyond ns ok hk hvm (fun hio => ⟨_, rfl, ns.2.1.1, ?_⟩)
      refine ne_reach ns ok f hfl hio (fun P' Q' M' tx' ns' f' hor => ⟨rfl, ?_⟩)
      have txx := tx.trans tx' (fun _ z => z) (fun _ z => z) (fun _ z => z) (fun _ z => z)
      have hR : Rch (A 482 0) (A 485) (fun v => thr v ≠ 0) S (oth A k (elq A k)[t]) := by
        have hk' := sp.2 k hMk
        have hc := Rch.cl (A 482 0) (A 485) (fun v => thr v ≠ 0) S (elq A k)[t] hlt.1 hthr
        unfold oth
        split
        · rename_i c
          rcases hlt.2 with z | z
          · refine hc.mpr ?_; rw [z.2]; exact hk'
          · omega
        · rename_i c
          rcases hlt.2 with z | z
          · omega
          · refine hc.mp ?_; rw [← z]; exact hk'
      rcases hor with ⟨m0, rfl, rfl⟩ | ⟨m0, rfl, rfl⟩
      · exact next P' Q' M' txx ns' f' sp (fun _ z => z) pre (fun _ => m0)
      · obtain ⟨R, hR'⟩ := pre
        refine next P' _ _ txx ns' f' ⟨fun q hq => ?_, fun q hq => ?_⟩ (fun q hq => ?_) ⟨R ++ [oth A k (elq A k)[t]], by rw [hR', List.append_assoc]⟩ (fun _ => ?_)
        · unfold va_up; split
          · decide
          · exact sp.1 q hq
        · unfold va_up at hq
          by_cases c : q = oth A k (elq A k)[t]
          · rw [c]; exact hR
          · rw [if_neg c] at hq; exact sp.2 q hq
        · unfold va_up; split
          · decide
          · exact hq
        · unfold va_up; rw [if_pos rfl]; decide
