/-! the reference's methods, told by numbers: the plain ones -/
theorem mg_r {P0 P : Pic} {m : Nat} {ar : Nat → Nat} {A : Nat → Nat → Nat} {B : Nat → Nat → Int64} (h : MM P0 P m ar A B) (f t n : Nat) {K : Nat → Prop} {x : Int32} {j : Nat} (hx : x = nI j) (hj : j < n) (hK : K (ar f)) (hf : (f, t, n) ∈ mArr := by decide) (hn : n < 2 ^ 31 := by decide) : ∃ a, p_r P f m = some a ∧ p_k P a = t ∧ vp_in x (p_n P a) ∧ K a :=
  ⟨ar f, h.r f t n hf, h.ak f t n (mArr_all hf), by rw [h.an f t n (mArr_all hf), hx]; exact vp_in_nI hj hn, hK⟩
theorem mg_ok {P0 P : Pic} {m : Nat} {ar : Nat → Nat} {A : Nat → Nat → Nat} {B : Nat → Nat → Int64} (h : MM P0 P m ar A B) {X Y : Prop} (hX : MM P0 (s_i P 480 m 0) m ar (up2 A 480 0 0) B → X) : p_k P m = 13 ∧ p_k (s_i P 480 m 0) m = 13 ∧ ((p_i (s_i P 480 m 0) 480 m ≤ 0 → X) ∧ (¬ p_i (s_i P 480 m 0) 480 m ≤ 0 → Y)) :=
  ⟨h.k, h.k, fun _ => hX (h.si 480 0), fun e => absurd (show p_i (s_i P 480 m 0) 480 m ≤ 0 by rw [gpi_i, if_pos ⟨rfl, rfl⟩]; decide) e⟩
theorem mg_no {P0 P : Pic} {m : Nat} {ar : Nat → Nat} {A : Nat → Nat → Nat} {B : Nat → Nat → Int64} (h : MM P0 P m ar A B) {X Y : Prop} (t : Nat) {t0 : Int32} (ht : t0 = nI t) (h0 : 0 < t) (h1 : t < 2 ^ 31) (hY : MM P0 (s_i P 480 m t0) m ar (up2 A 480 0 t) B → Y) : p_k P m = 13 ∧ p_k (s_i P 480 m t0) m = 13 ∧ ((p_i (s_i P 480 m t0) 480 m ≤ 0 → X) ∧ (¬ p_i (s_i P 480 m t0) 480 m ≤ 0 → Y)) := by
  subst ht
  exact ⟨h.k, h.k, fun e => absurd e (by rw [gpi_i, if_pos ⟨rfl, rfl⟩]; exact nI_nle h0 h1), fun _ => hY (h.si 480 t)⟩
theorem mo_noNode {P0 P : Pic} {m : Nat} {ar : Nat → Nat} {A : Nat → Nat → Nat} {B : Nat → Nat → Int64} {po : Option Value → Pic → Prop} {th : String → Pic → Prop} {x : Int32} (h : MM P0 P m ar A B) (hb : A 481 0 < 2 ^ 31) (h1 : (∀ j, j < A 481 0 → x ≠ nI j) → po (some (.int 1)) P) (h0 : ∀ j, j < A 481 0 → x = nI j → po (some (.int 0)) P) : wp_Mo_noNode po th P m x := by
  refine ⟨fun e => h1 (fun j hj hx => ?_), fun e => ⟨h.k, fun e' => ?_, fun e' => h1 (fun j hj hx => e' ?_)⟩⟩
  · rw [hx] at e; exact nI_pos (by omega) e
  · rw [h.i 481] at e'
    obtain ⟨j, hj, hx⟩ := nI_of e
    rw [hx, nI_ltI hj hb] at e'
    exact h0 j e' hx
  · rw [h.i 481, hx]; exact nI_lt hj hb
theorem mo_noPipe {P0 P : Pic} {m : Nat} {ar : Nat → Nat} {A : Nat → Nat → Nat} {B : Nat → Nat → Int64} {po : Option Value → Pic → Prop} {th : String → Pic → Prop} {x : Int32} (h : MM P0 P m ar A B) (hb : A 482 0 < 2 ^ 31) (h1 : (∀ j, j < A 482 0 → x ≠ nI j) → po (some (.int 1)) P) (h0 : ∀ j, j < A 482 0 → x = nI j → po (some (.int 0)) P) : wp_Mo_noPipe po th P m x := by
  refine ⟨fun e => h1 (fun j hj hx => ?_), fun e => ⟨h.k, fun e' => ?_, fun e' => h1 (fun j hj hx => e' ?_)⟩⟩
  · rw [hx] at e; exact nI_pos (by omega) e
  · rw [h.i 482] at e'
    obtain ⟨j, hj, hx⟩ := nI_of e
    rw [hx, nI_ltI hj hb] at e'
    exact h0 j e' hx
  · rw [h.i 482, hx]; exact nI_lt hj hb
theorem mo_noCustomer {P0 P : Pic} {m : Nat} {ar : Nat → Nat} {A : Nat → Nat → Nat} {B : Nat → Nat → Int64} {po : Option Value → Pic → Prop} {th : String → Pic → Prop} {x : Int32} (h : MM P0 P m ar A B) (hb : A 483 0 < 2 ^ 31) (h1 : (∀ j, j < A 483 0 → x ≠ nI j) → po (some (.int 1)) P) (h0 : ∀ j, j < A 483 0 → x = nI j → po (some (.int 0)) P) : wp_Mo_noCustomer po th P m x := by
  refine ⟨fun e => h1 (fun j hj hx => ?_), fun e => ⟨h.k, fun e' => ?_, fun e' => h1 (fun j hj hx => e' ?_)⟩⟩
  · rw [hx] at e; exact nI_pos (by omega) e
  · rw [h.i 483] at e'
    obtain ⟨j, hj, hx⟩ := nI_of e
    rw [hx, nI_ltI hj hb] at e'
    exact h0 j e' hx
  · rw [h.i 483, hx]; exact nI_lt hj hb
theorem mo_noEnd {P0 P : Pic} {m : Nat} {ar : Nat → Nat} {A : Nat → Nat → Nat} {B : Nat → Nat → Int64} {po : Option Value → Pic → Prop} {th : String → Pic → Prop} {x y : Int32} (h : MM P0 P m ar A B) (hb : A 482 0 < 2 ^ 31) (h1 : (∀ j k, j < A 482 0 → k < 2 → ¬ (x = nI j ∧ y = nI k)) → po (some (.int 1)) P) (h0 : ∀ j k, j < A 482 0 → k < 2 → x = nI j → y = nI k → po (some (.int 0)) P) : wp_Mo_noEnd po th P m x y := by
  refine ⟨h.k, mo_noPipe h hb (fun e => ⟨_, rfl, fun _ => h1 (fun j k hj hk z => e j hj z.1), fun e' => absurd e' (by decide)⟩) (fun j hj hx => ⟨_, rfl, fun e' => absurd rfl e', fun _ => ⟨fun e2 => h1 (fun j k hj hk z => ?_), fun e2 => ⟨fun e3 => ?_, fun e3 => h1 (fun j k hj hk z => e3 ?_)⟩⟩⟩)⟩
  · rw [z.2] at e2; exact nI_pos (by omega) e2
  · obtain ⟨k, hk, hy⟩ := nI_of2 (n := 1) rfl e2 e3
    exact h0 j k hj (by omega) hx hy
  · rw [z.2]; exact nI_le (b := 1) (by omega) (by omega)
theorem mo_thrown {P0 P : Pic} {m : Nat} {ar : Nat → Nat} {A : Nat → Nat → Nat} {B : Nat → Nat → Int64} {po : Option Value → Pic → Prop} {th : String → Pic → Prop} (h : MM P0 P m ar A B) (hp : po (some (.int (nI (A 480 0)))) P) : wp_Mo_thrown po th P m := ⟨h.k, by rw [h.i 480]; exact hp⟩
theorem mo_node {P0 P : Pic} {m : Nat} {ar : Nat → Nat} {A : Nat → Nat → Nat} {B : Nat → Nat → Int64} {po : Option Value → Pic → Prop} {th : String → Pic → Prop} (h : MM P0 P m ar A B) (hb : A 481 0 ≤ 12)
    (h0 : A 481 0 < 12 → ∀ P', MM P0 P' m ar (up2 (up2 A 480 0 0) 481 0 (A 481 0 + 1)) B → po (some (.int (nI (A 481 0)))) P')
    (h1 : A 481 0 = 12 → ∀ P', MM P0 P' m ar (up2 A 480 0 1) B → po (some (.int 0)) P') : wp_Mo_node po th P m := by
  refine ⟨h.k, fun e => ?_, fun e => ?_⟩
  · refine mg_ok h (fun h' => ?_)
    intro P' hP'
    have e1 : p_i (s_i P 480 m 0) 481 m = nI (A 481 0) := h'.i 481
    rw [e1, ← nI_succ] at hP'
    subst hP'
    rw [gpi_i, if_pos ⟨rfl, rfl⟩, nI_pred]
    refine h0 ?_ _ (h'.si 481 (A 481 0 + 1))
    rw [h.i 481] at e
    have : A 481 0 ≠ 12 := fun z => e (by rw [z]; rfl)
    omega
  · refine mg_no h 1 rfl (by decide) (by decide) (fun h' => h1 ?_ _ h')
    rw [h.i 481] at e
    exact (nI_eq (b := 12) (by omega) (by omega)).mp e
theorem mo_source {P0 P : Pic} {m : Nat} {ar : Nat → Nat} {A : Nat → Nat → Nat} {B : Nat → Nat → Int64} {po : Option Value → Pic → Prop} {th : String → Pic → Prop} {x y : Int32} {v : Nat} (h : MM P0 P m ar A B) (hb : A 481 0 ≤ 12) (hy : y = nI v) (hv : v ≤ 1)
    (h0 : ∀ j, j < A 481 0 → x = nI j → ∀ P', MM P0 P' m ar (up2 (up2 A 480 0 0) 484 j v) B → po (some (.int (nI (A 484 j)))) P')
    (h1 : (∀ j, j < A 481 0 → x ≠ nI j) → ∀ P', MM P0 P' m ar (up2 A 480 0 1) B → po (some (.int 0)) P') : wp_Mo_source po th P m x y := by
  refine ⟨h.k, mo_noNode h (by omega) (fun e => ⟨_, rfl, fun z => absurd z (by decide), fun _ => mg_no h 1 rfl (by decide) (by decide) (fun h' => h1 e _ h')⟩) (fun j hj hx => ⟨_, rfl, fun _ => ?_, fun z => absurd rfl z⟩)⟩
  refine mg_ok h (fun h' => mg_r h' 484 103 12 hx (by omega) ?_)
  intro z hz
  rw [hx, nI_clamp (by omega), h'.ai 484 103 12 (by omega), up2_ne _ _ (Or.inl (by decide))] at hz
  refine mg_r h' 484 103 12 hx (by omega) ⟨?_, ?_, ?_⟩
  · rw [hy]; have : v = 0 ∨ v = 1 := by omega
    rcases this with c | c
    · left; rw [c]; rfl
    · right; rw [c]; rfl
  · have := h.b 484 12 (j := j) (by omega)
    rw [hz]; have : A 484 j = 0 ∨ A 484 j = 1 := by omega
    rcases this with c | c
    · left; rw [c]; rfl
    · right; rw [c]; rfl
  · rw [hz, hx, nI_clamp (by omega), hy]
    exact h0 j hj hx _ (h'.sai 484 103 12 j v (fun _ => hv))
