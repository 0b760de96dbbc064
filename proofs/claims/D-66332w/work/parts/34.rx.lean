/-! the component's objects, told by the same numbers -/
/-- from P to P' nothing old has changed but lists of S, and fields of F -/
def TX (P P' : Pic) (S : Nat → Prop) (F : Nat → Bool) : Prop := p_z P ≤ p_z P' ∧ (∀ a, a < p_z P → p_k P' a = p_k P a ∧ p_n P' a = p_n P a ∧ (∀ f, f < 520 → F f = false → p_i P' f a = p_i P f a) ∧ (∀ f, F f = false → p_l P' f a = p_l P f a) ∧ (∀ f, f < 520 → p_r P' f a = p_r P f a) ∧ (F 1000 = false → ∀ j, p_ai P' a j = p_ai P a j ∧ p_al P' a j = p_al P a j)) ∧ ∀ L k w l, ¬ S L → Lst P L k w l → Lst P' L k w l
theorem Tr.tx {P P' : Pic} {S : Nat → Prop} (h : Tr P P' S) (F : Nat → Bool) : TX P P' S F := ⟨h.1, fun a ha => by
  obtain ⟨a1, a2, a3, a4, a5, a6, a7, a8⟩ := h.2.2.1 a ha
  exact ⟨a1, a2, fun f hf _ => a3 f hf, fun f _ => a4 f, a5, fun _ j => ⟨a6 j, a7 j⟩⟩, h.2.2.2⟩
theorem TX.rfl' (P : Pic) (S : Nat → Prop) (F : Nat → Bool) : TX P P S F := (Tr.rfl' P S).tx F
theorem TX.trans {P P' P'' : Pic} {S S' T : Nat → Prop} {F F' G : Nat → Bool} (h : TX P P' S F) (h' : TX P' P'' S' F') (hS : ∀ L, S L → T L) (hS' : ∀ L, S' L → T L) (hF : ∀ f, G f = false → F f = false) (hF' : ∀ f, G f = false → F' f = false) : TX P P'' T G := by
  refine ⟨Nat.le_trans h.1 h'.1, fun a ha => ?_, fun L k w l hn hl => h'.2.2 L k w l (fun z => hn (hS' L z)) (h.2.2 L k w l (fun z => hn (hS L z)) hl)⟩
  obtain ⟨a1, a2, a3, a4, a5, a6⟩ := h.2.1 a ha
  obtain ⟨b1, b2, b3, b4, b5, b6⟩ := h'.2.1 a (Nat.lt_of_lt_of_le ha h.1)
  exact ⟨b1.trans a1, b2.trans a2, fun f h1 h2 => (b3 f h1 (hF' f h2)).trans (a3 f h1 (hF f h2)), fun f h2 => (b4 f (hF' f h2)).trans (a4 f (hF f h2)), fun f h1 => (b5 f h1).trans (a5 f h1), fun h2 j => ⟨(b6 (hF' _ h2) j).1.trans (a6 (hF _ h2) j).1, (b6 (hF' _ h2) j).2.trans (a6 (hF _ h2) j).2⟩⟩
theorem TX.xm {P P' : Pic} {S : Nat → Prop} {F : Nat → Bool} (h : TX P P' S F) (hF : ∀ f, 480 ≤ f → f < 520 → F f = false) (hF' : F 1000 = false) : XM P P' := ⟨h.1, fun a ha => by
  obtain ⟨a1, a2, a3, a4, a5, a6⟩ := h.2.1 a ha
  exact ⟨a1, a2, fun f h1 h2 => ⟨a3 f h2 (hF f h1 h2), a5 f h2⟩, fun j => (a6 hF' j).1, fun j => (a6 hF' j).2⟩⟩
theorem tx_i (P : Pic) (f : Nat) (hf : f ≠ 521) (a : Nat) (v : Int32) (S : Nat → Prop) {F : Nat → Bool} (hF : F f = true) : TX P (s_i P f a v) S F := by
  refine ⟨Nat.le_refl _, fun b _ => ⟨rfl, rfl, fun g _ h2 => ?_, fun _ _ => rfl, fun _ _ => rfl, fun _ _ => ⟨rfl, rfl⟩⟩, fun L k w l _ hl => ?_⟩
  · rw [gpi_i, if_neg (fun z => by rw [z.1, hF] at h2; cases h2)]
  · obtain ⟨h1, c, h2, h3, h4, h5, h6, h7, h8, h9⟩ := hl
    exact ⟨h1, c, h2, h3, h4, h5, h6, by rw [gpi_i, if_neg (fun z => hf z.1.symm)]; exact h7, h8, h9⟩
theorem tx_l (P : Pic) (f : Nat) (a : Nat) (v : Int64) (S : Nat → Prop) {F : Nat → Bool} (hF : F f = true) : TX P (s_l P f a v) S F := by
  refine ⟨Nat.le_refl _, fun b _ => ⟨rfl, rfl, fun _ _ _ => rfl, fun g h2 => ?_, fun _ _ => rfl, fun _ _ => ⟨rfl, rfl⟩⟩, fun L k w l _ hl => hl⟩
  rw [gpl_l, if_neg (fun z => by rw [z.1, hF] at h2; cases h2)]
theorem tx_aq (P : Pic) (q : Nat) (hq : p_k P q ≠ 104) (j : Nat) (v : Option Nat) (S : Nat → Prop) (F : Nat → Bool) : TX P (s_aq P q j v) S F := by
  refine ⟨Nat.le_refl _, fun b _ => ⟨rfl, rfl, fun _ _ _ => rfl, fun _ _ => rfl, fun _ _ => rfl, fun _ _ => ⟨rfl, rfl⟩⟩, fun L k w l _ hl => ?_⟩
  obtain ⟨h1, c, h2, h3, h4, h5, h6, h7, h8, h9⟩ := hl
  exact ⟨h1, c, h2, h3, h4, h5, h6, h7, fun i hi => by rw [gpaq_aq, if_neg (fun z => hq (by rw [← z.1]; exact h3))]; exact h8 i hi, h9⟩
theorem TX.k {P P' : Pic} {S : Nat → Prop} {F : Nat → Bool} (h : TX P P' S F) (hw : Wf P) {a k : Nat} (hk : p_k P a = k + 1) : p_k P' a = k + 1 := by rw [(h.2.1 a (hw.lt hk)).1]; exact hk
theorem TX.r {P P' : Pic} {S : Nat → Prop} {F : Nat → Bool} (h : TX P P' S F) {a : Nat} (ha : a < p_z P) {f : Nat} {v : Option Nat} (hv : p_r P f a = v) (hf : f < 520 := by decide) : p_r P' f a = v := by rw [(h.2.1 a ha).2.2.2.2.1 f hf]; exact hv
theorem TX.i {P P' : Pic} {S : Nat → Prop} {F : Nat → Bool} (h : TX P P' S F) {a : Nat} (ha : a < p_z P) {f : Nat} {v : Int32} (hF : F f = false) (hv : p_i P f a = v) (hf : f < 520 := by decide) : p_i P' f a = v := by rw [(h.2.1 a ha).2.2.1 f hf hF]; exact hv
theorem TX.l {P P' : Pic} {S : Nat → Prop} {F : Nat → Bool} (h : TX P P' S F) {a : Nat} (ha : a < p_z P) {f : Nat} {v : Int64} (hF : F f = false) (hv : p_l P f a = v) : p_l P' f a = v := by rw [(h.2.1 a ha).2.2.2.1 f hF]; exact hv
/-! the parts of the component -/
def XA (P : Pic) (x : Nat) (g : Nat → Nat → Nat) (A : Nat → Nat → Nat) : Prop :=
  (p_k P x = 1 ∧ p_r P 0 x = some (g 0 0) ∧ p_r P 1 x = some (g 4 0) ∧ p_r P 2 x = some (g 5 0) ∧ p_i P 3 x = nI (A 495 0))
def XG (P : Pic) (g : Nat → Nat → Nat) : Prop :=
  p_k P (g 0 0) = 7 ∧ p_r P 240 (g 0 0) = some (g 1 0) ∧ p_r P 241 (g 0 0) = some (g 2 0) ∧ p_r P 242 (g 0 0) = some (g 3 0) ∧ p_r P 243 (g 0 0) = some (g 18 0) ∧ p_r P 244 (g 0 0) = some (g 19 0) ∧ p_r P 245 (g 0 0) = some (g 20 0) ∧ p_r P 246 (g 0 0) = some (g 6 0)
  ∧ p_k P (g 18 0) = 2 ∧ p_k P (g 19 0) = 12 ∧ p_k P (g 20 0) = 6 ∧ p_k P (g 6 0) = 105 ∧ p_n P (g 6 0) = 28
def rg (n : Nat) (f : Nat → Nat) : List Nat := (List.range n).map f
/-- the ends at a node, in the order in which they were made -/
def inc (A : Nat → Nat → Nat) (i : Nat) : List Nat := (List.range (2 * A 482 0)).filter (fun v => A 485 v == i)
def XN (P : Pic) (g : Nat → Nat → Nat) (A : Nat → Nat → Nat) : Prop := Lst P (g 1 0) 8 12 (rg (A 481 0) (g 7)) ∧ ∀ i, i < A 481 0 → p_k P (g 7 i) = 8 ∧ p_i P 282 (g 7 i) = nI (A 484 i) ∧ p_r P 320 (g 7 i) = some (g 11 i) ∧ Lst P (g 11 i) 5 2 ((inc A i).map (g 9))
def XD (P : Pic) (g : Nat → Nat → Nat) (A : Nat → Nat → Nat) : Prop := Lst P (g 2 0) 9 16 (rg (A 482 0) (g 8)) ∧ ∀ j, j < A 482 0 → p_k P (g 8 j) = 9 ∧ p_r P 320 (g 8 j) = some (g 12 j) ∧ Lst P (g 12 j) 5 2 [g 9 (2 * j), g 9 (2 * j + 1)]
def XE (P : Pic) (g : Nat → Nat → Nat) (A : Nat → Nat → Nat) : Prop := Lst P (g 3 0) 5 32 (rg (2 * A 482 0) (g 9)) ∧ ∀ v, v < 2 * A 482 0 → p_k P (g 9 v) = 5 ∧ p_r P 160 (g 9 v) = some (g 8 (v / 2)) ∧ p_r P 161 (g 9 v) = some (g 7 (A 485 v)) ∧ p_i P 162 (g 9 v) = nI v ∧ p_i P 163 (g 9 v) = nI (A 486 v) ∧ p_i P 164 (g 9 v) = nI (A 487 v) ∧ p_i P 165 (g 9 v) = nI (A 488 v)
/-- what is planned -/
def XP (P : Pic) (g : Nat → Nat → Nat) (A : Nat → Nat → Nat) (pl : Nat → Nat) : Prop := ∀ v, v < 2 * A 482 0 → pl v ≤ 1 ∧ p_i P 166 (g 9 v) = nI (pl v)
def XF (P : Pic) (g : Nat → Nat → Nat) (A : Nat → Nat → Nat) (fl : Nat) : Prop := p_i P 248 (g 0 0) = nI fl ∧ (∀ i, i < A 481 0 → ∃ r, r ≤ fl ∧ p_i P 321 (g 7 i) = nI r) ∧ (∀ j, j < A 482 0 → ∃ r, r ≤ fl ∧ p_i P 321 (g 8 j) = nI r)
def XC (P : Pic) (g : Nat → Nat → Nat) (A : Nat → Nat → Nat) (B : Nat → Nat → Int64) : Prop := Lst P (g 4 0) 4 10 (rg (A 483 0) (g 10)) ∧ ∀ c, c < A 483 0 → p_k P (g 10 c) = 4 ∧ p_r P 120 (g 10 c) = some (g 7 (A 489 c)) ∧ p_r P 121 (g 10 c) = some (g 13 c) ∧ p_r P 122 (g 10 c) = some (g 14 c) ∧ p_l P 123 (g 10 c) = B 508 c
def XR (P : Pic) (g : Nat → Nat → Nat) (A : Nat → Nat → Nat) : Prop := ∀ c, c < A 483 0 → Lst P (g 13 c) 10 24 (rg (A 496 c) (fun i => g 16 (24 * c + i))) ∧ ∀ i, i < A 496 c → p_k P (g 16 (24 * c + i)) = 10 ∧ p_i P 360 (g 16 (24 * c + i)) = nI (A 497 (24 * c + i)) ∧ p_i P 361 (g 16 (24 * c + i)) = nI (A 498 (24 * c + i)) ∧ (∃ d, p_i P 362 (g 16 (24 * c + i)) = nI d ∧ 1 ≤ d ∧ d ≤ 4 ∧ A 499 (24 * c + i) = 10 ^ d) ∧ p_i P 363 (g 16 (24 * c + i)) = nI (A 500 (24 * c + i))
def XB (P : Pic) (g : Nat → Nat → Nat) (A : Nat → Nat → Nat) (B : Nat → Nat → Int64) : Prop := ∀ c, c < A 483 0 → Lst P (g 14 c) 3 6 (rg (A 504 c) (fun i => g 15 (6 * c + i))) ∧ ∀ i, i < A 504 c → p_k P (g 15 (6 * c + i)) = 3 ∧ p_i P 80 (g 15 (6 * c + i)) = nI (A 505 (6 * c + i)) ∧ p_i P 81 (g 15 (6 * c + i)) = nI (A 506 (6 * c + i)) ∧ p_l P 82 (g 15 (6 * c + i)) = B 507 (6 * c + i)
def XT (P : Pic) (g : Nat → Nat → Nat) (A : Nat → Nat → Nat) (B : Nat → Nat → Int64) : Prop := Lst P (g 5 0) 11 8 (rg (A 501 0) (g 17)) ∧ ∀ k, k < A 501 0 → p_k P (g 17 k) = 11 ∧ p_i P 400 (g 17 k) = nI (A 502 k) ∧ p_l P 401 (g 17 k) = B 503 k
def InX (A : Nat → Nat → Nat) (t i : Nat) : Prop := (t < 7 ∧ i = 0) ∨ ((t = 7 ∨ t = 11) ∧ i < A 481 0) ∨ ((t = 8 ∨ t = 12) ∧ i < A 482 0) ∨ (t = 9 ∧ i < 2 * A 482 0) ∨ ((t = 10 ∨ t = 13 ∨ t = 14) ∧ i < A 483 0) ∨ (t = 15 ∧ ∃ c j, c < A 483 0 ∧ j < A 504 c ∧ i = 6 * c + j)
def XO (P : Pic) (g : Nat → Nat → Nat) (ow : Nat → Nat × Nat) (A : Nat → Nat → Nat) : Prop := ∀ t i, InX A t i → g t i < p_z P ∧ ow (g t i) = (t, i)
/-! they go over -/
theorem XA.tx {P P' : Pic} {S : Nat → Prop} {F : Nat → Bool} {x : Nat} {g : Nat → Nat → Nat} {A : Nat → Nat → Nat} (h : XA P x g A) (hw : Wf P) (t : TX P P' S F) (hF : F 3 = false) : XA P' x g A := by
  obtain ⟨h1, h2, h3, h4, h5⟩ := h
  have hx := hw.lt h1
  exact ⟨t.k hw h1, t.r hx h2, t.r hx h3, t.r hx h4, t.i hx hF h5⟩
theorem XG.tx {P P' : Pic} {S : Nat → Prop} {F : Nat → Bool} {g : Nat → Nat → Nat} (h : XG P g) (hw : Wf P) (t : TX P P' S F) : XG P' g := by
  obtain ⟨h1, h2, h3, h4, h5, h6, h7, h8, k1, k2, k3, k4, n⟩ := h
  have hx := hw.lt h1
  exact ⟨t.k hw h1, t.r hx h2, t.r hx h3, t.r hx h4, t.r hx h5, t.r hx h6, t.r hx h7, t.r hx h8, t.k hw k1, t.k hw k2, t.k hw k3, t.k hw k4, by rw [(t.2.1 _ (hw.lt k4)).2.1]; exact n⟩
theorem XN.tx {P P' : Pic} {S : Nat → Prop} {F : Nat → Bool} {g : Nat → Nat → Nat} {A : Nat → Nat → Nat} (h : XN P g A) (hw : Wf P) (t : TX P P' S F) (hF : F 282 = false) (h1 : ¬ S (g 1 0)) (h2 : ∀ i, i < A 481 0 → ¬ S (g 11 i)) : XN P' g A := by
  refine ⟨t.2.2 _ _ _ _ h1 h.1, fun i hi => ?_⟩
  obtain ⟨a1, a2, a3, a4⟩ := h.2 i hi
  have hx := hw.lt a1
  exact ⟨t.k hw a1, t.i hx hF a2, t.r hx a3, t.2.2 _ _ _ _ (h2 i hi) a4⟩
theorem XD.tx {P P' : Pic} {S : Nat → Prop} {F : Nat → Bool} {g : Nat → Nat → Nat} {A : Nat → Nat → Nat} (h : XD P g A) (hw : Wf P) (t : TX P P' S F) (h1 : ¬ S (g 2 0)) (h2 : ∀ i, i < A 482 0 → ¬ S (g 12 i)) : XD P' g A := by
  refine ⟨t.2.2 _ _ _ _ h1 h.1, fun i hi => ?_⟩
  obtain ⟨a1, a3, a4⟩ := h.2 i hi
  have hx := hw.lt a1
  exact ⟨t.k hw a1, t.r hx a3, t.2.2 _ _ _ _ (h2 i hi) a4⟩
theorem XE.tx {P P' : Pic} {S : Nat → Prop} {F : Nat → Bool} {g : Nat → Nat → Nat} {A : Nat → Nat → Nat} (h : XE P g A) (hw : Wf P) (t : TX P P' S F) (hF : F 162 = false ∧ F 163 = false ∧ F 164 = false ∧ F 165 = false) (h1 : ¬ S (g 3 0)) : XE P' g A := by
  refine ⟨t.2.2 _ _ _ _ h1 h.1, fun i hi => ?_⟩
  obtain ⟨a1, a2, a3, a4, a5, a6, a7⟩ := h.2 i hi
  have hx := hw.lt a1
  exact ⟨t.k hw a1, t.r hx a2, t.r hx a3, t.i hx hF.1 a4, t.i hx hF.2.1 a5, t.i hx hF.2.2.1 a6, t.i hx hF.2.2.2 a7⟩
theorem XP.tx {P P' : Pic} {S : Nat → Prop} {F : Nat → Bool} {g : Nat → Nat → Nat} {A : Nat → Nat → Nat} {pl : Nat → Nat} (h : XP P g A pl) (he : XE P g A) (hw : Wf P) (t : TX P P' S F) (hF : F 166 = false) : XP P' g A pl := fun i hi => ⟨(h i hi).1, t.i (hw.lt (he.2 i hi).1) hF (h i hi).2⟩
theorem XF.tx {P P' : Pic} {S : Nat → Prop} {F : Nat → Bool} {g : Nat → Nat → Nat} {A : Nat → Nat → Nat} {fl : Nat} (h : XF P g A fl) (hg : XG P g) (hn : XN P g A) (hd : XD P g A) (hw : Wf P) (t : TX P P' S F) (hF : F 248 = false ∧ F 321 = false) : XF P' g A fl := by
  refine ⟨t.i (hw.lt hg.1) hF.1 h.1, fun i hi => ?_, fun i hi => ?_⟩
  · obtain ⟨r, hr, hv⟩ := h.2.1 i hi
    exact ⟨r, hr, t.i (hw.lt (hn.2 i hi).1) hF.2 hv⟩
  · obtain ⟨r, hr, hv⟩ := h.2.2 i hi
    exact ⟨r, hr, t.i (hw.lt (hd.2 i hi).1) hF.2 hv⟩
theorem XC.tx {P P' : Pic} {S : Nat → Prop} {F : Nat → Bool} {g : Nat → Nat → Nat} {A : Nat → Nat → Nat} {B : Nat → Nat → Int64} (h : XC P g A B) (hw : Wf P) (t : TX P P' S F) (hF : F 123 = false) (h1 : ¬ S (g 4 0)) : XC P' g A B := by
  refine ⟨t.2.2 _ _ _ _ h1 h.1, fun i hi => ?_⟩
  obtain ⟨a1, a2, a3, a4, a5⟩ := h.2 i hi
  have hx := hw.lt a1
  exact ⟨t.k hw a1, t.r hx a2, t.r hx a3, t.r hx a4, t.l hx hF a5⟩
theorem XR.tx {P P' : Pic} {S : Nat → Prop} {F : Nat → Bool} {g : Nat → Nat → Nat} {A : Nat → Nat → Nat} (h : XR P g A) (hw : Wf P) (t : TX P P' S F) (hF : F 360 = false ∧ F 361 = false ∧ F 362 = false ∧ F 363 = false) (h1 : ∀ c, c < A 483 0 → ¬ S (g 13 c)) : XR P' g A := by
  intro c hc
  refine ⟨t.2.2 _ _ _ _ (h1 c hc) (h c hc).1, fun i hi => ?_⟩
  obtain ⟨a1, a2, a3, ⟨d, a4, d1, d2, d3⟩, a5⟩ := (h c hc).2 i hi
  have hx := hw.lt a1
  exact ⟨t.k hw a1, t.i hx hF.1 a2, t.i hx hF.2.1 a3, ⟨d, t.i hx hF.2.2.1 a4, d1, d2, d3⟩, t.i hx hF.2.2.2 a5⟩
theorem XB.tx {P P' : Pic} {S : Nat → Prop} {F : Nat → Bool} {g : Nat → Nat → Nat} {A : Nat → Nat → Nat} {B : Nat → Nat → Int64} (h : XB P g A B) (hw : Wf P) (t : TX P P' S F) (hF : F 80 = false ∧ F 81 = false ∧ F 82 = false) (h1 : ∀ c, c < A 483 0 → ¬ S (g 14 c)) : XB P' g A B := by
  intro c hc
  refine ⟨t.2.2 _ _ _ _ (h1 c hc) (h c hc).1, fun i hi => ?_⟩
  obtain ⟨a1, a2, a3, a4⟩ := (h c hc).2 i hi
  have hx := hw.lt a1
  exact ⟨t.k hw a1, t.i hx hF.1 a2, t.i hx hF.2.1 a3, t.l hx hF.2.2 a4⟩
theorem XT.tx {P P' : Pic} {S : Nat → Prop} {F : Nat → Bool} {g : Nat → Nat → Nat} {A : Nat → Nat → Nat} {B : Nat → Nat → Int64} (h : XT P g A B) (hw : Wf P) (t : TX P P' S F) (hF : F 400 = false ∧ F 401 = false) (h1 : ¬ S (g 5 0)) : XT P' g A B := by
  refine ⟨t.2.2 _ _ _ _ h1 h.1, fun i hi => ?_⟩
  obtain ⟨a1, a2, a3⟩ := h.2 i hi
  have hx := hw.lt a1
  exact ⟨t.k hw a1, t.i hx hF.1 a2, t.l hx hF.2 a3⟩
theorem XO.tx {P P' : Pic} {S : Nat → Prop} {F : Nat → Bool} {g : Nat → Nat → Nat} {ow : Nat → Nat × Nat} {A : Nat → Nat → Nat} (h : XO P g ow A) (t : TX P P' S F) : XO P' g ow A := fun k i hi => ⟨Nat.lt_of_lt_of_le (h k i hi).1 t.1, (h k i hi).2⟩
theorem MX.tx {P P' : Pic} (h : MX P P') (S : Nat → Prop) : TX P P' S (fun f => (480 ≤ f && f < 520) || f == 1000) := by
  obtain ⟨a1, a2, a3, a4, a5, a6, a7, a8⟩ := h
  refine ⟨by rw [a3]; exact Nat.le_refl _, fun a _ => ⟨by rw [a1], by rw [a2], fun f _ hF => ?_, fun f _ => by rw [a5], fun f _ => by rw [a6], fun hF => by cases hF⟩, fun L k w l _ hl => ?_⟩
  · rw [a8 f]
    simp only [Bool.or_eq_false_iff, Bool.and_eq_false_iff, decide_eq_false_iff_not] at hF
    omega
  · obtain ⟨h1, c, h2, h3, h4, h5, h6, h7, h8, hO, h9⟩ := hl
    exact ⟨by rw [a1]; exact h1, c, by rw [a6]; exact h2, by rw [a1]; exact h3, by rw [a2]; exact h4, by rw [a2]; exact h5, by rw [a2]; exact h6, by rw [a8 521 (Or.inr (by decide))]; exact h7, fun i hi => by rw [a7]; exact h8 i hi, hO, fun a ha => by rw [a1]; exact h9 a ha⟩
theorem MX.wf {P P' : Pic} (h : MX P P') (hw : Wf P) : Wf P' := by
  obtain ⟨a1, a2, a3, a4, a5, a6, a7, a8⟩ := h
  unfold Wf
  rw [a1, a3, a6]; exact hw
/-- all of the component -/
def RX (P : Pic) (x : Nat) (g : Nat → Nat → Nat) (ow : Nat → Nat × Nat) (fl : Nat) (A : Nat → Nat → Nat) (B : Nat → Nat → Int64) : Prop :=
  Wf P ∧ XA P x g A ∧ XG P g ∧ XN P g A ∧ XD P g A ∧ XE P g A ∧ (∃ pl, XP P g A pl) ∧ XF P g A fl ∧ XC P g A B ∧ XR P g A ∧ XB P g A B ∧ XT P g A B ∧ XO P g ow A
def xF : List Nat := [3, 80, 81, 82, 123, 162, 163, 164, 165, 166, 248, 282, 321, 360, 361, 362, 363, 400, 401]
theorem RX.tx {P P' : Pic} {F : Nat → Bool} {x : Nat} {g : Nat → Nat → Nat} {ow : Nat → Nat × Nat} {fl : Nat} {A : Nat → Nat → Nat} {B : Nat → Nat → Int64} (h : RX P x g ow fl A B) (t : TX P P' (fun _ => False) F) (hw' : Wf P') (hF : ∀ f, f ∈ xF → F f = false) : RX P' x g ow fl A B := by
  obtain ⟨hw, a, gg, n, d, e, ⟨pl, p⟩, f, c, r, b, tt, o⟩ := h
  exact ⟨hw', a.tx hw t (hF _ (by decide)), gg.tx hw t, n.tx hw t (hF _ (by decide)) (fun z => z) (fun _ _ z => z), d.tx hw t (fun z => z) (fun _ _ z => z), e.tx hw t ⟨hF _ (by decide), hF _ (by decide), hF _ (by decide), hF _ (by decide)⟩ (fun z => z), ⟨pl, p.tx e hw t (hF _ (by decide))⟩, f.tx gg n d hw t ⟨hF _ (by decide), hF _ (by decide)⟩, c.tx hw t (hF _ (by decide)) (fun z => z), r.tx hw t ⟨hF _ (by decide), hF _ (by decide), hF _ (by decide), hF _ (by decide)⟩ (fun _ _ z => z), b.tx hw t ⟨hF _ (by decide), hF _ (by decide), hF _ (by decide)⟩ (fun _ _ z => z), tt.tx hw t ⟨hF _ (by decide), hF _ (by decide)⟩ (fun z => z), o.tx t⟩
theorem RX.mx {P P' : Pic} {x : Nat} {g : Nat → Nat → Nat} {ow : Nat → Nat × Nat} {fl : Nat} {A : Nat → Nat → Nat} {B : Nat → Nat → Int64} (h : RX P x g ow fl A B) (t : MX P P') : RX P' x g ow fl A B := h.tx (t.tx _) (t.wf h.1) (by decide)
/-- only these numbers are told by the component -/
theorem RX.congr {P : Pic} {x : Nat} {g : Nat → Nat → Nat} {ow : Nat → Nat × Nat} {fl : Nat} {A A' : Nat → Nat → Nat} {B B' : Nat → Nat → Int64} (h : RX P x g ow fl A B) (hA : ∀ f, f ∈ [481, 482, 483, 484, 485, 486, 487, 488, 489, 495, 496, 497, 498, 499, 500, 501, 502, 504, 505, 506] → A' f = A f) (hB : ∀ f, f ∈ [503, 507, 508] → B' f = B f) : RX P x g ow fl A' B' := by
  have e1 := hA 481 (by decide)
  have e2 := hA 482 (by decide)
  have e3 := hA 483 (by decide)
  have e4 := hA 484 (by decide)
  have e5 := hA 485 (by decide)
  have e6 := hA 486 (by decide)
  have e7 := hA 487 (by decide)
  have e8 := hA 488 (by decide)
  have e9 := hA 489 (by decide)
  have e10 := hA 495 (by decide)
  have e11 := hA 496 (by decide)
  have e12 := hA 497 (by decide)
  have e13 := hA 498 (by decide)
  have e14 := hA 499 (by decide)
  have e15 := hA 500 (by decide)
  have e16 := hA 501 (by decide)
  have e17 := hA 502 (by decide)
  have e18 := hA 504 (by decide)
  have e19 := hA 505 (by decide)
  have e20 := hA 506 (by decide)
  have f1 := hB 503 (by decide)
  have f2 := hB 507 (by decide)
  have f3 := hB 508 (by decide)
  simp only [RX, XA, XN, XD, XE, XP, XF, XC, XR, XB, XT, XO, InX, inc, e1, e2, e3, e4, e5, e6, e7, e8, e9, e10, e11, e12, e13, e14, e15, e16, e17, e18, e19, e20, f1, f2, f3] at h ⊢
  exact h
