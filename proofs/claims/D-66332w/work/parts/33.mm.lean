/-! the reference's object and its arrays, told by numbers: A f j the ints and booleans, B f j the longs; 509 is the law's long[1] -/
def mArr : List (Nat × Nat × Nat) := [(484, 103, 12), (485, 101, 32), (486, 103, 32), (487, 103, 32), (488, 103, 32), (489, 101, 10), (490, 103, 28), (491, 103, 32), (492, 103, 28), (493, 103, 32), (494, 103, 10), (496, 101, 10), (497, 101, 240), (498, 101, 240), (499, 101, 240), (500, 103, 240), (502, 101, 8), (503, 102, 8), (504, 101, 10), (505, 101, 60), (506, 101, 60), (507, 102, 60), (508, 102, 10)]
def mAll : List (Nat × Nat × Nat) := (509, 102, 1) :: mArr
def mSc : List Nat := [480, 481, 482, 483, 495, 501]
/-- the component's side is the same -/
def MX (P P' : Pic) : Prop := p_k P' = p_k P ∧ p_n P' = p_n P ∧ p_z P' = p_z P ∧ p_m P' = p_m P ∧ p_l P' = p_l P ∧ p_r P' = p_r P ∧ p_aq P' = p_aq P ∧ ∀ f, (f < 480 ∨ 520 ≤ f) → p_i P' f = p_i P f
theorem MX.rfl' (P : Pic) : MX P P := ⟨rfl, rfl, rfl, rfl, rfl, rfl, rfl, fun _ _ => rfl⟩
theorem MX.trans {P P' P'' : Pic} (h : MX P P') (h' : MX P' P'') : MX P P'' := by
  obtain ⟨a1, a2, a3, a4, a5, a6, a7, a8⟩ := h
  obtain ⟨b1, b2, b3, b4, b5, b6, b7, b8⟩ := h'
  exact ⟨b1.trans a1, b2.trans a2, b3.trans a3, b4.trans a4, b5.trans a5, b6.trans a6, b7.trans a7, fun f hf => (b8 f hf).trans (a8 f hf)⟩
def MM (P0 P : Pic) (m : Nat) (ar : Nat → Nat) (A : Nat → Nat → Nat) (B : Nat → Nat → Int64) : Prop :=
  MX P0 P ∧ p_k P m = 13 ∧ (∀ e, e ∈ mArr → p_r P e.1 m = some (ar e.1)) ∧ (∀ e, e ∈ mAll → p_k P (ar e.1) = e.2.1 ∧ p_n P (ar e.1) = e.2.2) ∧ (∀ f g, ar f = ar g → f = g)
  ∧ (∀ f, f ∈ mSc → p_i P f m = nI (A f 0)) ∧ (∀ e, e ∈ mAll → e.2.1 ≠ 102 → ∀ j, j < e.2.2 → p_ai P (ar e.1) j = nI (A e.1 j)) ∧ (∀ e, e ∈ mAll → e.2.1 = 102 → ∀ j, j < e.2.2 → p_al P (ar e.1) j = B e.1 j)
  ∧ ∀ e, e ∈ mAll → e.2.1 = 103 → ∀ j, j < e.2.2 → A e.1 j ≤ 1
theorem up2_ne {α : Type} (F : Nat → Nat → α) {x a y b : Nat} (v : α) (h : y ≠ x ∨ b ≠ a) : up2 F x a v y b = F y b := if_neg (fun z => h.elim (fun c => c z.1) (fun c => c z.2))
theorem up2_eq {α : Type} (F : Nat → Nat → α) (x a : Nat) (v : α) : up2 F x a v x a = v := if_pos ⟨rfl, rfl⟩
theorem mAll_un : ∀ e, e ∈ mAll → ∀ e', e' ∈ mAll → e.1 = e'.1 → e = e' := by decide
theorem mSc_un : ∀ f, f ∈ mSc → (480 ≤ f ∧ f < 520) ∧ ∀ e, e ∈ mAll → e.1 ≠ f := by decide
theorem mArr_all {e : Nat × Nat × Nat} (h : e ∈ mArr) : e ∈ mAll := List.mem_cons_of_mem _ h
theorem MM.k {P0 P : Pic} {m : Nat} {ar : Nat → Nat} {A : Nat → Nat → Nat} {B : Nat → Nat → Int64} (h : MM P0 P m ar A B) : p_k P m = 13 := h.2.1
theorem MM.x {P0 P : Pic} {m : Nat} {ar : Nat → Nat} {A : Nat → Nat → Nat} {B : Nat → Nat → Int64} (h : MM P0 P m ar A B) : MX P0 P := h.1
theorem MM.r {P0 P : Pic} {m : Nat} {ar : Nat → Nat} {A : Nat → Nat → Nat} {B : Nat → Nat → Int64} (h : MM P0 P m ar A B) (f t n : Nat) (hf : (f, t, n) ∈ mArr := by decide) : p_r P f m = some (ar f) := h.2.2.1 _ hf
theorem MM.ak {P0 P : Pic} {m : Nat} {ar : Nat → Nat} {A : Nat → Nat → Nat} {B : Nat → Nat → Int64} (h : MM P0 P m ar A B) (f t n : Nat) (hf : (f, t, n) ∈ mAll := by decide) : p_k P (ar f) = t := (h.2.2.2.1 _ hf).1
theorem MM.an {P0 P : Pic} {m : Nat} {ar : Nat → Nat} {A : Nat → Nat → Nat} {B : Nat → Nat → Int64} (h : MM P0 P m ar A B) (f t n : Nat) (hf : (f, t, n) ∈ mAll := by decide) : p_n P (ar f) = n := (h.2.2.2.1 _ hf).2
theorem MM.i {P0 P : Pic} {m : Nat} {ar : Nat → Nat} {A : Nat → Nat → Nat} {B : Nat → Nat → Int64} (h : MM P0 P m ar A B) (f : Nat) (hf : f ∈ mSc := by decide) : p_i P f m = nI (A f 0) := h.2.2.2.2.2.1 f hf
theorem MM.ai {P0 P : Pic} {m : Nat} {ar : Nat → Nat} {A : Nat → Nat → Nat} {B : Nat → Nat → Int64} (h : MM P0 P m ar A B) (f t n : Nat) {j : Nat} (hj : j < n) (hf : (f, t, n) ∈ mAll := by decide) (ht : t ≠ 102 := by decide) : p_ai P (ar f) j = nI (A f j) := h.2.2.2.2.2.2.1 _ hf ht j hj
theorem MM.al {P0 P : Pic} {m : Nat} {ar : Nat → Nat} {A : Nat → Nat → Nat} {B : Nat → Nat → Int64} (h : MM P0 P m ar A B) (f n : Nat) {j : Nat} (hj : j < n) (hf : (f, 102, n) ∈ mAll := by decide) : p_al P (ar f) j = B f j := h.2.2.2.2.2.2.2.1 _ hf rfl j hj
theorem MM.b {P0 P : Pic} {m : Nat} {ar : Nat → Nat} {A : Nat → Nat → Nat} {B : Nat → Nat → Int64} (h : MM P0 P m ar A B) (f n : Nat) {j : Nat} (hj : j < n) (hf : (f, 103, n) ∈ mAll := by decide) : A f j ≤ 1 := h.2.2.2.2.2.2.2.2 _ hf rfl j hj
theorem MM.si {P0 P : Pic} {m : Nat} {ar : Nat → Nat} {A : Nat → Nat → Nat} {B : Nat → Nat → Int64} (h : MM P0 P m ar A B) (f v : Nat) (hf : f ∈ mSc := by decide) : MM P0 (s_i P f m (nI v)) m ar (up2 A f 0 v) B := by
  obtain ⟨h1, h2, h3, h4, h5, h6, h7, h8, h9⟩ := h
  have hu := mSc_un f hf
  refine ⟨h1.trans ⟨rfl, rfl, rfl, rfl, rfl, rfl, rfl, fun g hg => ?_⟩, h2, h3, h4, h5, fun g hg => ?_, fun e he ht j hj => ?_, h8, fun e he ht j hj => ?_⟩
  · funext b; rw [gpi_i, if_neg (by omega)]
  · rw [gpi_i]
    by_cases e : g = f
    · rw [if_pos ⟨e, rfl⟩, e, up2_eq]
    · rw [if_neg (fun z => e z.1), up2_ne _ _ (Or.inl e)]; exact h6 g hg
  · rw [up2_ne _ _ (Or.inl (hu.2 e he))]; exact h7 e he ht j hj
  · rw [up2_ne _ _ (Or.inl (hu.2 e he))]; exact h9 e he ht j hj
theorem MM.sai {P0 P : Pic} {m : Nat} {ar : Nat → Nat} {A : Nat → Nat → Nat} {B : Nat → Nat → Int64} (h : MM P0 P m ar A B) (f t n j v : Nat) (hv : t = 103 → v ≤ 1) (hf : (f, t, n) ∈ mAll := by decide) : MM P0 (s_ai P (ar f) j (nI v)) m ar (up2 A f j v) B := by
  obtain ⟨h1, h2, h3, h4, h5, h6, h7, h8, h9⟩ := h
  refine ⟨h1.trans ⟨rfl, rfl, rfl, rfl, rfl, rfl, rfl, fun g hg => rfl⟩, h2, h3, h4, h5, fun g hg => ?_, fun e he ht i hi => ?_, h8, fun e he ht i hi => ?_⟩
  · rw [up2_ne _ _ (Or.inl (fun z => (mSc_un g hg).2 _ hf z.symm))]; exact h6 g hg
  · rw [gpai_ai]
    by_cases c : e.1 = f ∧ i = j
    · obtain ⟨c1, c2⟩ := c
      rw [if_pos ⟨by rw [c1], c2⟩, c1, c2, up2_eq]
    · rw [if_neg (fun z => c ⟨h5 _ _ z.1, z.2⟩), up2_ne _ _ (by omega)]; exact h7 e he ht i hi
  · by_cases c : e.1 = f ∧ i = j
    · obtain ⟨c1, c2⟩ := c
      have := mAll_un e he _ hf c1
      rw [c1, c2, up2_eq]; exact hv (by rw [this] at ht; exact ht)
    · rw [up2_ne _ _ (by omega)]; exact h9 e he ht i hi
theorem MM.sal {P0 P : Pic} {m : Nat} {ar : Nat → Nat} {A : Nat → Nat → Nat} {B : Nat → Nat → Int64} (h : MM P0 P m ar A B) (f n j : Nat) (v : Int64) (hf : (f, 102, n) ∈ mAll := by decide) : MM P0 (s_al P (ar f) j v) m ar A (up2 B f j v) := by
  obtain ⟨h1, h2, h3, h4, h5, h6, h7, h8, h9⟩ := h
  refine ⟨h1.trans ⟨rfl, rfl, rfl, rfl, rfl, rfl, rfl, fun g hg => rfl⟩, h2, h3, h4, h5, h6, h7, fun e he ht i hi => ?_, h9⟩
  rw [gpal_al]
  by_cases c : e.1 = f ∧ i = j
  · obtain ⟨c1, c2⟩ := c
    rw [if_pos ⟨by rw [c1], c2⟩, c1, c2, up2_eq]
  · rw [if_neg (fun z => c ⟨h5 _ _ z.1, z.2⟩), up2_ne _ _ (by omega)]; exact h8 e he ht i hi
/-- the reference's side is the same -/
def XM (P P' : Pic) : Prop := p_z P ≤ p_z P' ∧ ∀ a, a < p_z P → p_k P' a = p_k P a ∧ p_n P' a = p_n P a ∧ (∀ f, 480 ≤ f → f < 520 → p_i P' f a = p_i P f a ∧ p_r P' f a = p_r P f a) ∧ (∀ j, p_ai P' a j = p_ai P a j) ∧ ∀ j, p_al P' a j = p_al P a j
theorem XM.rfl' (P : Pic) : XM P P := ⟨Nat.le_refl _, fun _ _ => ⟨rfl, rfl, fun _ _ _ => ⟨rfl, rfl⟩, fun _ => rfl, fun _ => rfl⟩⟩
theorem XM.trans {P P' P'' : Pic} (h : XM P P') (h' : XM P' P'') : XM P P'' := by
  refine ⟨Nat.le_trans h.1 h'.1, fun a ha => ?_⟩
  obtain ⟨a1, a2, a3, a4, a5⟩ := h.2 a ha
  obtain ⟨b1, b2, b3, b4, b5⟩ := h'.2 a (Nat.lt_of_lt_of_le ha h.1)
  exact ⟨b1.trans a1, b2.trans a2, fun f h1 h2 => ⟨(b3 f h1 h2).1.trans (a3 f h1 h2).1, (b3 f h1 h2).2.trans (a3 f h1 h2).2⟩, fun j => (b4 j).trans (a4 j), fun j => (b5 j).trans (a5 j)⟩
theorem Tr.xm {P P' : Pic} {S : Nat → Prop} (h : Tr P P' S) : XM P P' := ⟨h.1, fun a ha => by
  obtain ⟨a1, a2, a3, a4, a5, a6, a7, a8⟩ := h.2.2.1 a ha
  exact ⟨a1, a2, fun f _ hf => ⟨a3 f hf, a5 f hf⟩, a6, a7⟩⟩
theorem xm_i (P : Pic) {f : Nat} (hf : f < 480) (a : Nat) (v : Int32) : XM P (s_i P f a v) := ⟨Nat.le_refl _, fun b _ => ⟨rfl, rfl, fun g h1 _ => ⟨by rw [gpi_i, if_neg (by omega)], rfl⟩, fun _ => rfl, fun _ => rfl⟩⟩
theorem xm_l (P : Pic) (f : Nat) (a : Nat) (v : Int64) : XM P (s_l P f a v) := ⟨Nat.le_refl _, fun b _ => ⟨rfl, rfl, fun g h1 _ => ⟨rfl, rfl⟩, fun _ => rfl, fun _ => rfl⟩⟩
theorem xm_aq (P : Pic) (f : Nat) (a : Nat) (v : Option Nat) : XM P (s_aq P f a v) := ⟨Nat.le_refl _, fun b _ => ⟨rfl, rfl, fun g h1 _ => ⟨rfl, rfl⟩, fun _ => rfl, fun _ => rfl⟩⟩
theorem mAll_k : ∀ e, e ∈ mAll → e.2.1 ≠ 0 := by decide
theorem mArr_f : ∀ e, e ∈ mArr → 480 ≤ e.1 ∧ e.1 < 520 := by decide
theorem MM.xm {P0 P P' : Pic} {m : Nat} {ar : Nat → Nat} {A : Nat → Nat → Nat} {B : Nat → Nat → Int64} (h : MM P0 P m ar A B) (hw : Wf P) (hx : XM P P') : MM P' P' m ar A B := by
  obtain ⟨h1, h2, h3, h4, h5, h6, h7, h8, h9⟩ := h
  have hm : m < p_z P := hw.lt h2
  have ha : ∀ e, e ∈ mAll → ar e.1 < p_z P := fun e he => hw.1 _ (by rw [(h4 e he).1]; exact mAll_k e he)
  refine ⟨MX.rfl' P', by rw [(hx.2 m hm).1]; exact h2, fun e he => ?_, fun e he => ?_, h5, fun f hf => ?_, fun e he ht j hj => ?_, fun e he ht j hj => ?_, h9⟩
  · rw [((hx.2 m hm).2.2.1 e.1 (mArr_f e he).1 (mArr_f e he).2).2]; exact h3 e he
  · rw [(hx.2 _ (ha e he)).1, (hx.2 _ (ha e he)).2.1]; exact h4 e he
  · rw [((hx.2 m hm).2.2.1 f (mSc_un f hf).1.1 (mSc_un f hf).1.2).1]; exact h6 f hf
  · rw [(hx.2 _ (ha e he)).2.2.2.1]; exact h7 e he ht j hj
  · rw [(hx.2 _ (ha e he)).2.2.2.2]; exact h8 e he ht j hj
