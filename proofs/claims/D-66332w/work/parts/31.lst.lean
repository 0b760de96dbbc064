/-! lists: what an ArrayList holds, over pictures -/
def Lst (P : Pic) (L k w : Nat) (l : List Nat) : Prop :=
  p_k P L = 14 ∧ ∃ b, p_r P 520 L = some b ∧ p_k P b = 104 ∧ l.length ≤ p_n P b ∧ max 1 w ≤ p_n P b ∧ p_n P b ≤ 32 ∧ p_i P 521 L = nI l.length ∧ (∀ i, i < l.length → p_aq P b i = l[i]?) ∧ Ob k ∧ ∀ a, a ∈ l → p_k P a = k
theorem Ob.ne0 {k : Nat} (h : Ob k) : k ≠ 0 := by unfold Ob at h; omega
def Wf (P : Pic) : Prop := (∀ a, p_k P a ≠ 0 → a < p_z P) ∧ (∀ L b, p_k P L = 14 → p_r P 520 L = some b → b < p_z P) ∧ ∀ L L' b, p_k P L = 14 → p_k P L' = 14 → p_r P 520 L = some b → p_r P 520 L' = some b → L = L'
/-- what is the same at an old address -/
def Sm (P P' : Pic) (a : Nat) : Prop := p_k P' a = p_k P a ∧ p_n P' a = p_n P a ∧ (∀ f, f < 520 → p_i P' f a = p_i P f a) ∧ (∀ f, p_l P' f a = p_l P f a) ∧ (∀ f, f < 520 → p_r P' f a = p_r P f a) ∧ (∀ j, p_ai P' a j = p_ai P a j) ∧ (∀ j, p_al P' a j = p_al P a j) ∧ (p_k P a ≠ 104 → ∀ j, p_aq P' a j = p_aq P a j)
/-- from P to P' nothing old has changed but the lists of S -/
def Tr (P P' : Pic) (S : Nat → Prop) : Prop := p_z P ≤ p_z P' ∧ p_m P' = p_m P ∧ (∀ a, a < p_z P → Sm P P' a) ∧ ∀ L k w l, ¬ S L → Lst P L k w l → Lst P' L k w l
theorem Sm.rfl' (P : Pic) (a : Nat) : Sm P P a := ⟨rfl, rfl, fun _ _ => rfl, fun _ => rfl, fun _ _ => rfl, fun _ => rfl, fun _ => rfl, fun _ _ => rfl⟩
theorem Sm.trans {P P' P'' : Pic} {a : Nat} (h : Sm P P' a) (h' : Sm P' P'' a) : Sm P P'' a := by
  obtain ⟨a1, a2, a3, a4, a5, a6, a7, a8⟩ := h
  obtain ⟨b1, b2, b3, b4, b5, b6, b7, b8⟩ := h'
  exact ⟨b1.trans a1, b2.trans a2, fun f hf => (b3 f hf).trans (a3 f hf), fun f => (b4 f).trans (a4 f), fun f hf => (b5 f hf).trans (a5 f hf), fun f => (b6 f).trans (a6 f), fun f => (b7 f).trans (a7 f), fun hk f => (b8 (by rw [a1]; exact hk) f).trans (a8 hk f)⟩
theorem Tr.trans {P P' P'' : Pic} {S S' T : Nat → Prop} (h : Tr P P' S) (h' : Tr P' P'' S') (hS : ∀ L, S L → T L) (hS' : ∀ L, S' L → T L) : Tr P P'' T :=
  ⟨Nat.le_trans h.1 h'.1, h'.2.1.trans h.2.1, fun a ha => (h.2.2.1 a ha).trans (h'.2.2.1 a (Nat.lt_of_lt_of_le ha h.1)), fun L k w l hn hl => h'.2.2.2 L k w l (fun z => hn (hS' L z)) (h.2.2.2 L k w l (fun z => hn (hS L z)) hl)⟩
theorem Tr.rfl' (P : Pic) (S : Nat → Prop) : Tr P P S := ⟨Nat.le_refl _, rfl, fun a _ => Sm.rfl' P a, fun _ _ _ _ _ h => h⟩
theorem Wf.lt {P : Pic} (h : Wf P) {a k : Nat} (hk : p_k P a = k + 1) : a < p_z P := h.1 a (by rw [hk]; exact Nat.succ_ne_zero k)
/-- nothing of the lists is touched -/
theorem Tr.of_same {P P' : Pic} (hz : p_z P ≤ p_z P') (hm : p_m P' = p_m P) (hs : ∀ a, a < p_z P → Sm P P' a) (hw : Wf P)
    (hi : ∀ L, p_k P L = 14 → p_i P' 521 L = p_i P 521 L) (hr : ∀ L, p_k P L = 14 → p_r P' 520 L = p_r P 520 L) (ha : ∀ b, p_k P b = 104 → ∀ j, p_aq P' b j = p_aq P b j) (S : Nat → Prop) : Tr P P' S := by
  refine ⟨hz, hm, hs, ?_⟩
  intro L k w l _ hl
  obtain ⟨h1, b, h2, h3, h4, h5, h6, h7, h8, hO, h9⟩ := hl
  have hL : L < p_z P := hw.lt h1
  have hb : b < p_z P := hw.lt h3
  refine ⟨by rw [(hs L hL).1]; exact h1, b, by rw [hr L h1]; exact h2, by rw [(hs b hb).1]; exact h3, by rw [(hs b hb).2.1]; exact h4, by rw [(hs b hb).2.1]; exact h5, by rw [(hs b hb).2.1]; exact h6, by rw [hi L h1]; exact h7, fun i hi' => by rw [ha b h3]; exact h8 i hi', hO, ?_⟩
  intro a hal
  have hk := h9 a hal
  rw [(hs a (hw.1 a (by rw [hk]; exact hO.ne0))).1]; exact hk
theorem wf_i {P : Pic} (h : Wf P) (f a : Nat) (v : Int32) : Wf (s_i P f a v) := h
theorem wf_l {P : Pic} (h : Wf P) (f a : Nat) (v : Int64) : Wf (s_l P f a v) := h
theorem wf_ai {P : Pic} (h : Wf P) (f a : Nat) (v : Int32) : Wf (s_ai P f a v) := h
theorem wf_al {P : Pic} (h : Wf P) (f a : Nat) (v : Int64) : Wf (s_al P f a v) := h
theorem wf_aq {P : Pic} (h : Wf P) (f a : Nat) (v : Option Nat) : Wf (s_aq P f a v) := h
theorem wf_cpy {P : Pic} (h : Wf P) (a0 a sp dp n : Nat) : Wf (s_cpy P a0 a sp dp n) := h
theorem wf_r {P : Pic} (h : Wf P) {f : Nat} (hf : f ≠ 520) (a : Nat) (v : Option Nat) : Wf (s_r P f a v) := by
  have hr : ∀ L, p_r (s_r P f a v) 520 L = p_r P 520 L := fun L => if_neg (fun z => hf z.1.symm)
  refine ⟨h.1, fun L b hk hb => h.2.1 L b hk (by rw [← hr]; exact hb), fun L L' b hk hk' hb hb' => h.2.2 L L' b hk hk' (by rw [← hr]; exact hb) (by rw [← hr]; exact hb')⟩
theorem wf_new {P : Pic} (h : Wf P) {q : Nat} (hq : p_z P ≤ q) (k : Nat) : Wf (s_new P q k) := by
  refine ⟨fun a ha => ?_, fun L b hk hb => ?_, fun L L' b hk hk' hb hb' => ?_⟩
  · rw [gpk_new] at ha; rw [gpz_new]
    by_cases e : a = q
    · omega
    · rw [if_neg e] at ha; have := h.1 a ha; omega
  · rw [gpr_new] at hb; rw [gpk_new] at hk; rw [gpz_new]
    by_cases e : L = q
    · rw [if_pos e] at hb; cases hb
    · rw [if_neg e] at hb hk; have := h.2.1 L b hk hb; omega
  · rw [gpr_new] at hb hb'; rw [gpk_new] at hk hk'
    by_cases e : L = q
    · rw [if_pos e] at hb; cases hb
    · by_cases e' : L' = q
      · rw [if_pos e'] at hb'; cases hb'
      · rw [if_neg e] at hb hk; rw [if_neg e'] at hb' hk'; exact h.2.2 L L' b hk hk' hb hb'
theorem wf_arr {P : Pic} (h : Wf P) {q : Nat} (hq : p_z P ≤ q) {t : Nat} (n : Nat) : Wf (s_arr P q t n) := by
  have hkk : ∀ L, p_k (s_arr P q t n) L = 14 → p_k P L = 14 := by
    intro L hk
    rw [gpk_arr] at hk
    by_cases e : L = q
    · rw [if_pos e] at hk; omega
    · rw [if_neg e] at hk; exact hk
  refine ⟨fun a ha => ?_, fun L b hk hb => ?_, fun L L' b hk hk' hb hb' => h.2.2 L L' b (hkk L hk) (hkk L' hk') hb hb'⟩
  · rw [gpk_arr] at ha; rw [gpz_arr]
    by_cases e : a = q
    · omega
    · rw [if_neg e] at ha; have := h.1 a ha; omega
  · have := h.2.1 L b (hkk L hk) hb; rw [gpz_arr]; omega
/-- a list's array is set to one that no list has -/
theorem wf_data {P : Pic} (h : Wf P) {L q : Nat} (hq : q < p_z P) (hn : ∀ M, p_k P M = 14 → p_r P 520 M ≠ some q) : Wf (s_r P 520 L (some q)) := by
  refine ⟨h.1, fun M b hk hb => ?_, fun M M' b hk hk' hb hb' => ?_⟩
  · rw [gpr_r] at hb
    by_cases e : M = L
    · rw [if_pos ⟨rfl, e⟩] at hb; cases hb; exact hq
    · rw [if_neg (fun z => e z.2)] at hb; exact h.2.1 M b hk hb
  · rw [gpr_r] at hb hb'
    by_cases e : M = L
    · rw [if_pos ⟨rfl, e⟩] at hb; cases hb
      by_cases e' : M' = L
      · rw [e, e']
      · rw [if_neg (fun z => e' z.2)] at hb'; exact absurd hb' (hn M' hk')
    · rw [if_neg (fun z => e z.2)] at hb
      by_cases e' : M' = L
      · rw [if_pos ⟨rfl, e'⟩] at hb'; cases hb'; exact absurd hb (hn M hk)
      · rw [if_neg (fun z => e' z.2)] at hb'; exact h.2.2 M M' b hk hk' hb hb'
theorem tr_i {P : Pic} (hw : Wf P) {f : Nat} (hf : f = 522) (a : Nat) (v : Int32) (S : Nat → Prop) : Tr P (s_i P f a v) S := by
  subst hf
  refine Tr.of_same (P := P) (P' := s_i P 522 a v) (Nat.le_refl _) rfl (fun b hb => ⟨rfl, rfl, fun f hf => ?_, fun _ => rfl, fun _ _ => rfl, fun _ => rfl, fun _ => rfl, fun _ _ => rfl⟩) hw (fun L _ => ?_) (fun _ _ => rfl) (fun _ _ _ => rfl) S
  · rw [gpi_i, if_neg (by omega)]
  · rw [gpi_i, if_neg (by omega)]
/-- a new object -/
theorem tr_new {P : Pic} (hw : Wf P) {q : Nat} (hq : p_z P ≤ q) (k : Nat) (S : Nat → Prop) : Tr P (s_new P q k) S := by
  refine Tr.of_same (P := P) (P' := s_new P q k) (by rw [gpz_new]; omega) rfl (fun b hb => ⟨?_, rfl, fun f hf => ?_, fun _ => ?_, fun _ _ => ?_, fun _ => rfl, fun _ => rfl, fun _ _ => rfl⟩) hw (fun L hL => ?_) (fun L hL => ?_) (fun _ _ _ => rfl) S
  · rw [gpk_new, if_neg (by omega)]
  · rw [gpi_new, if_neg (by omega)]
  · rw [gpl_new, if_neg (by omega)]
  · rw [gpr_new, if_neg (by omega)]
  · have := hw.lt hL; rw [gpi_new, if_neg (by omega)]
  · have := hw.lt hL; rw [gpr_new, if_neg (by omega)]
theorem tr_arr {P : Pic} (hw : Wf P) {q : Nat} (hq : p_z P ≤ q) (t n : Nat) (S : Nat → Prop) : Tr P (s_arr P q t n) S := by
  refine Tr.of_same (P := P) (P' := s_arr P q t n) (by rw [gpz_arr]; omega) rfl (fun b hb => ⟨?_, ?_, fun f hf => rfl, fun _ => rfl, fun _ _ => rfl, fun _ => ?_, fun _ => ?_, fun _ _ => ?_⟩) hw (fun L hL => rfl) (fun L hL => rfl) (fun b hb j => ?_) S
  · rw [gpk_arr, if_neg (by omega)]
  · rw [gpn_arr, if_neg (by omega)]
  · rw [gpai_arr, if_neg (by omega)]
  · rw [gpal_arr, if_neg (by omega)]
  · rw [gpaq_arr, if_neg (by omega)]
  · have := hw.lt hb; rw [gpaq_arr, if_neg (by omega)]
/-! what the list's methods do -/
theorem ls_size {P : Pic} {L k w : Nat} {l : List Nat} {po : Option Value → Pic → Prop} {th : String → Pic → Prop} (h : Lst P L k w l) (hp : po (some (.int (nI l.length))) P) : wp_Ar_size po th P L := by
  obtain ⟨h1, b, h2, h3, h4, h5, h6, h7, h8, h9⟩ := h
  exact ⟨h1, by rw [h7]; exact hp⟩
theorem ls_len {P : Pic} {L k w : Nat} {l : List Nat} (h : Lst P L k w l) : l.length ≤ 32 := by
  obtain ⟨h1, b, h2, h3, h4, h5, h6, h7, h8, h9⟩ := h; omega
theorem ls_isEmpty {P : Pic} {L k w : Nat} {l : List Nat} {po : Option Value → Pic → Prop} {th : String → Pic → Prop} (h : Lst P L k w l) (hp : po (some (.int (if l = [] then 1 else 0))) P) : wp_Ar_isEmpty po th P L := by
  have hn := ls_len h
  obtain ⟨h1, b, h2, h3, h4, h5, h6, h7, h8, h9⟩ := h
  refine ⟨h1, fun e => ?_, fun e => ?_⟩
  · rw [h7] at e
    rw [if_neg (fun z => e (by rw [z]; rfl))] at hp; exact hp
  · rw [h7] at e
    have e0 : l.length = 0 := (nI_eq (by omega) (by omega)).mp (e.trans nI_0.symm)
    rw [if_pos (List.eq_nil_of_length_eq_zero e0)] at hp; exact hp
theorem ls_at {P : Pic} {L k w i : Nat} {l : List Nat} {po : Option Value → Pic → Prop} {th : String → Pic → Prop} (h : Lst P L k w l) (hi : i < l.length) (hp : po (some (.ref l[i])) P) : wp_Ar_elementData po th P L (nI i) := by
  have hn := ls_len h
  obtain ⟨h1, b, h2, h3, h4, h5, h6, h7, h8, h9⟩ := h
  refine ⟨h1, b, h2, Or.inl h3, vp_in_nI (by omega) (by omega), l[i], ?_, hp⟩
  rw [nI_clamp (by omega), h8 i hi]; exact List.getElem?_eq_getElem hi
theorem ls_chk {P : Pic} {i n : Nat} {po : Option Value → Pic → Prop} {th : String → Pic → Prop} (hi : i < n) (hn : n < 2 ^ 31) (hp : po (some (.int (nI i))) P) : wp_Oj_checkIndex po th P (nI i) (nI n) := by
  refine ⟨fun e => absurd e (nI_pos (by omega)), fun _ => ⟨fun _ => ⟨_, rfl, hp⟩, fun e => absurd (nI_lt hi hn) e⟩⟩
theorem ls_get {P : Pic} {L k w i : Nat} {l : List Nat} {po : Option Value → Pic → Prop} {th : String → Pic → Prop} (h : Lst P L k w l) (hi : i < l.length) (hp : p_k P l[i] = k → po (some (.ref l[i])) P) : wp_Ar_get po th P L (nI i) := by
  have hn := ls_len h
  have h' := h
  obtain ⟨h1, b, h2, h3, h4, h5, h6, h7, h8, hO, h9⟩ := h
  refine ⟨h1, ?_⟩
  rw [h7]
  exact ls_chk hi (by omega) ⟨_, rfl, ls_at h' hi ⟨_, rfl, hp (h9 _ (List.getElem_mem hi))⟩⟩
/-- one cell of a list's array, below its length or at it -/
theorem tr_cell {P : Pic} (hw : Wf P) {L b : Nat} (hk : p_k P L = 14) (hr : p_r P 520 L = some b) (hb : p_k P b = 104) (j : Nat) (v : Option Nat) : Tr P (s_aq P b j v) (fun M => M = L) := by
  refine ⟨Nat.le_refl _, rfl, fun a ha => ⟨rfl, rfl, fun _ _ => rfl, fun _ => rfl, fun _ _ => rfl, fun _ => rfl, fun _ => rfl, fun hne i => ?_⟩, ?_⟩
  · rw [gpaq_aq, if_neg (fun z => hne (by rw [z.1]; exact hb))]
  · intro M k w l hM hl
    obtain ⟨h1, c, h2, h3, h4, h5, h6, h7, h8, h9⟩ := hl
    refine ⟨h1, c, h2, h3, h4, h5, h6, h7, fun i hi => ?_, h9⟩
    rw [gpaq_aq, if_neg (fun z => hM (hw.2.2 M L b h1 hk (by rw [← z.1]; exact h2) hr))]
    exact h8 i hi
theorem tr_len {P : Pic} (hw : Wf P) (L : Nat) (v : Int32) : Tr P (s_i P 521 L v) (fun M => M = L) := by
  refine ⟨Nat.le_refl _, rfl, fun a ha => ⟨rfl, rfl, fun f hf => ?_, fun _ => rfl, fun _ _ => rfl, fun _ => rfl, fun _ => rfl, fun _ _ => rfl⟩, ?_⟩
  · rw [gpi_i, if_neg (by omega)]
  · intro M k w l hM hl
    obtain ⟨h1, c, h2, h3, h4, h5, h6, h7, h8, h9⟩ := hl
    refine ⟨h1, c, h2, h3, h4, h5, h6, ?_, h8, h9⟩
    rw [gpi_i, if_neg (fun z => hM z.2)]; exact h7
theorem ls_set {P : Pic} (hw : Wf P) {L k w i v : Nat} {l : List Nat} {po : Option Value → Pic → Prop} {th : String → Pic → Prop} (h : Lst P L k w l) (hi : i < l.length) (hv : p_k P v = k)
    (hp : ∀ P', Tr P P' (fun M => M = L) → Wf P' → Lst P' L k w (l.set i v) → po (some (.ref l[i])) P') : wp_Ar_set po th P L (nI i) v := by
  have hn := ls_len h
  have h' := h
  obtain ⟨h1, b, h2, h3, h4, h5, h6, h7, h8, hO, h9⟩ := h
  refine ⟨h1, ?_⟩
  rw [h7]
  refine ls_chk hi (by omega) ⟨_, rfl, ls_at h' hi ⟨_, rfl, b, h2, h3, by rw [hv]; exact hO, vp_in_nI (by omega) (by omega), ?_⟩⟩
  rw [nI_clamp (by omega)]
  refine hp _ (tr_cell hw h1 h2 h3 i (some v)) (wf_aq hw _ _ _) ⟨h1, b, h2, h3, by rw [List.length_set]; exact h4, h5, h6, by rw [List.length_set]; exact h7, fun j hj => ?_, hO, fun a ha => ?_⟩
  · rw [List.length_set] at hj
    rw [gpaq_aq, List.getElem?_set]
    by_cases e : j = i
    · rw [if_pos ⟨rfl, e⟩, if_pos e.symm, if_pos (by omega)]
    · rw [if_neg (fun z => e z.2), if_neg (fun z => e z.symm)]; exact h8 j hj
  · rcases List.mem_or_eq_of_mem_set ha with z | z
    · exact h9 a z
    · rw [z]; exact hv
/-- the last step of an add -/
theorem ls_put {P : Pic} (hw : Wf P) {L k w b v : Nat} {l : List Nat} {po : Option Value → Pic → Prop} {th : String → Pic → Prop} (h : Lst P L k w l) (hb : p_r P 520 L = some b) (hr : l.length < p_n P b) (hv : p_k P v = k)
    (hp : ∀ P', Tr P P' (fun M => M = L) → Wf P' → Lst P' L k w (l ++ [v]) → po none P') : wb_Ar_add3_11 po th P L v b (nI l.length) := by
  have hn := ls_len h
  obtain ⟨h1, c, h2, h3, h4, h5, h6, h7, h8, hO, h9⟩ := h
  rw [h2] at hb; cases hb
  refine ⟨h3, by rw [hv]; exact hO, vp_in_nI (by omega) (by omega), h1, ?_⟩
  intro P' hP'
  subst hP'
  rw [nI_clamp (by omega), ← nI_succ]
  refine hp _ ((tr_cell hw h1 h2 h3 _ _).trans (tr_len (wf_aq hw _ _ _) L _) (fun _ z => z) (fun _ z => z)) (wf_i (wf_aq hw _ _ _) _ _ _) ⟨h1, b, h2, h3, ?_, h5, h6, ?_, fun j hj => ?_, hO, fun a ha => ?_⟩
  · rw [List.length_append]; exact hr
  · rw [gpi_i, if_pos ⟨rfl, rfl⟩, List.length_append]; rfl
  · show p_aq (s_aq P b l.length (some v)) b j = _
    rw [List.length_append] at hj
    rw [gpaq_aq]
    by_cases e : j = l.length
    · rw [if_pos ⟨rfl, e⟩, e, List.getElem?_append_right (Nat.le_refl _), Nat.sub_self]; rfl
    · have hj' : j < l.length := by have : j < l.length + 1 := hj; omega
      rw [if_neg (fun z => e z.2), List.getElem?_append_left hj']; exact h8 j hj'
  · rw [List.mem_append] at ha
    rcases ha with z | z
    · exact h9 a z
    · rw [List.mem_singleton.mp z]; exact hv
/-- the array is changed for a longer one -/
theorem ls_grow {P : Pic} (hw : Wf P) {L k w : Nat} {l : List Nat} {po : Option Value → Pic → Prop} {th : String → Pic → Prop} (h : Lst P L k w l) (hfull : ∀ b, p_r P 520 L = some b → l.length = p_n P b) (hs : l.length ≤ 20)
    (hp : ∀ P' q, Tr P P' (fun M => M = L) → Wf P' → Lst P' L k w l → p_r P' 520 L = some q → l.length < p_n P' q → po (some (.ref q)) P') : wp_Ar_grow0 po th P L := by
  obtain ⟨h1, b, h2, h3, h4, h5, h6, h7, h8, hO, h9⟩ := h
  have hf := hfull b h2
  have hL : L < p_z P := hw.lt h1
  have hb : b < p_z P := hw.lt h3
  refine ⟨h1, h1, b, h2, h3, ?_⟩
  intro x hx
  subst hx
  rw [← hf]
  refine ⟨fun _ => ?_, fun e => absurd (nI_lt (a := 0) (b := l.length) (by omega) (by omega)) (by rw [nI_0]; exact e)⟩
  have e1 : p_i P 521 L + 1 - nI l.length = nI 1 := by rw [h7, ← nI_succ, pk_sub (by omega)]; congr 1; omega
  have e2 : nI l.length >>> ((1 : Int32) &&& 31) = nI (l.length / 2) := by
    rw [pk_shrN (by omega) _ 1 (by decide)]
  rw [e1, e2]
  have key : ∀ d, 0 < d → d ≤ 12 → wp_Ay_copy (cp_a fun a107 P108 => p_k P108 L = 14 ∧ cp_a (fun a102 P103 => po (some (.ref a102)) P103) (some (.ref a107)) (s_r P108 520 L (some a107))) th P b (nI l.length + nI d) := by
    intro d hd0 hd
    rw [nI_add]
    refine ⟨h3, fun e => absurd rfl e, fun _ => ⟨⟨nI_pos (by omega), by rw [nI_clamp (by omega)]; omega⟩, ?_⟩⟩
    intro q hq
    rw [nI_clamp (by omega)]
    have hbq : b ≠ q := by omega
    have hLq : L ≠ q := by omega
    refine ⟨by rw [gpk_arr, if_neg hbq]; exact h3, ?_⟩
    have en : p_n (s_arr P q 3 (l.length + d)) b = l.length := by rw [gpn_arr, if_neg hbq, hf]
    rw [en]
    have em : ¬ nI (l.length + d) < nI l.length := nI_nlt (by omega) (by omega)
    refine ⟨fun e => absurd e em, fun _ => ⟨_, rfl, ⟨by decide, by decide, nI_pos (by omega), ?_, ?_, k, hO, fun i hi y hy => ?_⟩, ?_⟩⟩
    · rw [nI_clamp (by omega)]; show 0 + l.length ≤ l.length; omega
    · rw [nI_clamp (by omega), gpn_arr, if_pos rfl]; show 0 + l.length ≤ _; omega
    · rw [nI_clamp (by omega)] at hi
      have e0 : Int32.toNatClampNeg 0 + i = i := by show 0 + i = i; omega
      rw [e0, gpaq_arr, if_neg hbq, h8 i hi] at hy
      have hm := h9 y (List.mem_of_getElem? hy)
      rw [gpk_arr, if_neg (by have := hw.1 y (by rw [hm]; exact hO.ne0); omega)]; exact hm
    · intro P6 hP6
      rw [nI_clamp (by omega)] at hP6
      have hP6 : P6 = s_cpy (s_arr P q 3 (l.length + d)) b q 0 0 l.length := hP6
      subst hP6
      refine ⟨q, rfl, _, rfl, ?_, q, rfl, ?_⟩
      · rw [gpk_cpy, gpk_arr, if_neg hLq]; exact h1
      · have hw1 : Wf (s_cpy (s_arr P q 3 (l.length + d)) b q 0 0 l.length) := wf_cpy (wf_arr hw hq _) _ _ _ _ _
        have hkM : ∀ M, p_k (s_arr P q 3 (l.length + d)) M = 14 → p_k P M = 14 := by
          intro M hM
          rw [gpk_arr] at hM
          by_cases e : M = q
          · rw [if_pos e] at hM; omega
          · rw [if_neg e] at hM; exact hM
        have hw2 : Wf (s_r (s_cpy (s_arr P q 3 (l.length + d)) b q 0 0 l.length) 520 L (some q)) := by
          refine wf_data hw1 (Nat.lt_succ_self q) (fun M hM hr => ?_)
          have := hw.2.1 M q (hkM M hM) hr
          omega
        refine hp _ q ⟨?_, rfl, fun a ha => ?_, fun M k' w' l' hM hl' => ?_⟩ hw2 ⟨?_, q, ?_, ?_, ?_, ?_, ?_, h7, fun i hi => ?_, hO, fun a ha => ?_⟩ ?_ ?_
        · show p_z P ≤ q + 1; omega
        · refine ⟨?_, ?_, fun _ _ => rfl, fun _ => rfl, fun f hf => ?_, fun j => ?_, fun j => ?_, fun _ j => ?_⟩
          · rw [gpk_r, gpk_cpy, gpk_arr, if_neg (by omega)]
          · rw [gpn_r, gpn_cpy, gpn_arr, if_neg (by omega)]
          · rw [gpr_r, if_neg (by omega)]; rfl
          · rw [gpai_r, gpai_cpy, gpai_arr, if_neg (by omega)]
          · rw [gpal_r, gpal_cpy, gpal_arr, if_neg (by omega)]
          · rw [gpaq_r, gpaq_cpy, if_neg (by omega), gpaq_arr, if_neg (by omega)]
        · obtain ⟨g1, c, g2, g3, g4, g5, g6, g7, g8, gO, g9⟩ := hl'
          have hc : c < p_z P := hw.lt g3
          have hMz : M < p_z P := hw.lt g1
          refine ⟨by rw [gpk_r, gpk_cpy, gpk_arr, if_neg (by omega)]; exact g1, c, by rw [gpr_r, if_neg (fun z => hM z.2)]; exact g2, by rw [gpk_r, gpk_cpy, gpk_arr, if_neg (by omega)]; exact g3, by rw [gpn_r, gpn_cpy, gpn_arr, if_neg (by omega)]; exact g4, by rw [gpn_r, gpn_cpy, gpn_arr, if_neg (by omega)]; exact g5, by rw [gpn_r, gpn_cpy, gpn_arr, if_neg (by omega)]; exact g6, g7, fun i hi => ?_, gO, fun a ha => ?_⟩
          · rw [gpaq_r, gpaq_cpy, if_neg (by omega), gpaq_arr, if_neg (by omega)]; exact g8 i hi
          · have := g9 a ha
            rw [gpk_r, gpk_cpy, gpk_arr, if_neg (by have := hw.1 a (by rw [this]; exact gO.ne0); omega)]; exact this
        · rw [gpk_r, gpk_cpy, gpk_arr, if_neg hLq]; exact h1
        · rw [gpr_r, if_pos ⟨rfl, rfl⟩]
        · rw [gpk_r, gpk_cpy, gpk_arr, if_pos rfl]
        · rw [gpn_r, gpn_cpy, gpn_arr, if_pos rfl]; omega
        · rw [gpn_r, gpn_cpy, gpn_arr, if_pos rfl]; omega
        · rw [gpn_r, gpn_cpy, gpn_arr, if_pos rfl]; omega
        · rw [gpaq_r, gpaq_cpy, if_pos rfl, pk_cpy_in (by omega) (by omega), gpaq_arr, if_neg hbq, ← h8 i hi]; congr 1; omega
        · have := h9 a ha
          rw [gpk_r, gpk_cpy, gpk_arr, if_neg (by have := hw.1 a (by rw [this]; exact hO.ne0); omega)]; exact this
        · rw [gpr_r, if_pos ⟨rfl, rfl⟩]
        · rw [gpn_r, gpn_cpy, gpn_arr, if_pos rfl]; omega
  refine ⟨fun e => ?_, fun e => ?_⟩
  · rw [nI_ltI (by omega) (by omega)] at e
    refine ⟨_, rfl, ?_⟩
    intro x hx
    subst hx
    refine ⟨fun e => absurd e ?_, fun _ => ⟨fun e => absurd e ?_, fun _ => ⟨_, rfl, b, h2, key (l.length / 2) (by omega) (by omega)⟩⟩⟩
    · rw [nI_add]; exact nI_nle (by omega) (by omega)
    · rw [nI_add]; exact nI_nlt (a := 2147483639) (by omega) (by omega)
  · rw [nI_ltI (by omega) (by omega)] at e
    refine ⟨_, rfl, ?_⟩
    intro x hx
    subst hx
    refine ⟨fun e => absurd e ?_, fun _ => ⟨fun e => absurd e ?_, fun _ => ⟨_, rfl, b, h2, key (1) (by omega) (by omega)⟩⟩⟩
    · rw [nI_add]; exact nI_nle (by omega) (by omega)
    · rw [nI_add]; exact nI_nlt (a := 2147483639) (by omega) (by omega)
theorem ls_mod {P : Pic} {L k w : Nat} {l : List Nat} (v : Int32) (h : Lst P L k w l) : Lst (s_i P 522 L v) L k w l := by
  obtain ⟨h1, b, h2, h3, h4, h5, h6, h7, h8, h9⟩ := h
  exact ⟨h1, b, h2, h3, h4, h5, h6, by rw [gpi_i, if_neg (by omega)]; exact h7, h8, h9⟩
theorem ls_add {P : Pic} (hw : Wf P) {L k w v : Nat} {l : List Nat} {po : Option Value → Pic → Prop} {th : String → Pic → Prop} (h : Lst P L k w l) (hs : l.length ≤ 20 ∨ l.length < w) (hv : p_k P v = k)
    (hp : ∀ P', Tr P P' (fun M => M = L) → Wf P' → Lst P' L k w (l ++ [v]) → po (some (.int 1)) P') : wp_Ar_add po th P L v := by
  have hn := ls_len h
  have h' := ls_mod (p_i P 522 L + 1) h
  have hw1 : Wf (s_i P 522 L (p_i P 522 L + 1)) := wf_i hw _ _ _
  have ht : Tr P (s_i P 522 L (p_i P 522 L + 1)) (fun M => M = L) := tr_i hw rfl _ _ _
  obtain ⟨h1, b, h2, h3, h4, h5, h6, h7, h8, h9⟩ := id h
  refine ⟨h1, b, h2, ?_⟩
  have e5 : p_i (s_i P 522 L (p_i P 522 L + 1)) 521 L = nI l.length := by rw [gpi_i, if_neg (by omega)]; exact h7
  rw [e5]
  refine ⟨h3, fun e => ?_, fun e => ⟨h1, ?_⟩⟩
  · refine ls_put hw1 h' h2 ?_ hv (fun P' t w hl => ⟨rfl, hp P' (ht.trans t (fun _ z => z) (fun _ z => z)) w hl⟩)
    show l.length < p_n P b
    have : l.length ≠ p_n P b := fun z => e (by show _ = nI (p_n P b); rw [z])
    omega
  · have e' : l.length = p_n P b := (nI_eq (by omega) (by omega)).mp e
    refine ls_grow hw1 h' (fun c hc => ?_) ?_ (fun P' q t w hl hq hlt => ⟨q, rfl, ?_⟩)
    · have : p_r P 520 L = some c := hc
      rw [h2] at this; cases this; exact e'
    · rcases hs with z | z
      · exact z
      · omega
    · have hv' : p_k P' v = k := by
        rw [(t.2.2.1 v (hw.1 v (by rw [hv]; exact h9.1.ne0))).1]; exact hv
      exact ls_put w hl hq hlt hv' (fun P'' t' w' hl' => ⟨rfl, hp P'' ((ht.trans t (fun _ z => z) (fun _ z => z)).trans t' (fun _ z => z) (fun _ z => z)) w' hl'⟩)
/-- a new list -/
theorem ls_init {P : Pic} (hw : Wf P) {L k w n : Nat} {po : Option Value → Pic → Prop} {th : String → Pic → Prop} (hk : p_k P L = 14) (h0 : p_i P 521 L = 0) (hO : Ob k) (hn0 : 0 < n) (hn : n ≤ 32) (hnw : w ≤ n)
    (hp : ∀ P' q, p_z P ≤ q → Tr P P' (fun M => M = L) → Wf P' → Lst P' L k w [] → p_r P' 520 L = some q → p_n P' q = n → p_k P' q = 104 → q < p_z P' → po none P') : wp_Ar_init po th P L (nI n) := by
  refine ⟨rfl, hk, rfl, fun e => absurd e (nI_nle hn0 (by omega)), fun _ => ⟨⟨nI_pos (by omega), by rw [nI_clamp (by omega)]; exact hn⟩, ?_⟩⟩
  intro q hq
  rw [nI_clamp (by omega)]
  have hL : L < p_z P := hw.lt hk
  have hq : p_z P ≤ q := hq
  have hw1 : Wf (s_i P 522 L 0) := wf_i hw _ _ _
  have hw2 : Wf (s_arr (s_i P 522 L 0) q 3 n) := wf_arr hw1 hq n
  have ekL : p_k (s_arr (s_i P 522 L 0) q 3 n) L = 14 := by rw [gpk_arr, if_neg (by omega)]; exact hk
  have hkM : ∀ M, p_k (s_arr (s_i P 522 L 0) q 3 n) M = 14 → p_k P M = 14 := by
    intro M hM
    rw [gpk_arr] at hM
    by_cases e : M = q
    · rw [if_pos e] at hM; omega
    · rw [if_neg e] at hM; exact hM
  have hw3 : Wf (s_r (s_arr (s_i P 522 L 0) q 3 n) 520 L (some q)) := by
    refine wf_data hw2 (Nat.lt_succ_self q) (fun M hM hr => ?_)
    have := hw.2.1 M q (hkM M hM) hr
    omega
  have t1 : Tr P (s_arr (s_i P 522 L 0) q 3 n) (fun M => M = L) := (tr_i hw rfl _ _ _).trans (S := fun M => M = L) (S' := fun M => M = L) (tr_arr hw1 hq 3 n _) (fun _ z => z) (fun _ z => z)
  have t2 : Tr (s_arr (s_i P 522 L 0) q 3 n) (s_r (s_arr (s_i P 522 L 0) q 3 n) 520 L (some q)) (fun M => M = L) := by
    refine ⟨Nat.le_refl _, rfl, fun a ha => ⟨rfl, rfl, fun _ _ => rfl, fun _ => rfl, fun f hf => ?_, fun _ => rfl, fun _ => rfl, fun _ _ => rfl⟩, ?_⟩
    · rw [gpr_r, if_neg (by omega)]
    · intro M k w l hM hl
      obtain ⟨h1, c, h2, h3, h4, h5, h6, h7, h8, h9⟩ := hl
      refine ⟨h1, c, by rw [gpr_r, if_neg (fun z => hM z.2)]; exact h2, h3, h4, h5, h6, h7, h8, h9⟩
  refine ⟨ekL, hp _ q hq (t1.trans t2 (fun _ z => z) (fun _ z => z)) hw3 ⟨ekL, q, ?_, ?_, Nat.zero_le _, ?_, ?_, ?_, fun i hi => absurd hi (Nat.not_lt_zero i), hO, fun a ha => absurd ha List.not_mem_nil⟩ ?_ ?_ ?_ (Nat.lt_succ_self q)⟩
  · rw [gpr_r, if_pos ⟨rfl, rfl⟩]
  · rw [gpk_r, gpk_arr, if_pos rfl]
  · rw [gpn_r, gpn_arr, if_pos rfl]; omega
  · rw [gpn_r, gpn_arr, if_pos rfl]; exact hn
  · show p_i (s_i P 522 L 0) 521 L = _
    rw [gpi_i, if_neg (by omega)]; exact h0
  · rw [gpr_r, if_pos ⟨rfl, rfl⟩]
  · rw [gpn_r, gpn_arr, if_pos rfl]
  · rw [gpk_r, gpk_arr, if_pos rfl]
