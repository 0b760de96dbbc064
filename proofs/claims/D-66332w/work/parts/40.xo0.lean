/-! steps of the component's pictures -/
theorem up2_fn {α : Type} (F : Nat → Nat → α) {x a y : Nat} (v : α) (h : y ≠ x) : up2 F x a v y = F y := by funext b; exact up2_ne F v (Or.inl h)
theorem Tr.drop {P P' : Pic} {S : Nat → Prop} (h : Tr P P' S) (hw : Wf P) (hS : ∀ L, S L → p_z P ≤ L) (T : Nat → Prop) : Tr P P' T :=
  ⟨h.1, h.2.1, h.2.2.1, fun L k w l _ hl => h.2.2.2 L k w l (fun z => by have := hw.lt hl.1; have := hS L z; omega) hl⟩
theorem tr_rnew {P0 P : Pic} {S : Nat → Prop} (h : Tr P0 P S) {q : Nat} (hq : p_z P0 ≤ q) {f : Nat} (hf : f ≠ 520) (v : Option Nat) : Tr P0 (s_r P f q v) S := by
  refine ⟨h.1, h.2.1, fun a ha => (h.2.2.1 a ha).trans ⟨rfl, rfl, fun _ _ => rfl, fun _ => rfl, fun g _ => ?_, fun _ => rfl, fun _ => rfl, fun _ _ => rfl⟩, fun L k w l hn hl => ?_⟩
  · rw [gpr_r, if_neg (by omega)]
  · obtain ⟨h1, c, h2, h3, h4, h5, h6, h7, h8, h9⟩ := h.2.2.2 L k w l hn hl
    exact ⟨h1, c, by rw [gpr_r, if_neg (fun z => hf z.1.symm)]; exact h2, h3, h4, h5, h6, h7, h8, h9⟩
theorem tr_inew {P0 P : Pic} {S : Nat → Prop} (h : Tr P0 P S) {q : Nat} (hq : p_z P0 ≤ q) {f : Nat} (hf : f ≠ 521) (v : Int32) : Tr P0 (s_i P f q v) S := by
  refine ⟨h.1, h.2.1, fun a ha => (h.2.2.1 a ha).trans ⟨rfl, rfl, fun g _ => ?_, fun _ => rfl, fun _ _ => rfl, fun _ => rfl, fun _ => rfl, fun _ _ => rfl⟩, fun L k w l hn hl => ?_⟩
  · rw [gpi_i, if_neg (by omega)]
  · obtain ⟨h1, c, h2, h3, h4, h5, h6, h7, h8, h9⟩ := h.2.2.2 L k w l hn hl
    exact ⟨h1, c, h2, h3, h4, h5, h6, by rw [gpi_i, if_neg (fun z => hf z.1.symm)]; exact h7, h8, h9⟩
theorem tr_lnew {P0 P : Pic} {S : Nat → Prop} (h : Tr P0 P S) {q : Nat} (hq : p_z P0 ≤ q) (f : Nat) (v : Int64) : Tr P0 (s_l P f q v) S := by
  refine ⟨h.1, h.2.1, fun a ha => (h.2.2.1 a ha).trans ⟨rfl, rfl, fun _ _ => rfl, fun g => ?_, fun _ _ => rfl, fun _ => rfl, fun _ => rfl, fun _ _ => rfl⟩, fun L k w l hn hl => h.2.2.2 L k w l hn hl⟩
  rw [gpl_l, if_neg (by omega)]
theorem Tr.k {P P' : Pic} {S : Nat → Prop} (h : Tr P P' S) (hw : Wf P) {a k : Nat} (hk : p_k P a = k + 1) : p_k P' a = k + 1 := by rw [(h.2.2.1 a (hw.lt hk)).1]; exact hk
theorem Tr.r {P P' : Pic} {S : Nat → Prop} (h : Tr P P' S) {a : Nat} (ha : a < p_z P) {f : Nat} {v : Option Nat} (hv : p_r P f a = v) (hf : f < 520 := by decide) : p_r P' f a = v := by rw [(h.2.2.1 a ha).2.2.2.2.1 f hf]; exact hv
theorem Tr.i {P P' : Pic} {S : Nat → Prop} (h : Tr P P' S) {a : Nat} (ha : a < p_z P) {f : Nat} {v : Int32} (hv : p_i P f a = v) (hf : f < 520 := by decide) : p_i P' f a = v := by rw [(h.2.2.1 a ha).2.2.1 f hf]; exact hv
theorem Tr.l {P P' : Pic} {S : Nat → Prop} (h : Tr P P' S) {a : Nat} (ha : a < p_z P) {f : Nat} {v : Int64} (hv : p_l P f a = v) : p_l P' f a = v := by rw [(h.2.2.1 a ha).2.2.2.1 f]; exact hv
theorem XO.ns {P : Pic} {g : Nat → Nat → Nat} {ow : Nat → Nat × Nat} {A : Nat → Nat → Nat} (h : XO P g ow A) {T I : Nat} (hT : InX A T I) (t i : Nat) (ht : InX A t i) (hne : ¬ (t = T ∧ i = I)) : ¬ (g t i = g T I) := by
  intro e
  have h1 := (h t i ht).2
  rw [e, (h T I hT).2] at h1
  exact hne ⟨(congrArg Prod.fst h1).symm, (congrArg Prod.snd h1).symm⟩
/-! other numbers that do not matter -/
theorem XA.cA {P : Pic} {x : Nat} {g : Nat → Nat → Nat} {A A' : Nat → Nat → Nat} (h : XA P x g A) (e : A' 495 = A 495) : XA P x g A' := by unfold XA at h ⊢; rw [e]; exact h
theorem XN.cA {P : Pic} {g : Nat → Nat → Nat} {A A' : Nat → Nat → Nat} (h : XN P g A) (e1 : A' 481 = A 481) (e2 : A' 482 = A 482) (e3 : A' 484 = A 484) (e4 : A' 485 = A 485) : XN P g A' := by unfold XN inc at h ⊢; rw [e1, e2, e3, e4]; exact h
theorem XD.cA {P : Pic} {g : Nat → Nat → Nat} {A A' : Nat → Nat → Nat} (h : XD P g A) (e1 : A' 482 = A 482) : XD P g A' := by unfold XD at h ⊢; rw [e1]; exact h
theorem XE.cA {P : Pic} {g : Nat → Nat → Nat} {A A' : Nat → Nat → Nat} (h : XE P g A) (e1 : A' 482 = A 482) (e2 : A' 485 = A 485) (e3 : A' 486 = A 486) (e4 : A' 487 = A 487) (e5 : A' 488 = A 488) : XE P g A' := by unfold XE at h ⊢; rw [e1, e2, e3, e4, e5]; exact h
theorem XP.cA {P : Pic} {g : Nat → Nat → Nat} {A A' : Nat → Nat → Nat} {pl : Nat → Nat} (h : XP P g A pl) (e1 : A' 482 = A 482) : XP P g A' pl := by unfold XP at h ⊢; rw [e1]; exact h
theorem XF.cA {P : Pic} {g : Nat → Nat → Nat} {A A' : Nat → Nat → Nat} {fl : Nat} (h : XF P g A fl) (e1 : A' 481 = A 481) (e2 : A' 482 = A 482) : XF P g A' fl := by unfold XF at h ⊢; rw [e1, e2]; exact h
theorem XC.cA {P : Pic} {g : Nat → Nat → Nat} {A A' : Nat → Nat → Nat} {B B' : Nat → Nat → Int64} (h : XC P g A B) (e1 : A' 483 = A 483) (e2 : A' 489 = A 489) (e3 : B' 508 = B 508) : XC P g A' B' := by unfold XC at h ⊢; rw [e1, e2, e3]; exact h
theorem XR.cA {P : Pic} {g : Nat → Nat → Nat} {A A' : Nat → Nat → Nat} (h : XR P g A) (e1 : A' 483 = A 483) (e2 : A' 496 = A 496) (e3 : A' 497 = A 497) (e4 : A' 498 = A 498) (e5 : A' 499 = A 499) (e6 : A' 500 = A 500) : XR P g A' := by unfold XR at h ⊢; rw [e1, e2, e3, e4, e5, e6]; exact h
theorem XB.cA {P : Pic} {g : Nat → Nat → Nat} {A A' : Nat → Nat → Nat} {B B' : Nat → Nat → Int64} (h : XB P g A B) (e1 : A' 483 = A 483) (e2 : A' 504 = A 504) (e3 : A' 505 = A 505) (e4 : A' 506 = A 506) (e5 : B' 507 = B 507) : XB P g A' B' := by unfold XB at h ⊢; rw [e1, e2, e3, e4, e5]; exact h
theorem XT.cA {P : Pic} {g : Nat → Nat → Nat} {A A' : Nat → Nat → Nat} {B B' : Nat → Nat → Int64} (h : XT P g A B) (e1 : A' 501 = A 501) (e2 : A' 502 = A 502) (e3 : B' 503 = B 503) : XT P g A' B' := by unfold XT at h ⊢; rw [e1, e2, e3]; exact h
theorem XO.cA {P : Pic} {g : Nat → Nat → Nat} {ow : Nat → Nat × Nat} {A A' : Nat → Nat → Nat} (h : XO P g ow A) (e1 : A' 481 = A 481) (e2 : A' 482 = A 482) (e3 : A' 483 = A 483) (e4 : A' 504 = A 504) : XO P g ow A' := by unfold XO InX at h ⊢; rw [e1, e2, e3, e4]; exact h
/-! ranges as lists -/
theorem rg_len (n : Nat) (f : Nat → Nat) : (rg n f).length = n := by unfold rg; rw [List.length_map, List.length_range]
theorem rg_get (n : Nat) (f : Nat → Nat) {i : Nat} (h : i < (rg n f).length) : (rg n f)[i] = f i := by
  have h' : i < n := by rw [rg_len] at h; exact h
  have e : (rg n f)[i]? = some (f i) := by unfold rg; rw [List.getElem?_map, List.getElem?_range h']; rfl
  rw [List.getElem?_eq_getElem h] at e
  exact Option.some.inj e
theorem rg_succ (n : Nat) (f : Nat → Nat) : rg (n + 1) f = rg n f ++ [f n] := by unfold rg; rw [List.range_succ, List.map_append]; rfl
theorem rg_congr {n : Nat} {f f' : Nat → Nat} (h : ∀ i, i < n → f' i = f i) : rg n f' = rg n f := by
  unfold rg; exact List.map_congr_left (fun a ha => h a (List.mem_range.mp ha))
theorem rg_get? (n : Nat) (f : Nat → Nat) (i : Nat) : (rg n f)[i]? = if i < n then some (f i) else none := by
  by_cases h : i < n
  · rw [if_pos h, List.getElem?_eq_getElem (by rw [rg_len]; exact h), rg_get]
  · rw [if_neg h, List.getElem?_eq_none (by rw [rg_len]; omega)]
/-! the small checks -/
theorem xo_lies {P : Pic} {po : Option Value → Pic → Prop} {th : String → Pic → Prop} {x : Int32} {n : Nat} (hn : n < 2 ^ 31) (h1 : (∀ j, j < n → x ≠ nI j) → th "java/lang/IndexOutOfBoundsException" P) (h0 : ∀ j, j < n → x = nI j → po none P) : wp_Wa_lies po th P x (nI n) := by
  refine ⟨fun e => h1 (fun j hj z => ?_), fun e => ⟨fun e2 => ?_, fun e2 => h1 (fun j hj z => e2 (by rw [z]; exact nI_lt hj hn))⟩⟩
  · rw [z] at e; exact nI_pos (by omega) e
  · obtain ⟨j, hj, hx⟩ := nI_of e
    rw [hx, nI_ltI hj hn] at e2
    exact h0 j e2 hx
theorem ls_get' {P : Pic} {L k w i n : Nat} {f : Nat → Nat} {po : Option Value → Pic → Prop} {th : String → Pic → Prop} (h : Lst P L k w (rg n f)) (hi : i < n) (hp : p_k P (f i) = k → po (some (.ref (f i))) P) : wp_Ar_get po th P L (nI i) := by
  have hi' : i < (rg n f).length := by rw [rg_len]; exact hi
  refine ls_get h hi' ?_
  rw [rg_get]; exact hp
theorem ls_size' {P : Pic} {L k w n : Nat} {f : Nat → Nat} {po : Option Value → Pic → Prop} {th : String → Pic → Prop} (h : Lst P L k w (rg n f)) (hp : po (some (.int (nI n))) P) : wp_Ar_size po th P L := ls_size h (by rw [rg_len]; exact hp)
theorem xo_nodeAt {P : Pic} {x : Nat} {g : Nat → Nat → Nat} {ow : Nat → Nat × Nat} {fl : Nat} {A : Nat → Nat → Nat} {B : Nat → Nat → Int64} {po : Option Value → Pic → Prop} {th : String → Pic → Prop} {x1 : Int32} (h : RX P x g ow fl A B) (hb : A 481 0 ≤ 12) (h1 : (∀ j, j < A 481 0 → x1 ≠ nI j) → th "java/lang/IndexOutOfBoundsException" P) (h0 : ∀ j, j < A 481 0 → x1 = nI j → po (some (.ref (g 7 j))) P) : wp_Wa_nodeAt po th P x x1 := by
  obtain ⟨hw, xa, xg, xn, xd, xe, ⟨pl, xp⟩, xf, xc, xr, xb, xt, xo⟩ := h
  refine ⟨xa.1, _, xa.2.1, xg.1, _, xg.2.1, xn.1.1, ls_size' xn.1 ⟨_, rfl, xo_lies (by omega) h1 (fun j hj hx => ⟨rfl, _, xa.2.1, xg.1, _, xg.2.1, xn.1.1, ?_⟩)⟩⟩
  rw [hx]
  exact ls_get' xn.1 hj (fun hk => ⟨_, rfl, hk, h0 j hj hx⟩)
theorem xo_middleOf {P : Pic} {x : Nat} {g : Nat → Nat → Nat} {ow : Nat → Nat × Nat} {fl : Nat} {A : Nat → Nat → Nat} {B : Nat → Nat → Int64} {po : Option Value → Pic → Prop} {th : String → Pic → Prop} {x1 : Int32} (h : RX P x g ow fl A B) (hb : A 482 0 ≤ 16) (h1 : (∀ j, j < A 482 0 → x1 ≠ nI j) → th "java/lang/IndexOutOfBoundsException" P) (h0 : ∀ j, j < A 482 0 → x1 = nI j → po (some (.ref (g 8 j))) P) : wp_Wa_middleOf po th P x x1 := by
  obtain ⟨hw, xa, xg, xn, xd, xe, ⟨pl, xp⟩, xf, xc, xr, xb, xt, xo⟩ := h
  refine ⟨xa.1, _, xa.2.1, xg.1, _, xg.2.2.1, xd.1.1, ls_size' xd.1 ⟨_, rfl, xo_lies (by omega) h1 (fun j hj hx => ⟨rfl, _, xa.2.1, xg.1, _, xg.2.2.1, xd.1.1, ?_⟩)⟩⟩
  rw [hx]
  exact ls_get' xd.1 hj (fun hk => ⟨_, rfl, Or.inr hk, h0 j hj hx⟩)
theorem xo_customerAt {P : Pic} {x : Nat} {g : Nat → Nat → Nat} {ow : Nat → Nat × Nat} {fl : Nat} {A : Nat → Nat → Nat} {B : Nat → Nat → Int64} {po : Option Value → Pic → Prop} {th : String → Pic → Prop} {x1 : Int32} (h : RX P x g ow fl A B) (hb : A 483 0 ≤ 10) (h1 : (∀ j, j < A 483 0 → x1 ≠ nI j) → th "java/lang/IndexOutOfBoundsException" P) (h0 : ∀ j, j < A 483 0 → x1 = nI j → po (some (.ref (g 10 j))) P) : wp_Wa_customerAt po th P x x1 := by
  obtain ⟨hw, xa, xg, xn, xd, xe, ⟨pl, xp⟩, xf, xc, xr, xb, xt, xo⟩ := h
  refine ⟨xa.1, _, xa.2.2.1, xc.1.1, ls_size' xc.1 ⟨_, rfl, xo_lies (by omega) h1 (fun j hj hx => ⟨rfl, _, xa.2.2.1, xc.1.1, ?_⟩)⟩⟩
  rw [hx]
  exact ls_get' xc.1 hj (fun hk => ⟨_, rfl, hk, h0 j hj hx⟩)
theorem xo_valveAt {P : Pic} {x : Nat} {g : Nat → Nat → Nat} {ow : Nat → Nat × Nat} {fl : Nat} {A : Nat → Nat → Nat} {B : Nat → Nat → Int64} {po : Option Value → Pic → Prop} {th : String → Pic → Prop} {x1 x2 : Int32} (h : RX P x g ow fl A B) (ok : OkN A) (h1 : (∀ j k, j < A 482 0 → k < 2 → ¬ (x1 = nI j ∧ x2 = nI k)) → th "java/lang/IndexOutOfBoundsException" P)
    (h2 : ∀ j k, j < A 482 0 → k < 2 → x1 = nI j → x2 = nI k → A 486 (2 * j + k) = 0 → th "java/util/NoSuchElementException" P)
    (h0 : ∀ j k, j < A 482 0 → k < 2 → x1 = nI j → x2 = nI k → A 486 (2 * j + k) ≠ 0 → po (some (.ref (g 9 (2 * j + k)))) P) : wp_Wa_valveAt po th P x x1 x2 := by
  obtain ⟨hw, xa, xg, xn, xd, xe, ⟨pl, xp⟩, xf, xc, xr, xb, xt, xo⟩ := h
  have hb := ok.2.1
  refine ⟨xa.1, _, xa.2.1, xg.1, _, xg.2.2.1, xd.1.1, ls_size' xd.1 ⟨_, rfl, xo_lies (by omega) (fun e => h1 (fun j k hj hk z => e j hj z.1)) (fun j hj hx => ⟨rfl, xo_lies (n := 2) (by omega) (fun e => h1 (fun j k hj hk z => e k hk z.2)) (fun k hk hx2 => ⟨rfl, _, xa.2.1, xg.1, _, xg.2.2.2.1, xe.1.1, ?_⟩)⟩)⟩⟩
  have e : (2 : Int32) * x1 + x2 = nI (2 * j + k) := by rw [hx, hx2]; show nI 2 * nI j + nI k = _; rw [pk_mul, nI_add]
  rw [e]
  have hv := xe.2 (2 * j + k) (by omega)
  refine ls_get' xe.1 (by omega) (fun hk' => ⟨_, rfl, hk', ?_⟩)
  rw [hv.2.2.2.2.1]
  refine ⟨fun z => ⟨rfl, h0 j k hj hk hx hx2 (fun q => z (by rw [q]; rfl))⟩, fun z => h2 j k hj hk hx hx2 ((b0 (ok.2.2.2.2.2 _).2.1).mp z)⟩
