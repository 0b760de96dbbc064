/-! an insertion into a list -/
theorem ls_addAt {P : Pic} (hw : Wf P) {L k w v i : Nat} {l l' : List Nat} {po : Option Value → Pic → Prop} {th : String → Pic → Prop} (h : Lst P L k w l) (hs : l.length < w) (hi : i ≤ l.length) (hv : p_k P v = k)
    (hlen : l'.length = l.length + 1) (hl' : ∀ j : Nat, l'[j]? = if j < i then l[j]? else if j = i then some v else l[j - 1]?)
    (hp : ∀ P', Tr P P' (fun M => M = L) → Wf P' → Lst P' L k w l' → po none P') : wp_Ar_addAt po th P L (nI i) v := by
  have hn := ls_len h
  have h' := ls_mod (p_i P 522 L + 1) h
  have hw1 : Wf (s_i P 522 L (p_i P 522 L + 1)) := wf_i hw _ _ _
  have ht : Tr P (s_i P 522 L (p_i P 522 L + 1)) (fun M => M = L) := tr_i hw rfl _ _ _
  obtain ⟨h1, b, h2, h3, h4, h5, h6, h7, h8, hO, h9⟩ := id h
  have e5 : p_i (s_i P 522 L (p_i P 522 L + 1)) 521 L = nI l.length := by rw [gpi_i, if_neg (by omega)]; exact h7
  generalize hQ : s_i P 522 L (p_i P 522 L + 1) = Q at *
  have q1 : p_k Q L = 14 := by rw [← hQ]; exact h1
  have q2 : p_r Q 520 L = some b := by rw [← hQ]; exact h2
  have q3 : p_k Q b = 104 := by rw [← hQ]; exact h3
  have q4 : p_n Q b = p_n P b := by rw [← hQ]; rfl
  have q8 : ∀ j, p_aq Q b j = p_aq P b j := by rw [← hQ]; intro j; rfl
  have qk : ∀ a, p_k Q a = p_k P a := by rw [← hQ]; intro j; rfl
  refine ⟨h1, h1, fun e => ?_, fun _ => ⟨fun _ => ⟨rfl, ?_⟩, fun e => absurd (nI_pos' (by omega)) e⟩⟩
  · rw [h7] at e; exact absurd e (nI_nlt hi (by omega))
  · intro x hx
    rw [hQ, e5] at hx
    subst hx
    refine ⟨b, by rw [hQ]; exact q2, by rw [hQ]; exact q3, fun _ => ?_, fun e => ?_⟩
    · rw [hQ]
      have es : nI l.length - nI i = nI (l.length - i) := pk_sub hi
      have e1 : nI i + 1 = nI (i + 1) := (nI_succ i).symm
      refine ⟨q3, ⟨nI_pos (by omega), by rw [e1]; exact nI_pos (by omega), by rw [es]; exact nI_pos (by omega), ?_, ?_, k, hO, fun j hj y hy => ?_⟩, ?_⟩
      · rw [es, nI_clamp (by omega), nI_clamp (by omega), q4]; omega
      · rw [es, e1, nI_clamp (by omega), nI_clamp (by omega), q4]; omega
      · rw [es, nI_clamp (by omega)] at hj
        rw [nI_clamp (by omega), q8, h8 _ (by omega)] at hy
        rw [qk]; exact h9 y (List.mem_of_getElem? hy)
      · intro P1 hP1
        rw [es, e1, nI_clamp (by omega), nI_clamp (by omega), nI_clamp (by omega)] at hP1
        subst hP1
        refine ⟨by rw [gpk_cpy, qk, hv]; exact hO, vp_in_nI (by rw [gpn_cpy, q4]; omega) (by rw [gpn_cpy, q4]; omega), q1, ?_⟩
        intro P2 hP2
        rw [nI_clamp (by omega), ← nI_succ] at hP2
        subst hP2
        have t1 : Tr Q (s_cpy Q b b i (i + 1) (l.length - i)) (fun M => M = L) := by
          refine ⟨Nat.le_refl _, rfl, fun a ha => ⟨rfl, rfl, fun _ _ => rfl, fun _ => rfl, fun _ _ => rfl, fun _ => rfl, fun _ => rfl, fun hne j => ?_⟩, ?_⟩
          · rw [gpaq_cpy, if_neg (fun z => hne (by rw [z]; exact q3))]
          · intro M k w l hM hl
            obtain ⟨g1, c, g2, g3, g4, g5, g6, g7, g8, g9⟩ := hl
            refine ⟨g1, c, g2, g3, g4, g5, g6, g7, fun i hi => ?_, g9⟩
            rw [gpaq_cpy, if_neg (fun z => hM (hw1.2.2 M L b g1 q1 (by rw [← z]; exact g2) q2))]
            exact g8 i hi
        have w1 : Wf (s_cpy Q b b i (i + 1) (l.length - i)) := wf_cpy hw1 _ _ _ _ _
        have t2 := tr_cell w1 (L := L) (b := b) q1 q2 q3 i (some v)
        have t3 := tr_len (wf_aq w1 b i (some v)) L (nI (l.length + 1))
        refine hp _ (((ht.trans t1 (fun _ z => z) (fun _ z => z)).trans t2 (fun _ z => z) (fun _ z => z)).trans t3 (fun _ z => z) (fun _ z => z)) (wf_i (wf_aq w1 _ _ _) _ _ _) ⟨q1, b, q2, q3, ?_, ?_, ?_, ?_, fun j hj => ?_, hO, fun a ha => ?_⟩
        · show _ ≤ p_n Q b
          rw [hlen, q4]; omega
        · show _ ≤ p_n Q b
          rw [q4]; exact h5
        · show p_n Q b ≤ _
          rw [q4]; exact h6
        · rw [gpi_i, if_pos ⟨rfl, rfl⟩, hlen]
        · rw [gpaq_i, gpaq_aq, hl' j]
          by_cases c1 : j = i
          · rw [if_pos ⟨rfl, c1⟩, if_neg (by omega), if_pos c1]
          · rw [if_neg (fun z => c1 z.2), if_neg c1, gpaq_cpy, if_pos rfl]
            by_cases c2 : j < i
            · rw [if_pos c2, pk_cpy_out (Or.inl (by omega)), q8, h8 j (by omega)]
            · rw [if_neg c2, pk_cpy_in (by omega) (by omega), q8, h8 _ (by omega)]; congr 1; omega
        · show p_k Q a = k
          rw [qk]
          rw [List.mem_iff_getElem?] at ha
          obtain ⟨j, hj⟩ := ha
          rw [hl' j] at hj
          by_cases c2 : j < i
          · rw [if_pos c2] at hj; exact h9 a (List.mem_of_getElem? hj)
          · rw [if_neg c2] at hj
            by_cases c1 : j = i
            · rw [if_pos c1] at hj; cases hj; exact hv
            · rw [if_neg c1] at hj; exact h9 a (List.mem_of_getElem? hj)
    · have : l.length = p_n P b := (nI_eq (by omega) (by omega)).mp (by rw [hQ, e5, q4] at e; exact e)
      omega
