section PQ
variable {p : Program} {l : Launch} {e : Env} {R : Room} {s : State} {m : MethodId} {args : Array Value} {below : List Frame} {meth : Method} {c : Code} {H : Heap} {locs : List Loc} {cells slots : Nat} {Q : State → Prop}
variable {cc : ByteArray} {pc : Nat} {ls : Array Slot} {rest stk : List Value} {D : pq_D} {P : Pic} {A : Nat → Prop} {H0 : Heap}
/-- the entry index of the running method's class names field j of class k -/
def pq_fl (s : State) (m : MethodId) (args : Array Value) (index k j : Nat) : Prop := ∃ (r : vw_C) (own ref : String), classes[k]? = some r ∧ j < r.2.2 ∧ s.vm.findClass own = some m.cls ∧ ((Cond.fieldLink own index ref (r.2.1 j).2.1 (r.2.1 j).2.2.1).before args s = true ∨ ∃ host, (Cond.fieldLinkNest own index ref (r.2.1 j).2.1 (r.2.1 j).2.2.1 host).before args s = true) ∧ (∀ x, s.fieldFound? (r.2.1 j).1 (r.2.1 j).2.1 (r.2.1 j).2.2.1 = some x → s.fieldFound? ref (r.2.1 j).2.1 (r.2.1 j).2.2.1 = some x)
theorem pq_hin (hT : pq_T s) {k : Nat} {r : vw_C} (hc : classes[k]? = some r) {j : Nat} (hj : j < r.2.2) : (Cond.lays r.1 (r.2.1 j).1 (r.2.1 j).2.1 (r.2.1 j).2.2.1).before args s = true ∨ (Cond.laysFinal r.1 (r.2.1 j).1 (r.2.1 j).2.1 (r.2.1 j).2.2.1).before args s = true :=
  u_lays (ws := pq_tbl) (fun w hw => hT w hw args) (pq_in r (List.mem_of_getElem? hc)) hj
theorem pq_get (hexec : p.tables.exec = Jvm.exec) (hb : c.code = cc) (hT : pq_T s) (hK : pq_K D s) (hP : Pi D P H) {a k j index : Nat} (L : pq_fl s m args index k j) (hk : p_k P a = k + 1) {v : Value} (hv : pq_V P k j a = v) (hdg : decode cc pc = .ok (.getfield index, 3))
    (kk : W p l e R s m args below meth c H locs cells slots Q (F0 m (pc + 3) ls (v :: rest))) : W p l e R s m args below meth c H locs cells slots Q (F0 m pc ls (.ref a :: rest)) := by
  obtain ⟨r, own, ref, hc, hj, hown, hl, hsame⟩ := L
  obtain ⟨cell, q1, q2, q3, q4⟩ := hP.2.1 a k r hk hc
  obtain ⟨hS, hfc, kC, hkC, hkind⟩ := hK.1 k r hc
  obtain ⟨cf, kf, fi, f, hi, hsl⟩ := hS j hj
  have hst := (u_facts hfc hkC (pq_hin (args := args) hT hc hj) hi).1
  have hvv : cell.slots[f.slot]? = some v := by
    rw [hsl]
    exact (q4 j hj).trans (congrArg some hv)
  rcases hl with hl | ⟨host, hl⟩
  · exact W.getf hexec hb hown hl (hsame _ hi) hst q1 (by rw [q3]; exact fun h => by cases h) hvv rfl rfl hdg kk
  · exact va_Wgetf hexec hb hown hl (hsame _ hi) hst q1 (by rw [q3]; exact fun h => by cases h) hvv rfl rfl hdg kk
theorem pq_geti (hexec : p.tables.exec = Jvm.exec) (hb : c.code = cc) (hT : pq_T s) (hK : pq_K D s) (hP : Pi D P H) {a k j index f : Nat} (L : pq_fl s m args index k j) (hk : p_k P a = k + 1) (hf : pq_F k j = (0, f)) (hdg : decode cc pc = .ok (.getfield index, 3))
    (kk : W p l e R s m args below meth c H locs cells slots Q (F0 m (pc + 3) ls (.int (p_i P f a) :: rest))) : W p l e R s m args below meth c H locs cells slots Q (F0 m pc ls (.ref a :: rest)) :=
  pq_get hexec hb hT hK hP L hk (by unfold pq_V; rw [hf]; rfl) hdg kk
theorem pq_getl (hexec : p.tables.exec = Jvm.exec) (hb : c.code = cc) (hT : pq_T s) (hK : pq_K D s) (hP : Pi D P H) {a k j index f : Nat} (L : pq_fl s m args index k j) (hk : p_k P a = k + 1) (hf : pq_F k j = (1, f)) (hdg : decode cc pc = .ok (.getfield index, 3))
    (kk : W p l e R s m args below meth c H locs cells slots Q (F0 m (pc + 3) ls (.long (p_l P f a) :: rest))) : W p l e R s m args below meth c H locs cells slots Q (F0 m pc ls (.ref a :: rest)) :=
  pq_get hexec hb hT hK hP L hk (by unfold pq_V; rw [hf]; rfl) hdg kk
theorem pq_getr (hexec : p.tables.exec = Jvm.exec) (hb : c.code = cc) (hT : pq_T s) (hK : pq_K D s) (hP : Pi D P H) {a k j index f : Nat} (L : pq_fl s m args index k j) (hk : p_k P a = k + 1) (hf : pq_F k j = (2, f)) (hdg : decode cc pc = .ok (.getfield index, 3))
    (kk : W p l e R s m args below meth c H locs cells slots Q (F0 m (pc + 3) ls (va_rf (p_r P f a) :: rest))) : W p l e R s m args below meth c H locs cells slots Q (F0 m pc ls (.ref a :: rest)) :=
  pq_get hexec hb hT hK hP L hk (by unfold pq_V; rw [hf]; rfl) hdg kk
/-- since the start: what lies outside A is as it was; all that is pictured, and all that is new, lies in A -/
def Sg (A : Nat → Prop) (H0 H : Heap) (P : Pic) (locs : List Loc) : Prop := va_S A H0 H locs ∧ (∀ q, p_k P q ≠ 0 → A q) ∧ ∀ q, H0.size ≤ q → A q
theorem Sg.put {P' : Pic} {H1 : Heap} {a i : Nat} (h : Sg A H0 H P locs) (hk : p_k P a ≠ 0) (hk' : p_k P' = p_k P) (hz : H1.size = H.size) (ho : ∀ q : Nat, q ≠ a → H1[q]? = H[q]?) : Sg A H0 H1 P' (locs ++ [⟨a, i⟩]) :=
  ⟨va_S.put h.1 hz ho (h.2.1 a hk), by rw [hk']; exact h.2.1, h.2.2⟩
/-- the heap has changed in one object's field -/
theorem Pi.put {P' : Pic} {H1 : Heap} {a k j : Nat} {r : vw_C} {v : Value} {cell : Cell} (hT : pq_T s) (hK : pq_K D s) (hP : Pi D P H) (hk : p_k P a = k + 1) (hc : classes[k]? = some r) (hj : j < r.2.2) (q1 : H[a]? = some cell) (q2 : cell.cls = D.1 k) (q3 : cell.vm = .none) (q4 : ∀ j', j' < r.2.2 → cell.slots[D.2.1 k j']? = some (pq_V P k j' a))
    (e1 : H1[a]? = some (cell.setSlot (D.2.1 k j) v)) (e2 : H1.size = H.size) (e3 : ∀ q : Nat, q ≠ a → H1[q]? = H[q]?)
    (hk' : p_k P' = p_k P) (hz' : p_z P' = p_z P) (hm' : p_m P' = p_m P) (hA' : ∀ t b, pq_A P' t b = pq_A P t b) (hV1 : ∀ b k' j', b ≠ a → pq_V P' k' j' b = pq_V P k' j' b) (hV2 : ∀ j', j' < r.2.2 → j' ≠ j → pq_V P' k j' a = pq_V P k j' a) (hV3 : pq_V P' k j a = v) : Pi D P' H1 := by
  obtain ⟨hkN, hcr⟩ := pq_cl hc
  refine ⟨⟨by rw [e2, hz']; exact hP.1.1, by rw [hk', hz']; exact hP.1.2⟩, ?_, ?_, by rw [hm']; exact hP.2.2.2⟩
  · intro b k' r' hb hc'
    rw [hk'] at hb
    by_cases hba : b = a
    · subst hba
      have hkk : k' = k := by rw [hk] at hb; omega
      subst hkk
      cases hc.symm.trans hc'
      have hap := va_apart (own := "") (ci := k') (args := #[]) (s := s) (Ts := pq_tbl) (D := (D.1, D.2.1)) (cl := classes) (tys := pq_tys D) (C := r.1) (T := r.2.1) (N := r.2.2) (fun w hw => hT w hw #[]) (pq_in r (List.mem_of_getElem? hc)) (fun j => (pq_types.getD k' []).getD j .int) (by have := pq_tyok k' hkN; rw [hcr] at this; exact this) (by have := pq_nmok k' hkN; rw [hcr] at this; exact this) hK hc
      refine ⟨_, e1, q2, q3, fun i hi => ?_⟩
      have ht := t_set (cell := cell) (N := r.2.2) (iS := D.2.1 k') (V := fun j => pq_V P k' j b) q4 hap hj v i hi
      rw [ht]
      by_cases hij : i = j
      · subst hij; simp only [updV, if_true]; rw [hV3]
      · simp only [updV, if_neg hij]; rw [hV2 i hi hij]
    · obtain ⟨cell', w1, w2, w3, w4⟩ := hP.2.1 b k' r' hb hc'
      exact ⟨cell', by rw [e3 b hba]; exact w1, w2, w3, fun i hi => by rw [w4 i hi]; exact congrArg some (hV1 b k' i hba).symm⟩
  · intro b t hb
    rw [hk'] at hb
    have hba : b ≠ a := fun h => by subst h; rw [hk] at hb; omega
    rw [e3 b hba, hA']
    exact hP.2.2.1 b t hb
theorem pq_put (hexec : p.tables.exec = Jvm.exec) (hb : c.code = cc) (hT : pq_T s) (hK : pq_K D s) (hP : Pi D P H) (hS : Sg A H0 H P locs) {a k j index : Nat} (L : pq_fl s m args index k j) (hk : p_k P a = k + 1) (hnf : ((classes.getD k ("", F_Wa, 0)).2.1 j).2.2.2 = false) {v : Value} (hn : narrow ((pq_types.getD k []).getD j .int) v = v) (hfit : fits ((pq_types.getD k []).getD j .int) v = true)
    {P' : Pic} (hk' : p_k P' = p_k P) (hz' : p_z P' = p_z P) (hm' : p_m P' = p_m P) (hA' : ∀ t b, pq_A P' t b = pq_A P t b) (hV1 : ∀ b k' j', b ≠ a → pq_V P' k' j' b = pq_V P k' j' b) (hV2 : ∀ j', k < 14 → j < (classes.getD k ("", F_Wa, 0)).2.2 → j' < (classes.getD k ("", F_Wa, 0)).2.2 → j' ≠ j → pq_V P' k j' a = pq_V P k j' a) (hV3 : pq_V P' k j a = v) (hdg : decode cc pc = .ok (.putfield index, 3))
    (kk : ∀ (H1 : Heap) (locs1 : List Loc), Pi D P' H1 → Sg A H0 H1 P' locs1 → W p l e R s m args below meth c H1 locs1 cells slots Q (F0 m (pc + 3) ls rest)) : W p l e R s m args below meth c H locs cells slots Q (F0 m pc ls (v :: .ref a :: rest)) := by
  obtain ⟨r, own, ref, hc, hj, hown, hl, hsame⟩ := L
  obtain ⟨hkN, hcr⟩ := pq_cl hc
  rw [hcr] at hnf hV2
  obtain ⟨cell, q1, q2, q3, q4⟩ := hP.2.1 a k r hk hc
  obtain ⟨hSl, hfc, kC, hkC, hkind⟩ := hK.1 k r hc
  obtain ⟨cf, kf, fi, f, hi, hsl⟩ := hSl j hj
  have hst := (u_facts hfc hkC (pq_hin (args := args) hT hc hj) hi).1
  have hlay := hT _ (pq_in r (List.mem_of_getElem? hc) _ (u_in_lay hj)) args
  unfold u_lay at hlay
  rw [if_neg (by rw [hnf]; decide)] at hlay
  have hd : parseFieldDescriptor (r.2.1 j).2.2.1 = some ((pq_types.getD k []).getD j .int) := by have := pq_tyok k hkN; rw [hcr] at this; exact this j hj
  have h6 := u_store hfc hkC hkind hlay hi hd hn hfit
  have hlt : f.slot < cell.slots.size := by rw [hsl]; exact k2_hasslot (q4 j hj)
  have hkne : p_k P a ≠ 0 := by rw [hk]; omega
  have fin : ∀ H' : Heap, H'[a]? = some (cell.setSlot f.slot v) → H'.size = H.size → (∀ q : Nat, q ≠ a → H'[q]? = H[q]?) → W p l e R s m args below meth c H' (locs ++ [⟨a, f.slot⟩]) cells slots Q (F0 m (pc + 3) ls rest) := by
    intro H' e1 e2 e3
    rw [hsl] at e1
    exact kk H' _ (Pi.put hT hK hP hk hc hj q1 q2 q3 q4 e1 e2 e3 hk' hz' hm' hA' hV1 (fun j' h1 h2 => hV2 j' hkN hj h1 h2) hV3) (hS.put hkne hk' e2 e3)
  rcases hl with hl | ⟨host, hl⟩
  · exact W.putK hexec hb (f := f) ⟨hown, hl, ⟨_, _, _, hsame _ hi⟩, hst⟩ (by rw [q2]; exact h6) q1 q3 hlt rfl rfl hdg fin
  · exact va_WputK hexec hb (f := f) hown hl (hsame _ hi) hst (by rw [q2]; exact h6) q1 q3 hlt rfl rfl hdg fin
theorem pq_putF (hexec : p.tables.exec = Jvm.exec) (hb : c.code = cc) (hT : pq_T s) (hK : pq_K D s) (hP : Pi D P H) (hS : Sg A H0 H P locs) {a k j index : Nat} {own : String} (hown : s.vm.findClass own = some m.cls) (hin : meth.name = "<init>") (hdecl : ((classes.getD k ("", F_Wa, 0)).2.1 j).1 = own) (hc0 : k < 14) (hj : j < (classes.getD k ("", F_Wa, 0)).2.2) (hl : (Cond.fieldLink own index own ((classes.getD k ("", F_Wa, 0)).2.1 j).2.1 ((classes.getD k ("", F_Wa, 0)).2.1 j).2.2.1).before args s = true) (hk : p_k P a = k + 1) (hnf : ((classes.getD k ("", F_Wa, 0)).2.1 j).2.2.2 = true) {v : Value} (hn : narrow ((pq_types.getD k []).getD j .int) v = v) (hfit : fits ((pq_types.getD k []).getD j .int) v = true)
    {P' : Pic} (hk' : p_k P' = p_k P) (hz' : p_z P' = p_z P) (hm' : p_m P' = p_m P) (hA' : ∀ t b, pq_A P' t b = pq_A P t b) (hV1 : ∀ b k' j', b ≠ a → pq_V P' k' j' b = pq_V P k' j' b) (hV2 : ∀ j', k < 14 → j < (classes.getD k ("", F_Wa, 0)).2.2 → j' < (classes.getD k ("", F_Wa, 0)).2.2 → j' ≠ j → pq_V P' k j' a = pq_V P k j' a) (hV3 : pq_V P' k j a = v) (hdg : decode cc pc = .ok (.putfield index, 3))
    (kk : ∀ (H1 : Heap) (locs1 : List Loc), Pi D P' H1 → Sg A H0 H1 P' locs1 → W p l e R s m args below meth c H1 locs1 cells slots Q (F0 m (pc + 3) ls rest)) : W p l e R s m args below meth c H locs cells slots Q (F0 m pc ls (v :: .ref a :: rest)) := by
  have hc : classes[k]? = some (classes.getD k ("", F_Wa, 0)) := by
    rw [List.getD_eq_getElem?_getD, List.getElem?_eq_getElem (show k < classes.length from hc0)]; rfl
  generalize hcr : classes.getD k ("", F_Wa, 0) = r at *
  obtain ⟨cell, q1, q2, q3, q4⟩ := hP.2.1 a k r hk hc
  obtain ⟨hSl, hfc, kC, hkC, hkind⟩ := hK.1 k r hc
  obtain ⟨cf, kf, fi, f, hi, hsl⟩ := hSl j hj
  have hst := (u_facts hfc hkC (pq_hin (args := args) hT hc hj) hi).1
  have hlay := hT _ (pq_in r (List.mem_of_getElem? hc) _ (u_in_lay hj)) args
  unfold u_lay at hlay
  rw [if_pos hnf] at hlay
  have hd : parseFieldDescriptor (r.2.1 j).2.2.1 = some ((pq_types.getD k []).getD j .int) := by have := pq_tyok k hc0; rw [hcr] at this; exact this j hj
  have hcf : m.cls = cf := by
    obtain ⟨_, _, c', _, _, _, -, -, hf', -, -, -, hown2, -⟩ := Cond.laysFinal_spec hlay
    have e1 : c' = cf := by have := hi.symm.trans hf'; simp at this; exact this.1.symm
    rw [hdecl] at hown2
    rw [← e1]; exact Option.some.inj (hown.symm.trans hown2)
  have h6 := u_fits hfc hkC hkind (Or.inr hlay) hi hd hn hfit
  have hlt : f.slot < cell.slots.size := by rw [hsl]; exact k2_hasslot (q4 j hj)
  have hkne : p_k P a ≠ 0 := by rw [hk]; omega
  have hi2 := hi
  rw [hdecl] at hi2
  refine W.putFinK hexec hb hown hl hi2 hst hcf hin (by rw [q2]; exact h6) q1 q3 hlt rfl rfl hdg fun H' e1 e2 e3 => ?_
  rw [hsl] at e1
  exact kk H' _ (Pi.put hT hK hP hk hc hj q1 q2 q3 q4 e1 e2 e3 hk' hz' hm' hA' hV1 (fun j' h1 h2 => hV2 j' hc0 hj h1 h2) hV3) (hS.put hkne hk' e2 e3)
theorem pq_Vi1 {f a : Nat} {x : Int32} : ∀ b k' j', b ≠ a → pq_V (s_i P f a x) k' j' b = pq_V P k' j' b := by
  intro b k' j' hb
  unfold pq_V
  split
  · show Value.int (up2 (p_i P) f a x _ b) = _
    simp [up2, hb]
  · rfl
  · rfl
theorem pq_Vl1 {f a : Nat} {x : Int64} : ∀ b k' j', b ≠ a → pq_V (s_l P f a x) k' j' b = pq_V P k' j' b := by
  intro b k' j' hb
  unfold pq_V
  split
  · rfl
  · show Value.long (up2 (p_l P) f a x _ b) = _
    simp [up2, hb]
  · rfl
theorem pq_Vr1 {f a : Nat} {x : Option Nat} : ∀ b k' j', b ≠ a → pq_V (s_r P f a x) k' j' b = pq_V P k' j' b := by
  intro b k' j' hb
  unfold pq_V
  split
  · rfl
  · rfl
  · show va_rf (up2 (p_r P) f a x _ b) = _
    simp [up2, hb]
theorem pq_Vi2 {f a k j : Nat} {x : Int32} (hf : pq_F k j = (0, f)) : ∀ j', k < 14 → j < (classes.getD k ("", F_Wa, 0)).2.2 → j' < (classes.getD k ("", F_Wa, 0)).2.2 → j' ≠ j → pq_V (s_i P f a x) k j' a = pq_V P k j' a := by
  intro j' h0 h1 h2 h3
  have h4 := pq_idok k h0 j' h2 j h1 h3
  rw [hf] at h4
  unfold pq_V
  split
  · show Value.int (up2 (p_i P) f a x _ a) = _
    simp [up2, show (pq_F k j').2 ≠ f from h4]
  · rfl
  · rfl
theorem pq_Vl2 {f a k j : Nat} {x : Int64} (hf : pq_F k j = (1, f)) : ∀ j', k < 14 → j < (classes.getD k ("", F_Wa, 0)).2.2 → j' < (classes.getD k ("", F_Wa, 0)).2.2 → j' ≠ j → pq_V (s_l P f a x) k j' a = pq_V P k j' a := by
  intro j' h0 h1 h2 h3
  have h4 := pq_idok k h0 j' h2 j h1 h3
  rw [hf] at h4
  unfold pq_V
  split
  · rfl
  · show Value.long (up2 (p_l P) f a x _ a) = _
    simp [up2, show (pq_F k j').2 ≠ f from h4]
  · rfl
theorem pq_Vr2 {f a k j : Nat} {x : Option Nat} (hf : pq_F k j = (2, f)) : ∀ j', k < 14 → j < (classes.getD k ("", F_Wa, 0)).2.2 → j' < (classes.getD k ("", F_Wa, 0)).2.2 → j' ≠ j → pq_V (s_r P f a x) k j' a = pq_V P k j' a := by
  intro j' h0 h1 h2 h3
  have h4 := pq_idok k h0 j' h2 j h1 h3
  rw [hf] at h4
  unfold pq_V
  split
  · rfl
  · rfl
  · show va_rf (up2 (p_r P) f a x _ a) = _
    simp [up2, show (pq_F k j').2 ≠ f from h4]
theorem pq_Vi3 {f a k j : Nat} {x : Int32} (hf : pq_F k j = (0, f)) : pq_V (s_i P f a x) k j a = .int x := by
  unfold pq_V; rw [hf]; show Value.int (up2 (p_i P) f a x f a) = _; simp [up2]
theorem pq_Vl3 {f a k j : Nat} {x : Int64} (hf : pq_F k j = (1, f)) : pq_V (s_l P f a x) k j a = .long x := by
  unfold pq_V; rw [hf]; show Value.long (up2 (p_l P) f a x f a) = _; simp [up2]
theorem pq_Vr3 {f a k j : Nat} {x : Option Nat} (hf : pq_F k j = (2, f)) : pq_V (s_r P f a x) k j a = va_rf x := by
  unfold pq_V; rw [hf]; show va_rf (up2 (p_r P) f a x f a) = _; simp [up2]
theorem pq_puti (hexec : p.tables.exec = Jvm.exec) (hb : c.code = cc) (hT : pq_T s) (hK : pq_K D s) (hP : Pi D P H) (hS : Sg A H0 H P locs) {a k j index f : Nat} {x : Int32} (L : pq_fl s m args index k j) (hk : p_k P a = k + 1) (hf : pq_F k j = (0, f)) (hnf : ((classes.getD k ("", F_Wa, 0)).2.1 j).2.2.2 = false) (hn : narrow ((pq_types.getD k []).getD j .int) (.int x) = .int x) (hfit : fits ((pq_types.getD k []).getD j .int) (.int x) = true) (hdg : decode cc pc = .ok (.putfield index, 3))
    (kk : ∀ (H1 : Heap) (locs1 : List Loc), Pi D (s_i P f a x) H1 → Sg A H0 H1 (s_i P f a x) locs1 → W p l e R s m args below meth c H1 locs1 cells slots Q (F0 m (pc + 3) ls rest)) : W p l e R s m args below meth c H locs cells slots Q (F0 m pc ls (.int x :: .ref a :: rest)) :=
  pq_put hexec hb hT hK hP hS L hk hnf hn hfit (P' := s_i P f a x) rfl rfl rfl (fun _ _ => rfl) pq_Vi1 (pq_Vi2 hf) (pq_Vi3 hf) hdg kk
theorem pq_putl (hexec : p.tables.exec = Jvm.exec) (hb : c.code = cc) (hT : pq_T s) (hK : pq_K D s) (hP : Pi D P H) (hS : Sg A H0 H P locs) {a k j index f : Nat} {x : Int64} (L : pq_fl s m args index k j) (hk : p_k P a = k + 1) (hf : pq_F k j = (1, f)) (hnf : ((classes.getD k ("", F_Wa, 0)).2.1 j).2.2.2 = false) (hn : narrow ((pq_types.getD k []).getD j .int) (.long x) = .long x) (hfit : fits ((pq_types.getD k []).getD j .int) (.long x) = true) (hdg : decode cc pc = .ok (.putfield index, 3))
    (kk : ∀ (H1 : Heap) (locs1 : List Loc), Pi D (s_l P f a x) H1 → Sg A H0 H1 (s_l P f a x) locs1 → W p l e R s m args below meth c H1 locs1 cells slots Q (F0 m (pc + 3) ls rest)) : W p l e R s m args below meth c H locs cells slots Q (F0 m pc ls (.long x :: .ref a :: rest)) :=
  pq_put hexec hb hT hK hP hS L hk hnf hn hfit (P' := s_l P f a x) rfl rfl rfl (fun _ _ => rfl) pq_Vl1 (pq_Vl2 hf) (pq_Vl3 hf) hdg kk
theorem pq_putr (hexec : p.tables.exec = Jvm.exec) (hb : c.code = cc) (hT : pq_T s) (hK : pq_K D s) (hP : Pi D P H) (hS : Sg A H0 H P locs) {a k j index f : Nat} {x : Option Nat} (L : pq_fl s m args index k j) (hk : p_k P a = k + 1) (hf : pq_F k j = (2, f)) (hnf : ((classes.getD k ("", F_Wa, 0)).2.1 j).2.2.2 = false) (hn : narrow ((pq_types.getD k []).getD j .int) (va_rf x) = va_rf x) (hfit : fits ((pq_types.getD k []).getD j .int) (va_rf x) = true) (hdg : decode cc pc = .ok (.putfield index, 3))
    (kk : ∀ (H1 : Heap) (locs1 : List Loc), Pi D (s_r P f a x) H1 → Sg A H0 H1 (s_r P f a x) locs1 → W p l e R s m args below meth c H1 locs1 cells slots Q (F0 m (pc + 3) ls rest)) : W p l e R s m args below meth c H locs cells slots Q (F0 m pc ls (va_rf x :: .ref a :: rest)) :=
  pq_put hexec hb hT hK hP hS L hk hnf hn hfit (P' := s_r P f a x) rfl rfl rfl (fun _ _ => rfl) pq_Vr1 (pq_Vr2 hf) (pq_Vr3 hf) hdg kk
theorem pq_putFi (hexec : p.tables.exec = Jvm.exec) (hb : c.code = cc) (hT : pq_T s) (hK : pq_K D s) (hP : Pi D P H) (hS : Sg A H0 H P locs) {a k j index f : Nat} {x : Int32} {own : String} (hown : s.vm.findClass own = some m.cls) (hin : meth.name = "<init>") (hdecl : ((classes.getD k ("", F_Wa, 0)).2.1 j).1 = own) (hc0 : k < 14) (hj : j < (classes.getD k ("", F_Wa, 0)).2.2) (hl : (Cond.fieldLink own index own ((classes.getD k ("", F_Wa, 0)).2.1 j).2.1 ((classes.getD k ("", F_Wa, 0)).2.1 j).2.2.1).before args s = true) (hk : p_k P a = k + 1) (hf : pq_F k j = (0, f)) (hnf : ((classes.getD k ("", F_Wa, 0)).2.1 j).2.2.2 = true) (hn : narrow ((pq_types.getD k []).getD j .int) (.int x) = .int x) (hfit : fits ((pq_types.getD k []).getD j .int) (.int x) = true) (hdg : decode cc pc = .ok (.putfield index, 3))
    (kk : ∀ (H1 : Heap) (locs1 : List Loc), Pi D (s_i P f a x) H1 → Sg A H0 H1 (s_i P f a x) locs1 → W p l e R s m args below meth c H1 locs1 cells slots Q (F0 m (pc + 3) ls rest)) : W p l e R s m args below meth c H locs cells slots Q (F0 m pc ls (.int x :: .ref a :: rest)) :=
  pq_putF hexec hb hT hK hP hS hown hin hdecl hc0 hj hl hk hnf hn hfit (P' := s_i P f a x) rfl rfl rfl (fun _ _ => rfl) pq_Vi1 (pq_Vi2 hf) (pq_Vi3 hf) hdg kk
theorem pq_putFl (hexec : p.tables.exec = Jvm.exec) (hb : c.code = cc) (hT : pq_T s) (hK : pq_K D s) (hP : Pi D P H) (hS : Sg A H0 H P locs) {a k j index f : Nat} {x : Int64} {own : String} (hown : s.vm.findClass own = some m.cls) (hin : meth.name = "<init>") (hdecl : ((classes.getD k ("", F_Wa, 0)).2.1 j).1 = own) (hc0 : k < 14) (hj : j < (classes.getD k ("", F_Wa, 0)).2.2) (hl : (Cond.fieldLink own index own ((classes.getD k ("", F_Wa, 0)).2.1 j).2.1 ((classes.getD k ("", F_Wa, 0)).2.1 j).2.2.1).before args s = true) (hk : p_k P a = k + 1) (hf : pq_F k j = (1, f)) (hnf : ((classes.getD k ("", F_Wa, 0)).2.1 j).2.2.2 = true) (hn : narrow ((pq_types.getD k []).getD j .int) (.long x) = .long x) (hfit : fits ((pq_types.getD k []).getD j .int) (.long x) = true) (hdg : decode cc pc = .ok (.putfield index, 3))
    (kk : ∀ (H1 : Heap) (locs1 : List Loc), Pi D (s_l P f a x) H1 → Sg A H0 H1 (s_l P f a x) locs1 → W p l e R s m args below meth c H1 locs1 cells slots Q (F0 m (pc + 3) ls rest)) : W p l e R s m args below meth c H locs cells slots Q (F0 m pc ls (.long x :: .ref a :: rest)) :=
  pq_putF hexec hb hT hK hP hS hown hin hdecl hc0 hj hl hk hnf hn hfit (P' := s_l P f a x) rfl rfl rfl (fun _ _ => rfl) pq_Vl1 (pq_Vl2 hf) (pq_Vl3 hf) hdg kk
theorem pq_putFr (hexec : p.tables.exec = Jvm.exec) (hb : c.code = cc) (hT : pq_T s) (hK : pq_K D s) (hP : Pi D P H) (hS : Sg A H0 H P locs) {a k j index f : Nat} {x : Option Nat} {own : String} (hown : s.vm.findClass own = some m.cls) (hin : meth.name = "<init>") (hdecl : ((classes.getD k ("", F_Wa, 0)).2.1 j).1 = own) (hc0 : k < 14) (hj : j < (classes.getD k ("", F_Wa, 0)).2.2) (hl : (Cond.fieldLink own index own ((classes.getD k ("", F_Wa, 0)).2.1 j).2.1 ((classes.getD k ("", F_Wa, 0)).2.1 j).2.2.1).before args s = true) (hk : p_k P a = k + 1) (hf : pq_F k j = (2, f)) (hnf : ((classes.getD k ("", F_Wa, 0)).2.1 j).2.2.2 = true) (hn : narrow ((pq_types.getD k []).getD j .int) (va_rf x) = va_rf x) (hfit : fits ((pq_types.getD k []).getD j .int) (va_rf x) = true) (hdg : decode cc pc = .ok (.putfield index, 3))
    (kk : ∀ (H1 : Heap) (locs1 : List Loc), Pi D (s_r P f a x) H1 → Sg A H0 H1 (s_r P f a x) locs1 → W p l e R s m args below meth c H1 locs1 cells slots Q (F0 m (pc + 3) ls rest)) : W p l e R s m args below meth c H locs cells slots Q (F0 m pc ls (va_rf x :: .ref a :: rest)) :=
  pq_putF hexec hb hT hK hP hS hown hin hdecl hc0 hj hl hk hnf hn hfit (P' := s_r P f a x) rfl rfl rfl (fun _ _ => rfl) pq_Vr1 (pq_Vr2 hf) (pq_Vr3 hf) hdg kk
end PQ
