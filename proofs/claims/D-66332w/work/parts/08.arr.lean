theorem up_ne {α : Type} {f : Nat → α} {k j : Nat} {v : α} (h : j ≠ k) : va_up f k v j = f j := by simp [va_up, h]
theorem up_eq {α : Type} {f : Nat → α} {k : Nat} {v : α} : va_up f k v k = v := by simp [va_up]
section PA
variable {p : Program} {l : Launch} {e : Env} {R : Room} {s : State} {m : MethodId} {args : Array Value} {below : List Frame} {meth : Method} {c : Code} {H : Heap} {locs : List Loc} {cells slots : Nat} {Q : State → Prop}
variable {cc : ByteArray} {pc : Nat} {ls : Array Slot} {rest stk : List Value} {D : pq_D} {P : Pic} {A : Nat → Prop} {H0 : Heap}
theorem pq_one {a t : Nat} (hP : Pi D P H) (hk : p_k P a = t + 101) : va_P (D.1, D.2.1) classes [(a, .inl (D.2.2 t, pq_A P t a))] H := by
  intro k q hq
  cases k with
  | zero => cases hq; exact hP.2.2.1 a t hk
  | succ k => simp at hq
theorem pq_iald (hexec : p.tables.exec = Jvm.exec) (hb : c.code = cc) (hK : pq_K D s) (hP : Pi D P H) {a : Nat} (hk : p_k P a = 101) {i : Int32} (hin : vp_in i (p_n P a)) (hdg : decode cc pc = .ok (.iaload, 1))
    (kk : W p l e R s m args below meth c H locs cells slots Q (F0 m (pc + 1) ls (.int (p_ai P a i.toNatClampNeg) :: rest))) : W p l e R s m args below meth c H locs cells slots Q (F0 m pc ls (.int i :: .ref a :: rest)) :=
  va_iald hexec hb hK (pq_one hP (t := 0) hk) 0 0 rfl rfl hin hdg kk
theorem pq_zald (hexec : p.tables.exec = Jvm.exec) (hb : c.code = cc) (hK : pq_K D s) (hP : Pi D P H) {a : Nat} (hk : p_k P a = 103) {i : Int32} (hin : vp_in i (p_n P a)) (hdg : decode cc pc = .ok (.baload, 1))
    (kk : W p l e R s m args below meth c H locs cells slots Q (F0 m (pc + 1) ls (.int (p_ai P a i.toNatClampNeg) :: rest))) : W p l e R s m args below meth c H locs cells slots Q (F0 m pc ls (.int i :: .ref a :: rest)) :=
  va_zald hexec hb hK (pq_one hP (t := 2) hk) 0 2 rfl rfl hin hdg kk
theorem pq_lald (hexec : p.tables.exec = Jvm.exec) (hb : c.code = cc) (hK : pq_K D s) (hP : Pi D P H) {a : Nat} (hk : p_k P a = 102) {i : Int32} (hin : vp_in i (p_n P a)) (hdg : decode cc pc = .ok (.laload, 1))
    (kk : W p l e R s m args below meth c H locs cells slots Q (F0 m (pc + 1) ls (.long (p_al P a i.toNatClampNeg) :: rest))) : W p l e R s m args below meth c H locs cells slots Q (F0 m pc ls (.int i :: .ref a :: rest)) :=
  va_lald hexec hb hK (pq_one hP (t := 1) hk) 0 1 rfl rfl hin hdg kk
theorem pq_aald (hexec : p.tables.exec = Jvm.exec) (hb : c.code = cc) (hK : pq_K D s) (hP : Pi D P H) {a : Nat} (hk : p_k P a = 104 ∨ p_k P a = 105) {i : Int32} (hin : vp_in i (p_n P a)) (hdg : decode cc pc = .ok (.aaload, 1))
    (kk : W p l e R s m args below meth c H locs cells slots Q (F0 m (pc + 1) ls (va_rf (p_aq P a i.toNatClampNeg) :: rest))) : W p l e R s m args below meth c H locs cells slots Q (F0 m pc ls (.int i :: .ref a :: rest)) := by
  rcases hk with hk | hk
  · exact va_aldq hexec hb hK (pq_one hP (t := 3) hk) 0 3 rfl rfl hin hdg kk
  · exact va_aldq hexec hb hK (pq_one hP (t := 4) hk) 0 4 rfl rfl hin hdg kk
theorem pq_alen (hexec : p.tables.exec = Jvm.exec) (hb : c.code = cc) (hK : pq_K D s) (hP : Pi D P H) {a t : Nat} (hk : p_k P a = t + 101) (ht : t < 5) (hdg : decode cc pc = .ok (.arraylength, 1))
    (kk : W p l e R s m args below meth c H locs cells slots Q (F0 m (pc + 1) ls (.int (nI (p_n P a)) :: rest))) : W p l e R s m args below meth c H locs cells slots Q (F0 m pc ls (.ref a :: rest)) := by
  have h : ∃ ty, (pq_tys D)[t]? = some (D.2.2 t, ty) := by
    rcases (show t = 0 ∨ t = 1 ∨ t = 2 ∨ t = 3 ∨ t = 4 by omega) with rfl | rfl | rfl | rfl | rfl <;> exact ⟨_, rfl⟩
  obtain ⟨ty, hty⟩ := h
  exact va_alen hexec hb hK (pq_one hP hk) 0 t rfl hty rfl hdg kk
/-- the heap has changed in one array -/
theorem Pi.arr {P' : Pic} {H1 : Heap} {a t : Nat} (hP : Pi D P H) (hk : p_k P a = t + 101) (e1 : H1[a]? = some (vp_cell (D.2.2 t) (pq_A P' t a))) (e2 : H1.size = H.size) (e3 : ∀ q : Nat, q ≠ a → H1[q]? = H[q]?)
    (hk' : p_k P' = p_k P) (hz' : p_z P' = p_z P) (hm' : p_m P' = p_m P) (hV : ∀ k j b, k < 14 → pq_V P' k j b = pq_V P k j b) (hA : ∀ t' b, b ≠ a → pq_A P' t' b = pq_A P t' b) : Pi D P' H1 := by
  refine ⟨⟨by rw [e2, hz']; exact hP.1.1, by rw [hk', hz']; exact hP.1.2⟩, ?_, ?_, by rw [hm']; exact hP.2.2.2⟩
  · intro b k r hb hc
    rw [hk'] at hb
    have hk14 := (pq_cl hc).1
    have hba : b ≠ a := fun h => by subst h; rw [hk] at hb; omega
    obtain ⟨cell', w1, w2, w3, w4⟩ := hP.2.1 b k r hb hc
    exact ⟨cell', by rw [e3 b hba]; exact w1, w2, w3, fun i hi => by rw [w4 i hi]; exact congrArg some (hV k i b hk14).symm⟩
  · intro b t' hb
    rw [hk'] at hb
    by_cases hba : b = a
    · subst hba
      have : t' = t := by rw [hk] at hb; omega
      subst this
      exact e1
    · rw [e3 b hba, hA t' b hba]
      exact hP.2.2.1 b t' hb
theorem pq_Aai {a i : Nat} {x : Int32} : ∀ t' b, b ≠ a → pq_A (s_ai P a i x) t' b = pq_A P t' b := by
  intro t' b hb
  have h : p_ai (s_ai P a i x) b = p_ai P b := by
    funext j
    show up2 (p_ai P) a i x b j = _
    simp [up2, hb]
  unfold pq_A
  rw [h]
  rfl
theorem pq_Aal {a i : Nat} {x : Int64} : ∀ t' b, b ≠ a → pq_A (s_al P a i x) t' b = pq_A P t' b := by
  intro t' b hb
  have h : p_al (s_al P a i x) b = p_al P b := by
    funext j
    show up2 (p_al P) a i x b j = _
    simp [up2, hb]
  unfold pq_A
  rw [h]
  rfl
theorem pq_Aaq {a i : Nat} {x : Option Nat} : ∀ t' b, b ≠ a → pq_A (s_aq P a i x) t' b = pq_A P t' b := by
  intro t' b hb
  have h : p_aq (s_aq P a i x) b = p_aq P b := by
    funext j
    show up2 (p_aq P) a i x b j = _
    simp [up2, hb]
  unfold pq_A
  rw [h]
  rfl
theorem pq_iast (hexec : p.tables.exec = Jvm.exec) (hb : c.code = cc) (hK : pq_K D s) (hP : Pi D P H) (hS : Sg A H0 H P locs) {a : Nat} (hk : p_k P a = 101) {i x : Int32} (hin : vp_in i (p_n P a)) (hdg : decode cc pc = .ok (.iastore, 1))
    (kk : ∀ (H1 : Heap) (locs1 : List Loc), Pi D (s_ai P a i.toNatClampNeg x) H1 → Sg A H0 H1 (s_ai P a i.toNatClampNeg x) locs1 → W p l e R s m args below meth c H1 locs1 cells slots Q (F0 m (pc + 1) ls rest)) : W p l e R s m args below meth c H locs cells slots Q (F0 m pc ls (.int x :: .int i :: .ref a :: rest)) := by
  have hc : H[a]? = some (vp_cell (D.2.2 0) (p_n P a, .inl (p_ai P a))) := hP.2.2.1 a 0 hk
  refine W.iast hexec hb hc ((hK.2 0 _ rfl).1 (p_n P a) (fun j => .int (p_ai P a j))) (fun q => by cases q) (by show ¬ (i < 0 ∨ (arrV _ _ _).slots.size ≤ _); rw [arrV_size]; exact hin) rfl rfl hdg fun H1 e1 e2 e3 => ?_
  refine kk H1 _ (Pi.arr (t := 0) hP hk ?_ e2 e3 rfl rfl rfl (fun _ _ _ _ => rfl) pq_Aai) (hS.put (by rw [hk]; decide) rfl e2 e3)
  rw [e1, vp_cell_i, arrV_store]
  rw [show vp_cell (D.2.2 0) (pq_A (s_ai P a i.toNatClampNeg x) 0 a) = arrV (D.2.2 0) (p_n P a) (fun j => .int (up2 (p_ai P) a i.toNatClampNeg x a j)) from rfl]
  congr 2
  funext q
  show _ = Value.int (up2 (p_ai P) a i.toNatClampNeg x a q)
  by_cases hq : q = i.toNatClampNeg
  · subst hq; simp [updV, up2]
  · simp [updV, up2, hq]
theorem pq_zast (hexec : p.tables.exec = Jvm.exec) (hb : c.code = cc) (hK : pq_K D s) (hP : Pi D P H) (hS : Sg A H0 H P locs) {a : Nat} (hk : p_k P a = 103) {i x : Int32} (hin : vp_in i (p_n P a)) (hx : x = 0 ∨ x = 1) (hdg : decode cc pc = .ok (.bastore, 1))
    (kk : ∀ (H1 : Heap) (locs1 : List Loc), Pi D (s_ai P a i.toNatClampNeg x) H1 → Sg A H0 H1 (s_ai P a i.toNatClampNeg x) locs1 → W p l e R s m args below meth c H1 locs1 cells slots Q (F0 m (pc + 1) ls rest)) : W p l e R s m args below meth c H locs cells slots Q (F0 m pc ls (.int x :: .int i :: .ref a :: rest)) := by
  have hn : narrow .boolean (.int x) = .int x := by rcases hx with rfl | rfl <;> rfl
  have hc : H[a]? = some (vp_cell (D.2.2 2) (p_n P a, .inl (p_ai P a))) := hP.2.2.1 a 2 hk
  refine W.zast hexec hb hc ((hK.2 2 _ rfl).1 (p_n P a) (fun j => .int (p_ai P a j))) (fun q => by cases q) (by show ¬ (i < 0 ∨ (arrV _ _ _).slots.size ≤ _); rw [arrV_size]; exact hin) rfl rfl hdg fun H1 e1 e2 e3 => ?_
  refine kk H1 _ (Pi.arr (t := 2) hP hk ?_ e2 e3 rfl rfl rfl (fun _ _ _ _ => rfl) pq_Aai) (hS.put (by rw [hk]; decide) rfl e2 e3)
  rw [e1, vp_cell_i, arrV_store, hn]
  rw [show vp_cell (D.2.2 2) (pq_A (s_ai P a i.toNatClampNeg x) 2 a) = arrV (D.2.2 2) (p_n P a) (fun j => .int (up2 (p_ai P) a i.toNatClampNeg x a j)) from rfl]
  congr 2
  funext q
  show _ = Value.int (up2 (p_ai P) a i.toNatClampNeg x a q)
  by_cases hq : q = i.toNatClampNeg
  · subst hq; simp [updV, up2]
  · simp [updV, up2, hq]
theorem pq_last (hexec : p.tables.exec = Jvm.exec) (hb : c.code = cc) (hK : pq_K D s) (hP : Pi D P H) (hS : Sg A H0 H P locs) {a : Nat} (hk : p_k P a = 102) {i : Int32} {x : Int64} (hin : vp_in i (p_n P a)) (hdg : decode cc pc = .ok (.lastore, 1))
    (kk : ∀ (H1 : Heap) (locs1 : List Loc), Pi D (s_al P a i.toNatClampNeg x) H1 → Sg A H0 H1 (s_al P a i.toNatClampNeg x) locs1 → W p l e R s m args below meth c H1 locs1 cells slots Q (F0 m (pc + 1) ls rest)) : W p l e R s m args below meth c H locs cells slots Q (F0 m pc ls (.long x :: .int i :: .ref a :: rest)) := by
  have hc : H[a]? = some (vp_cell (D.2.2 1) (p_n P a, .inr (.inl (p_al P a)))) := hP.2.2.1 a 1 hk
  refine W.last hexec hb hc ((hK.2 1 _ rfl).1 (p_n P a) (fun j => .long (p_al P a j))) (fun q => by cases q) (by show ¬ (i < 0 ∨ (arrV _ _ _).slots.size ≤ _); rw [arrV_size]; exact hin) rfl rfl hdg fun H1 e1 e2 e3 => ?_
  refine kk H1 _ (Pi.arr (t := 1) hP hk ?_ e2 e3 rfl rfl rfl (fun _ _ _ _ => rfl) pq_Aal) (hS.put (by rw [hk]; decide) rfl e2 e3)
  rw [e1, vp_cell_l, arrV_store]
  rw [show vp_cell (D.2.2 1) (pq_A (s_al P a i.toNatClampNeg x) 1 a) = arrV (D.2.2 1) (p_n P a) (fun j => .long (up2 (p_al P) a i.toNatClampNeg x a j)) from rfl]
  congr 2
  funext q
  show _ = Value.long (up2 (p_al P) a i.toNatClampNeg x a q)
  by_cases hq : q = i.toNatClampNeg
  · subst hq; simp [updV, up2]
  · simp [updV, up2, hq]
/-- what is stored into an array of references: null, or an object of class ci that can be cast to the component's class -/
theorem pq_aast (hexec : p.tables.exec = Jvm.exec) (hb : c.code = cc) (hT : pq_T s) (hK : pq_K D s) (hP : Pi D P H) (hS : Sg A H0 H P locs) {a t v ci : Nat} {E : String} {r : vw_C} (hk : p_k P a = t + 101) (ht : (pq_tys D)[t]? = some (D.2.2 t, .object E)) (ht3 : 3 ≤ t) (hv : p_k P v = ci + 1) (hc : classes[ci]? = some r) (hca : Cond.castable r.1 E ∈ pq_tbl) {i : Int32} (hin : vp_in i (p_n P a)) (hdg : decode cc pc = .ok (.aastore, 1))
    (kk : ∀ (H1 : Heap) (locs1 : List Loc), Pi D (s_aq P a i.toNatClampNeg (some v)) H1 → Sg A H0 H1 (s_aq P a i.toNatClampNeg (some v)) locs1 → W p l e R s m args below meth c H1 locs1 cells slots Q (F0 m (pc + 1) ls rest)) : W p l e R s m args below meth c H locs cells slots Q (F0 m pc ls (.ref v :: .int i :: .ref a :: rest)) := by
  have hlt : i.toNatClampNeg < p_n P a := Nat.not_le.mp fun q => hin (Or.inr q)
  have h0 : ¬ i < 0 := fun q => hin (Or.inl q)
  have hA0 : ∀ P0 : Pic, pq_A P0 t a = (p_n P0 a, .inr (.inr (.inr (.inr (p_aq P0 a))))) := by
    intro P0
    unfold pq_A
    match t, ht3 with
    | t + 3, _ => rfl
  have hcell : H[a]? = some (vp_cell (D.2.2 t) (p_n P a, .inr (.inr (.inr (.inr (p_aq P a)))))) := by rw [← hA0]; exact hP.2.2.1 a t hk
  obtain ⟨cellV, g1, g2, g3, -⟩ := hP.2.1 v ci r hv hc
  have hcls := (hK.1 ci r hc).2
  obtain ⟨kA, comp, k1, k2, k3, -⟩ := (hK.2 t _ ht).2
  obtain ⟨kE, hkE, -⟩ := Vm.findClass_spec k3
  obtain ⟨c0, t1, f1, f2, f3⟩ := Cond.castable_spec (hT _ hca args)
  cases hcls.1.symm.trans f1
  cases k3.symm.trans f2
  obtain ⟨kC, hkC, -⟩ := hcls.2
  refine W.aast hexec hb hcell (fun q h => by cases h) (fun h => by cases h) k1 k2 rfl hkE ⟨h0, by show _ < (arrV _ _ _).slots.size; rw [arrV_size]; exact hlt⟩ g1 (fun q h => by rw [g3] at h; cases h) (by rw [g2]; exact hkC) (by rw [g2]; exact f3) rfl rfl hdg fun H1 e1 e2 e3 => ?_
  refine kk H1 _ (Pi.arr (t := t) hP hk ?_ e2 e3 rfl rfl rfl (fun _ _ _ _ => rfl) pq_Aaq) (hS.put (by rw [hk]; omega) rfl e2 e3)
  rw [e1, vp_cell_q, arrV_store, hA0]
  rw [show vp_cell (D.2.2 t) (p_n (s_aq P a i.toNatClampNeg (some v)) a, .inr (.inr (.inr (.inr (p_aq (s_aq P a i.toNatClampNeg (some v)) a))))) = arrV (D.2.2 t) (p_n P a) (fun j => va_rf (up2 (p_aq P) a i.toNatClampNeg (some v) a j)) from rfl]
  congr 2
  funext q
  show _ = va_rf (up2 (p_aq P) a i.toNatClampNeg (some v) a q)
  by_cases hq : q = i.toNatClampNeg
  · subst hq; simp [updV, up2, va_rf]
  · simp [updV, up2, hq]
theorem Sg.new {P' : Pic} {H1 : Heap} {a : Nat} (h : Sg A H0 H P locs) (ha : H.size ≤ a) (hk' : ∀ q, q ≠ a → p_k P' q = p_k P q) (hz : H.size ≤ H1.size) (ho : ∀ q : Nat, q < H.size → H1[q]? = H[q]?) : Sg A H0 H1 P' locs := by
  refine ⟨⟨Nat.le_trans h.1.1 hz, fun q h1 h2 => (ho q (Nat.lt_of_lt_of_le h1 h.1.1)).trans (h.1.2.1 q h1 h2), h.1.2.2⟩, fun q hq => ?_, h.2.2⟩
  by_cases hqa : q = a
  · subst hqa; exact h.2.2 q (Nat.le_trans h.1.1 ha)
  · rw [hk' q hqa] at hq; exact h.2.1 q hq
theorem pq_dflt {ty : FieldType} : (pq_dfl ty = 0 → defaultValue ty = .int 0) ∧ (pq_dfl ty = 1 → defaultValue ty = .long 0) ∧ (pq_dfl ty = 2 → defaultValue ty = .null) := by
  cases ty <;> simp [pq_dfl, defaultValue]
theorem pq_kd3 : ∀ k, k < 14 → ∀ a, a < (classes.getD k ("", F_Wa, 0)).2.2 → (pq_F k a).1 < 3 := by decide +kernel
theorem pq_new (hexec : p.tables.exec = Jvm.exec) (hb : c.code = cc) (hT : pq_T s) (hK : pq_K D s) (hP : Pi D P H) (hS : Sg A H0 H P locs) {k index : Nat} {own : String} {r : vw_C} (hc : classes[k]? = some r) (hown : s.vm.findClass own = some m.cls) (hcl : (Cond.classLink own index r.1).before args s = true) (hinst : (Cond.instantiable r.1 r.2.2).before args s = true) (hini : (Cond.initialized r.1).before args s = true)
    (hcells : cells + 1 ≤ R.cells) (hslots : slots + r.2.2 ≤ R.slots) (hdg : decode cc pc = .ok (.new index, 3))
    (kk : ∀ (q : Nat) (H1 : Heap), p_z P ≤ q → Pi D (s_new P q k) H1 → Sg A H0 H1 (s_new P q k) locs → W p l e R s m args below meth c H1 locs (cells + 1) (slots + r.2.2) Q (F0 m (pc + 3) ls (.ref q :: rest))) : W p l e R s m args below meth c H locs cells slots Q (F0 m pc ls rest) := by
  obtain ⟨hkN, hcr⟩ := pq_cl hc
  have hKn := hK.1 k r hc
  refine W.newcK hexec hb hown hcl hinst hini rfl hdg hcells hslots hKn.2.1 rfl fun H1 kC hkC e1 z1 o1 => ?_
  have hz := hP.1.1
  have hty : ∀ j, j < r.2.2 → parseFieldDescriptor (r.2.1 j).2.2.1 = some ((pq_types.getD k []).getD j .int) := by have := pq_tyok k hkN; rw [hcr] at this; exact this
  have hob := u_born (ws := pq_tbl) (args := args) (fun j => (pq_types.getD k []).getD j .int) (fun w hw => hT w hw args) (pq_in r (List.mem_of_getElem? hc)) hKn hkC e1 hty
  refine kk H.size H1 hz ⟨⟨by show H.size + 1 ≤ _; omega, fun b hb => ?_⟩, ?_, ?_, hP.2.2.2⟩ (hS.new (Nat.le_refl _) (fun q hq => up_ne hq) (by omega) o1)
  · by_cases hba : b = H.size
    · subst hba
      have h2 : p_k (s_new P H.size k) H.size = k + 1 := up_eq
      rw [h2]
      exact ⟨Nat.lt_succ_self _, by omega⟩
    · have h2 : p_k (s_new P H.size k) b = p_k P b := up_ne hba
      rw [h2] at hb ⊢
      have := hP.1.2 b hb
      exact ⟨by show b < H.size + 1; omega, this.2⟩
  · intro b k' r' hb hc'
    by_cases hba : b = H.size
    · subst hba
      have h2 : p_k (s_new P H.size k) H.size = k + 1 := up_eq
      rw [h2] at hb
      have hkk : k' = k := by omega
      subst hkk
      cases hc.symm.trans hc'
      refine hob.to fun j hj => ?_
      have hq := pq_kdok k' hkN j (by rw [hcr]; exact hj)
      have h3 := pq_kd3 k' hkN j (by rw [hcr]; exact hj)
      have hd := @pq_dflt ((pq_types.getD k' []).getD j .int)
      rw [← hq] at hd
      unfold pq_V
      rcases (show (pq_F k' j).1 = 0 ∨ (pq_F k' j).1 = 1 ∨ (pq_F k' j).1 = 2 by omega) with h | h | h
      · rw [hd.1 h, h]
        show Value.int 0 = Value.int (if H.size = H.size then 0 else _)
        rw [if_pos rfl]
      · rw [hd.2.1 h, h]
        show Value.long 0 = Value.long (if H.size = H.size then 0 else _)
        rw [if_pos rfl]
      · rw [hd.2.2 h, h]
        show Value.null = va_rf (if H.size = H.size then none else _)
        rw [if_pos rfl]; rfl
    · have h2 : p_k (s_new P H.size k) b = p_k P b := up_ne hba
      rw [h2] at hb
      have hlt : b < H.size := by have := hP.1.2 b (by rw [hb]; omega); omega
      obtain ⟨cell', w1, w2, w3, w4⟩ := hP.2.1 b k' r' hb hc'
      refine ⟨cell', by rw [o1 b hlt]; exact w1, w2, w3, fun i hi => ?_⟩
      rw [w4 i hi]
      refine congrArg some ?_
      show pq_V P k' i b = pq_V (s_new P H.size k) k' i b
      unfold pq_V
      split
      · show _ = Value.int (if b = H.size then 0 else _); rw [if_neg hba]
      · show _ = Value.long (if b = H.size then 0 else _); rw [if_neg hba]
      · show _ = va_rf (if b = H.size then none else _); rw [if_neg hba]
  · intro b t hb
    have hba : b ≠ H.size := fun h => by
      subst h
      have h2 : p_k (s_new P H.size k) H.size = k + 1 := up_eq
      rw [h2] at hb; omega
    have h2 : p_k (s_new P H.size k) b = p_k P b := up_ne hba
    rw [h2] at hb
    have hlt : b < H.size := by have := hP.1.2 b (by rw [hb]; omega); omega
    rw [o1 b hlt]
    exact hP.2.2.1 b t hb
/-- the heap has one array more -/
theorem Pi.narr {H1 : Heap} {t n : Nat} (hP : Pi D P H) (e1 : H1[H.size]? = some (vp_cell (D.2.2 t) (pq_A (s_arr P H.size t n) t H.size))) (z1 : H1.size = H.size + 1) (o1 : ∀ q : Nat, q < H.size → H1[q]? = H[q]?) : Pi D (s_arr P H.size t n) H1 := by
  have hz := hP.1.1
  refine ⟨⟨by show H.size + 1 ≤ _; omega, fun b hb => ?_⟩, ?_, ?_, hP.2.2.2⟩
  · by_cases hba : b = H.size
    · subst hba
      have h2 : p_k (s_arr P H.size t n) H.size = t + 101 := up_eq
      rw [h2]
      exact ⟨Nat.lt_succ_self _, by omega⟩
    · have h2 : p_k (s_arr P H.size t n) b = p_k P b := up_ne hba
      rw [h2] at hb ⊢
      have := hP.1.2 b hb
      exact ⟨by show b < H.size + 1; omega, this.2⟩
  · intro b k' r' hb hc'
    have hk14 := (pq_cl hc').1
    have hba : b ≠ H.size := fun h => by
      subst h
      have h2 : p_k (s_arr P H.size t n) H.size = t + 101 := up_eq
      rw [h2] at hb; omega
    have h2 : p_k (s_arr P H.size t n) b = p_k P b := up_ne hba
    rw [h2] at hb
    have hlt : b < H.size := by have := hP.1.2 b (by rw [hb]; omega); omega
    exact (hP.2.1 b k' r' hb hc').kept (o1 b hlt)
  · intro b t' hb
    by_cases hba : b = H.size
    · subst hba
      have h2 : p_k (s_arr P H.size t n) H.size = t + 101 := up_eq
      rw [h2] at hb
      have : t' = t := by omega
      subst this
      exact e1
    · have h2 : p_k (s_arr P H.size t n) b = p_k P b := up_ne hba
      rw [h2] at hb
      have hlt : b < H.size := by have := hP.1.2 b (by rw [hb]; omega); omega
      rw [o1 b hlt, hP.2.2.1 b t' hb]
      have q1 : p_n (s_arr P H.size t n) b = p_n P b := up_ne hba
      have q2 : p_ai (s_arr P H.size t n) b = p_ai P b := by funext j; show (if b = H.size then 0 else _) = _; rw [if_neg hba]
      have q3 : p_al (s_arr P H.size t n) b = p_al P b := by funext j; show (if b = H.size then 0 else _) = _; rw [if_neg hba]
      have q4 : p_aq (s_arr P H.size t n) b = p_aq P b := by funext j; show (if b = H.size then none else _) = _; rw [if_neg hba]
      unfold pq_A
      rw [q1, q2, q3, q4]
theorem pq_newa (hexec : p.tables.exec = Jvm.exec) (hb : c.code = cc) (hK : pq_K D s) (hP : Pi D P H) (hS : Sg A H0 H P locs) {atype : ArrayType} {t N : Nat} {ty : FieldType} (harr : (Cond.arrayClass (newarray.typeOf atype)).before args s = true) (hty : newarray.typeOf atype = ty) (ht : (t = 0 ∧ ty = .int) ∨ (t = 1 ∧ ty = .long) ∨ (t = 2 ∧ ty = .boolean)) {n : Int32} (hn : ¬ n < 0) (hN : n.toNatClampNeg ≤ N) (hNb : N ≤ 1000)
    (hcells : cells + 1 ≤ R.cells) (hslots : slots + N ≤ R.slots) (hdg : decode cc pc = .ok (.newarray atype, 2))
    (kk : ∀ (q : Nat) (H1 : Heap), p_z P ≤ q → Pi D (s_arr P q t n.toNatClampNeg) H1 → Sg A H0 H1 (s_arr P q t n.toNatClampNeg) locs → W p l e R s m args below meth c H1 locs (cells + 1) (slots + N) Q (F0 m (pc + 2) ls (.ref q :: rest))) : W p l e R s m args below meth c H locs cells slots Q (F0 m pc ls (.int n :: rest)) := by
  subst hty
  refine va_newaK (N := n.toNatClampNeg) hexec hb harr rfl hdg rfl hn rfl ?_ hcells (by omega) rfl fun H1 cA e1 z1 o1 hAr hNm => ?_
  · rcases ht with ⟨-, h⟩ | ⟨-, h⟩ | ⟨-, h⟩ <;> rw [h] <;> simp [componentBytes] <;> omega
  · refine W.widen (k := cells + 1) (n := slots + N) (by omega) (by omega) ?_
    have hcA : cA = D.2.2 t := by
      rcases ht with ⟨rfl, h⟩ | ⟨rfl, h⟩ | ⟨rfl, h⟩ <;> rw [h] at hNm
      · exact Option.some.inj (hNm.symm.trans (hK.2 0 _ rfl).2)
      · exact Option.some.inj (hNm.symm.trans (hK.2 1 _ rfl).2)
      · exact Option.some.inj (hNm.symm.trans (hK.2 2 _ rfl).2)
    subst hcA
    have hce : vp_cell (D.2.2 t) (pq_A (s_arr P H.size t n.toNatClampNeg) t H.size) = arrV (D.2.2 t) n.toNatClampNeg (fun _ => defaultValue (newarray.typeOf atype)) := by
      have q1 : p_n (s_arr P H.size t n.toNatClampNeg) H.size = n.toNatClampNeg := up_eq
      have q2 : p_ai (s_arr P H.size t n.toNatClampNeg) H.size = fun _ => 0 := by funext j; show (if H.size = H.size then 0 else _) = _; rw [if_pos rfl]
      have q3 : p_al (s_arr P H.size t n.toNatClampNeg) H.size = fun _ => 0 := by funext j; show (if H.size = H.size then 0 else _) = _; rw [if_pos rfl]
      unfold pq_A
      rw [q1, q2, q3]
      rcases ht with ⟨rfl, h⟩ | ⟨rfl, h⟩ | ⟨rfl, h⟩ <;> rw [h] <;> rfl
    exact kk H.size H1 hP.1.1 (Pi.narr hP (by rw [hce]; exact e1) z1 o1) (hS.new (Nat.le_refl _) (fun q hq => up_ne hq) (by omega) o1)
theorem pq_newq (hexec : p.tables.exec = Jvm.exec) (hb : c.code = cc) (hK : pq_K D s) (hP : Pi D P H) (hS : Sg A H0 H P locs) {own C : String} {index t N : Nat} (hown : s.vm.findClass own = some m.cls) (hclink : (Cond.classLink own index C).before args s = true) (hover : (Cond.arrayOver (.object C)).before args s = true) (ht : (t = 3 ∧ C = "java/lang/Object") ∨ (t = 4 ∧ C = "WaterWorks$Place")) {n : Int32} (hn : ¬ n < 0) (hN : n.toNatClampNeg ≤ N) (hNb : N ≤ 1000)
    (hcells : cells + 1 ≤ R.cells) (hslots : slots + N ≤ R.slots) (hdg : decode cc pc = .ok (.anewarray index, 3))
    (kk : ∀ (q : Nat) (H1 : Heap), p_z P ≤ q → Pi D (s_arr P q t n.toNatClampNeg) H1 → Sg A H0 H1 (s_arr P q t n.toNatClampNeg) locs → W p l e R s m args below meth c H1 locs (cells + 1) (slots + N) Q (F0 m (pc + 3) ls (.ref q :: rest))) : W p l e R s m args below meth c H locs cells slots Q (F0 m pc ls (.int n :: rest)) := by
  refine W.anew hexec hb hown hclink hover rfl hdg rfl hn (by omega) hcells (by omega) fun cA kA comp f1 f2 f3 f4 => ?_
  refine W.widen (k := cells + 1) (n := slots + N) (by omega) (by omega) ?_
  generalize hH1 : H.push ({ cls := cA, slots := Array.replicate n.toNatClampNeg .null, vm := .none } : Cell) = H1
  have z1 : H1.size = H.size + 1 := by rw [← hH1, Array.size_push]
  have e1 : H1[H.size]? = some (arrV cA n.toNatClampNeg (fun _ => .null)) := by rw [← hH1, Array.getElem?_push_size, ← arrV_new]
  have o1 : ∀ q : Nat, q < H.size → H1[q]? = H[q]? := fun q hq => by rw [← hH1, Array.getElem?_push, if_neg (Nat.ne_of_lt hq)]
  have hcA : cA = D.2.2 t := by
    rcases ht with ⟨rfl, rfl⟩ | ⟨rfl, rfl⟩
    · obtain ⟨_, _, _, _, _, h⟩ := (hK.2 3 _ rfl).2
      exact Option.some.inj (f1.symm.trans h)
    · obtain ⟨_, _, _, _, _, h⟩ := (hK.2 4 _ rfl).2
      exact Option.some.inj (f1.symm.trans h)
  subst hcA
  have hce : vp_cell (D.2.2 t) (pq_A (s_arr P H.size t n.toNatClampNeg) t H.size) = arrV (D.2.2 t) n.toNatClampNeg (fun _ => .null) := by
    have q1 : p_n (s_arr P H.size t n.toNatClampNeg) H.size = n.toNatClampNeg := up_eq
    have q4 : p_aq (s_arr P H.size t n.toNatClampNeg) H.size = fun _ => none := by funext j; show (if H.size = H.size then none else _) = _; rw [if_pos rfl]
    unfold pq_A
    rw [q1, q4]
    rcases ht with ⟨rfl, rfl⟩ | ⟨rfl, rfl⟩ <;> rfl
  exact kk H.size H1 hP.1.1 (Pi.narr hP (by rw [hce]; exact e1) z1 o1) (hS.new (Nat.le_refl _) (fun q hq => up_ne hq) (by omega) o1)
end PA
