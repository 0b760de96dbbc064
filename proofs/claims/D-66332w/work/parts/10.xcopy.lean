/-- references are copied from one array to another, or within one -/
def s_cpy (P : Pic) (a0 a sp dp n : Nat) : Pic := (p_k P, p_i P, p_l P, p_r P, p_n P, p_ai P, p_al P, fun b j => if b = a then va_cpy (p_aq P a0) (p_aq P a) sp dp n j else p_aq P b j, p_z P, p_m P)
section CQ
variable {p : Program} {l : Launch} {e : Env} {R : Room} {s : State} {m : MethodId} {args : Array Value} {below : List Frame} {meth : Method} {c : Code} {H : Heap} {locs : List Loc} {cells slots : Nat} {Q : State → Prop}
variable {cc : ByteArray} {pc : Nat} {ls : Array Slot} {rest stk : List Value} {D : pq_D} {P P0 : Pic} {A : Nat → Prop} {H0 : Heap} {nL : Nat} {own : String}
theorem pq_copyq (hexec : p.tables.exec = Jvm.exec) (hb : c.code = cc) (hml : c.maxLocals = ls.size) {index : Nat} (hown : s.vm.findClass own = some m.cls) (hlink : (Cond.methodLink own index arraycopyName).before args s = true) (hnat : (Cond.native arraycopyName).before args s = true) (hstat : (Cond.static arraycopyName).before args s = true) (hini : (Cond.initialized "java/lang/System").before args s = true)
    (hT : pq_T s) (hK : pq_K D s) (hP : Pi D P H) (hS : Sg A H0 H P locs) {a0 a ci : Nat} {r : vw_C} (hk0 : p_k P a0 = 104) (hk1 : p_k P a = 104) (hc : classes[ci]? = some r) (hca : Cond.castable r.1 "java/lang/Object" ∈ pq_tbl)
    {sp dp n : Int32} (h1 : ¬ sp < 0) (h2 : ¬ dp < 0) (h3 : ¬ n < 0) (h4 : sp.toNatClampNeg + n.toNatClampNeg ≤ p_n P a0) (h5 : dp.toNatClampNeg + n.toNatClampNeg ≤ p_n P a) (hel : ∀ i : Nat, i < n.toNatClampNeg → ∀ y : Nat, p_aq P a0 (sp.toNatClampNeg + i) = some y → p_k P y = ci + 1)
    (hframes : 1 ≤ R.frames) (hlocals : (rest.map fun v => v.category).sum + (nativeFrameWords "java/lang/System" "arraycopy" 5 + 11) ≤ R.locals) (hdg : decode cc pc = .ok (.invokestatic index, 3))
    (kk : ∀ (H1 : Heap) (locs1 : List Loc), Pi D (s_cpy P a0 a sp.toNatClampNeg dp.toNatClampNeg n.toNatClampNeg) H1 → Sg A H0 H1 (s_cpy P a0 a sp.toNatClampNeg dp.toNatClampNeg n.toNatClampNeg) locs1 → W p l e R s m args below meth c H1 locs1 cells slots Q (F0 m (pc + 3) ls rest)) : W p l e R s m args below meth c H locs cells slots Q (F0 m pc ls (.int n :: .int dp :: .ref a :: .int sp :: .ref a0 :: rest)) := by
  have nn : ∀ z : Int32, ¬ z < 0 → z.toInt = (z.toNatClampNeg : Int) := by
    intro z hz
    have hz0 : (0 : Int) ≤ z.toInt := by
      have := Int32.not_lt.mp hz
      simpa using Int32.le_iff_toInt_le.mp this
    show z.toInt = ((z.toInt.toNat : Nat) : Int)
    omega
  intro T hT0 X
  have hc0 : H[a0]? = some (vp_cell (D.2.2 3) (p_n P a0, .inr (.inr (.inr (.inr (p_aq P a0)))))) := hP.2.2.1 a0 3 hk0
  have hc1 : H[a]? = some (vp_cell (D.2.2 3) (p_n P a, .inr (.inr (.inr (.inr (p_aq P a)))))) := hP.2.2.1 a 3 hk1
  have ht : (pq_tys D)[3]? = some (D.2.2 3, .object "java/lang/Object") := rfl
  obtain ⟨-, k0, hk0', cm0, hkk0⟩ := (hK.2 3 _ ht).1 (p_n P a0) (fun j => va_rf (p_aq P a0 j))
  obtain ⟨vm', X', step⟩ := X.arraycopy hexec hown hlink hnat hstat hini (src := a0) (dst := a) (cs := vp_cell (D.2.2 3) (p_n P a0, .inr (.inr (.inr (.inr (p_aq P a0)))))) (cd := vp_cell (D.2.2 3) (p_n P a, .inr (.inr (.inr (.inr (p_aq P a)))))) (srcPos := sp) (destPos := dp) (n := n) (by rw [hT0]; exact hc0) (by rw [hT0]; exact hc1)
    (fun _ h => by cases h) (fun _ h => by cases h) (fun h => by cases h) (fun h => by cases h) hk0' hk0' hkk0 hkk0 rfl h1 h2 h3
    (by rw [nn sp h1, nn n h3]; show ¬ _ > ((arrV (D.2.2 3) (p_n P a0) (fun j => va_rf (p_aq P a0 j))).slots.size : Int); rw [arrV_size]; omega)
    (by rw [nn dp h2, nn n h3]; show ¬ _ > ((arrV (D.2.2 3) (p_n P a) (fun j => va_rf (p_aq P a j))).slots.size : Int); rw [arrV_size]; omega)
    (fun vm₁ hal i hi => by
      have e : (vp_cell (D.2.2 3) (p_n P a0, .inr (.inr (.inr (.inr (p_aq P a0)))))).slots.getD (sp.toNatClampNeg + i) .null = va_rf (p_aq P a0 (sp.toNatClampNeg + i)) := by
        show (arrV (D.2.2 3) (p_n P a0) (fun j => va_rf (p_aq P a0 j))).slots.getD _ _ = _
        rw [Array.getD_eq_getD_getElem?, arrV_read _ _ (by omega)]
        rfl
      rw [e]
      cases hy : p_aq P a0 (sp.toNatClampNeg + i) with
      | none => exact ⟨rfl, trivial⟩
      | some y =>
        obtain ⟨cellV, g1, g2, g3⟩ := pq_recv hK hP (hel i hi y hy) hc
        obtain ⟨kA, comp, r1, r2, r3, -⟩ := (hK.2 3 _ ht).2
        cases hk0'.symm.trans r1
        cases hkk0.symm.trans r2
        obtain ⟨kC, hkC, -⟩ := Vm.findClass_spec g3
        obtain ⟨kE, hkE, -⟩ := Vm.findClass_spec r3
        obtain ⟨kC', hkC', -⟩ := hal.2.2 _ _ hkC
        obtain ⟨kE', hkE', -⟩ := hal.2.2 _ _ hkE
        obtain ⟨c9, t9, f1, f2, f3⟩ := Cond.castable_spec (hT _ hca args)
        cases g3.symm.trans f1
        cases r3.symm.trans f2
        refine ⟨rfl, cellV, (show T.heap[y]? = some cellV by rw [hT0]; exact g1), (fun q h => by rw [h] at g2; cases g2), ⟨kC', hkC'⟩, ?_, ?_⟩
        · exact ⟨kE', hkE'⟩
        · show vm₁.assignable _ _ = true
          rw [hal.assignable]
          exact f3)
    (g := F0 m pc ls (.int n :: .int dp :: .ref a :: .int sp :: .ref a0 :: rest)) rfl (by rw [hml]) (rest := rest) rfl (by rw [hb]; exact hdg) hframes (by show 2 * 0 + _ + _ ≤ _; omega)
  have e1 : copied (vp_cell (D.2.2 3) (p_n P a0, .inr (.inr (.inr (.inr (p_aq P a0)))))) (vp_cell (D.2.2 3) (p_n P a, .inr (.inr (.inr (.inr (p_aq P a)))))) sp dp n = vp_cell (D.2.2 3) (p_n P a, .inr (.inr (.inr (.inr (va_cpy (p_aq P a0) (p_aq P a) sp.toNatClampNeg dp.toNatClampNeg n.toNatClampNeg))))) := by
    rw [vp_cell_q, vp_cell_q, vp_cell_q]
    exact va_copied (fun z => va_rf z) (D.2.2 3) (D.2.2 3) (p_aq P a0) (p_aq P a) h4
  rw [e1] at X' step
  have hl : a < H.size := (Array.getElem?_eq_some_iff.mp hc1).1
  generalize hce : vp_cell (D.2.2 3) (p_n P a, .inr (.inr (.inr (.inr (va_cpy (p_aq P a0) (p_aq P a) sp.toNatClampNeg dp.toNatClampNeg n.toNatClampNeg))))) = ce at X' step
  have hheap : ((T.setVm vm').setCell a ce).heap = H.setIfInBounds a ce := by rw [← hT0]; rfl
  have oq : ∀ q : Nat, q ≠ a → (H.setIfInBounds a ce)[q]? = H[q]? := fun q hq => by simp [Array.getElem?_setIfInBounds, Ne.symm hq]
  have es : (H.setIfInBounds a ce)[a]? = some ce := by simp [Array.getElem?_setIfInBounds, hl]
  have ez : (H.setIfInBounds a ce).size = H.size := by simp
  have hqa : ∀ b, b ≠ a → p_aq (s_cpy P a0 a sp.toNatClampNeg dp.toNatClampNeg n.toNatClampNeg) b = p_aq P b := fun b hb => by
    funext j
    show (if b = a then _ else _) = _
    rw [if_neg hb]
  have hqs : p_aq (s_cpy P a0 a sp.toNatClampNeg dp.toNatClampNeg n.toNatClampNeg) a = va_cpy (p_aq P a0) (p_aq P a) sp.toNatClampNeg dp.toNatClampNeg n.toNatClampNeg := by
    funext j
    show (if a = a then _ else _) = _
    rw [if_pos rfl]
  have hpi : Pi D (s_cpy P a0 a sp.toNatClampNeg dp.toNatClampNeg n.toNatClampNeg) (H.setIfInBounds a ce) := by
    refine Pi.arr (t := 3) hP hk1 ?_ ez oq rfl rfl rfl (fun _ _ _ _ => rfl) (fun t' b hb => ?_)
    · rw [es, ← hce]
      show _ = some (vp_cell (D.2.2 3) (p_n P a, .inr (.inr (.inr (.inr (p_aq (s_cpy P a0 a sp.toNatClampNeg dp.toNatClampNeg n.toNatClampNeg) a))))))
      rw [hqs]
    · unfold pq_A
      rw [hqa b hb]
      rfl
  obtain ⟨t, a1, b1⟩ := kk _ _ hpi ⟨⟨by rw [ez]; exact hS.1.1, fun q g1 g2 => by
      rw [oq q (fun e => g2 (by rw [e]; exact hS.2.1 a (by rw [hk1]; decide)))]
      exact hS.1.2.1 q g1 g2, fun q hq => by
      rcases List.mem_append.mp hq with h | h
      · exact hS.1.2.2 q h
      · obtain ⟨z, -, hz⟩ := List.mem_map.mp h
        rw [← hz]
        exact hS.2.1 a (by rw [hk1]; decide)⟩, hS.2.1, hS.2.2⟩ _ hheap X'
  exact ⟨t, step t a1, b1⟩
theorem pq_getC (hexec : p.tables.exec = Jvm.exec) (hb : c.code = cc) (hml : c.maxLocals = ls.size) {index a : Nat} (hown : s.vm.findClass own = some m.cls) (hlink : (Cond.methodLink own index ⟨"java/lang/Object", "getClass", "()Ljava/lang/Class;"⟩).before args s = true) (hdecl : (Cond.declares ⟨"java/lang/Object", "getClass", "()Ljava/lang/Class;"⟩).before args s = true)
    (hsel : (Cond.selects "[Ljava/lang/Object;" ⟨"java/lang/Object", "getClass", "()Ljava/lang/Class;"⟩ ⟨"java/lang/Object", "getClass", "()Ljava/lang/Class;"⟩).before args s = true) (hinst : (Cond.instanceMethod ⟨"java/lang/Object", "getClass", "()Ljava/lang/Class;"⟩).before args s = true) (hnat : (Cond.native ⟨"java/lang/Object", "getClass", "()Ljava/lang/Class;"⟩).before args s = true)
    (hK : pq_K D s) (hN : pq_N D s) (hP : Pi D P H) (hk : p_k P a = 104) (hframes : 1 ≤ R.frames) (hlocals : (rest.map fun v => v.category).sum + 14 ≤ R.locals) (hdg : decode cc pc = .ok (.invokevirtual index, 3))
    (k : W p l e R s m args below meth c H locs cells slots Q (F0 m (pc + 3) ls (.ref (p_m P) :: rest))) : W p l e R s m args below meth c H locs cells slots Q (F0 m pc ls (.ref a :: rest)) := by
  have hc1 : H[a]? = some (vp_cell (D.2.2 3) (p_n P a, .inr (.inr (.inr (.inr (p_aq P a)))))) := hP.2.2.1 a 3 hk
  have hcl : s.vm.findClass "[Ljava/lang/Object;" = some (D.2.2 3) := by
    obtain ⟨_, _, _, _, _, h⟩ := (hK.2 3 _ rfl).2
    exact h
  refine va_getC hexec hb hml hown hlink hdecl hsel hinst hnat hN.2 ⟨_, hc1, rfl, hcl⟩ hframes hlocals hdg ?_
  rw [← hP.2.2.2]
  exact k
theorem pq_ldcM (hexec : p.tables.exec = Jvm.exec) (hb : c.code = cc) {index : Nat} (hown : s.vm.findClass own = some m.cls) (hlink : (Cond.classLink own index "[Ljava/lang/Object;").before args s = true) (hN : pq_N D s) (hP : Pi D P H) (hdg : decode cc pc = .ok (.ldc index, 2))
    (k : W p l e R s m args below meth c H locs cells slots Q (F0 m (pc + 2) ls (.ref (p_m P) :: rest))) : W p l e R s m args below meth c H locs cells slots Q (F0 m pc ls rest) := by
  refine va_ldcM hexec hb hown hlink hN.2 hdg ?_
  rw [← hP.2.2.2]
  exact k
end CQ
