/-- kinds of what lists hold -/
def Ob (k : Nat) : Prop := k = 3 ∨ k = 4 ∨ k = 5 ∨ k = 8 ∨ k = 9 ∨ k = 10 ∨ k = 11
section EX
variable {p : Program} {l : Launch} {e : Env} {R : Room} {s : State} {m : MethodId} {args : Array Value} {below : List Frame} {meth : Method} {c : Code} {H : Heap} {locs : List Loc} {cells slots : Nat} {Q : State → Prop}
variable {cc : ByteArray} {pc : Nat} {ls : Array Slot} {rest stk : List Value} {D : pq_D} {P P0 : Pic} {A : Nat → Prop} {H0 : Heap} {nL : Nat} {own : String}
theorem pq_aastO (hexec : p.tables.exec = Jvm.exec) (hb : c.code = cc) (hT : pq_T s) (hK : pq_K D s) (hP : Pi D P H) (hS : Sg A H0 H P locs) {a v : Nat} (hk : p_k P a = 104) (hv : Ob (p_k P v)) {i : Int32} (hin : vp_in i (p_n P a)) (hdg : decode cc pc = .ok (.aastore, 1))
    (kk : ∀ (H1 : Heap) (locs1 : List Loc), Pi D (s_aq P a i.toNatClampNeg (some v)) H1 → Sg A H0 H1 (s_aq P a i.toNatClampNeg (some v)) locs1 → W p l e R s m args below meth c H1 locs1 cells slots Q (F0 m (pc + 1) ls rest)) : W p l e R s m args below meth c H locs cells slots Q (F0 m pc ls (.ref v :: .int i :: .ref a :: rest)) := by
  rcases hv with hv | hv | hv | hv | hv | hv | hv
  · exact pq_aast (t := 3) (ci := 2) hexec hb hT hK hP hS hk rfl (by decide) hv rfl k_1373 hin hdg kk
  · exact pq_aast (t := 3) (ci := 3) hexec hb hT hK hP hS hk rfl (by decide) hv rfl k_1370 hin hdg kk
  · exact pq_aast (t := 3) (ci := 4) hexec hb hT hK hP hS hk rfl (by decide) hv rfl k_1369 hin hdg kk
  · exact pq_aast (t := 3) (ci := 7) hexec hb hT hK hP hS hk rfl (by decide) hv rfl k_1367 hin hdg kk
  · exact pq_aast (t := 3) (ci := 8) hexec hb hT hK hP hS hk rfl (by decide) hv rfl k_1368 hin hdg kk
  · exact pq_aast (t := 3) (ci := 9) hexec hb hT hK hP hS hk rfl (by decide) hv rfl k_1371 hin hdg kk
  · exact pq_aast (t := 3) (ci := 10) hexec hb hT hK hP hS hk rfl (by decide) hv rfl k_1372 hin hdg kk
theorem pq_aastP (hexec : p.tables.exec = Jvm.exec) (hb : c.code = cc) (hT : pq_T s) (hK : pq_K D s) (hP : Pi D P H) (hS : Sg A H0 H P locs) {a v : Nat} (hk : p_k P a = 105) (hv : p_k P v = 8 ∨ p_k P v = 9) {i : Int32} (hin : vp_in i (p_n P a)) (hdg : decode cc pc = .ok (.aastore, 1))
    (kk : ∀ (H1 : Heap) (locs1 : List Loc), Pi D (s_aq P a i.toNatClampNeg (some v)) H1 → Sg A H0 H1 (s_aq P a i.toNatClampNeg (some v)) locs1 → W p l e R s m args below meth c H1 locs1 cells slots Q (F0 m (pc + 1) ls rest)) : W p l e R s m args below meth c H locs cells slots Q (F0 m pc ls (.ref v :: .int i :: .ref a :: rest)) := by
  rcases hv with hv | hv
  · exact pq_aast (t := 4) (ci := 7) hexec hb hT hK hP hS hk rfl (by decide) hv rfl k_1352 hin hdg kk
  · exact pq_aast (t := 4) (ci := 8) hexec hb hT hK hP hS hk rfl (by decide) hv rfl k_1353 hin hdg kk
theorem pq_castP {a index : Nat} (hexec : p.tables.exec = Jvm.exec) (hb : c.code = cc) (hT : pq_T s) (hK : pq_K D s) (hP : Pi D P H) (hown : s.vm.findClass own = some m.cls) (hlink : Cond.classLink own index "WaterWorks$Place" ∈ pq_tbl) (hk : p_k P a = 8 ∨ p_k P a = 9) (hdg : decode cc pc = .ok (.checkcast index, 3))
    (kk : W p l e R s m args below meth c H locs cells slots Q (F0 m (pc + 3) ls (.ref a :: rest))) : W p l e R s m args below meth c H locs cells slots Q (F0 m pc ls (.ref a :: rest)) := by
  rcases hk with hk | hk
  · exact pq_cast (k := 7) hexec hb hT hK hP hown hlink hk rfl k_1352 hdg kk
  · exact pq_cast (k := 8) hexec hb hT hK hP hown hlink hk rfl k_1353 hdg kk
theorem pq_putPl (hexec : p.tables.exec = Jvm.exec) (hb : c.code = cc) (hT : pq_T s) (hK : pq_K D s) (hP : Pi D P H) (hS : Sg A H0 H P locs) {a index x : Nat} (hown : s.vm.findClass "WaterWorks$Place" = some m.cls) (hin : meth.name = "<init>") (hl : (Cond.fieldLink "WaterWorks$Place" index "WaterWorks$Place" "ends" "Ljava/util/ArrayList;").before args s = true) (hk : p_k P a = 8 ∨ p_k P a = 9) (hdg : decode cc pc = .ok (.putfield index, 3))
    (kk : ∀ (H1 : Heap) (locs1 : List Loc), Pi D (s_r P 320 a (some x)) H1 → Sg A H0 H1 (s_r P 320 a (some x)) locs1 → W p l e R s m args below meth c H1 locs1 cells slots Q (F0 m (pc + 3) ls rest)) : W p l e R s m args below meth c H locs cells slots Q (F0 m pc ls (.ref x :: .ref a :: rest)) := by
  rcases hk with hk | hk
  · exact pq_putRa (k := 7) (j := 0) hexec hb hT hK hP hS hown hin rfl (by decide) (by decide) hl hk rfl rfl rfl rfl hdg kk
  · exact pq_putRa (k := 8) (j := 0) hexec hb hT hK hP hS hown hin rfl (by decide) (by decide) hl hk rfl rfl rfl rfl hdg kk
theorem pq_copyO (hexec : p.tables.exec = Jvm.exec) (hb : c.code = cc) (hml : c.maxLocals = ls.size) {index : Nat} (hown : s.vm.findClass own = some m.cls) (hlink : (Cond.methodLink own index arraycopyName).before args s = true)
    (hT : pq_T s) (hK : pq_K D s) (hP : Pi D P H) (hS : Sg A H0 H P locs) {a0 a : Nat} (hk0 : p_k P a0 = 104) (hk1 : p_k P a = 104)
    {sp dp n : Int32} (hh : ¬ sp < 0 ∧ ¬ dp < 0 ∧ ¬ n < 0 ∧ sp.toNatClampNeg + n.toNatClampNeg ≤ p_n P a0 ∧ dp.toNatClampNeg + n.toNatClampNeg ≤ p_n P a ∧ ∃ k, Ob k ∧ ∀ i : Nat, i < n.toNatClampNeg → ∀ y : Nat, p_aq P a0 (sp.toNatClampNeg + i) = some y → p_k P y = k)
    (hframes : 1 ≤ R.frames) (hlocals : (rest.map fun v => v.category).sum + (nativeFrameWords "java/lang/System" "arraycopy" 5 + 11) ≤ R.locals) (hdg : decode cc pc = .ok (.invokestatic index, 3))
    (kk : ∀ (H1 : Heap) (locs1 : List Loc), Pi D (s_cpy P a0 a sp.toNatClampNeg dp.toNatClampNeg n.toNatClampNeg) H1 → Sg A H0 H1 (s_cpy P a0 a sp.toNatClampNeg dp.toNatClampNeg n.toNatClampNeg) locs1 → W p l e R s m args below meth c H1 locs1 cells slots Q (F0 m (pc + 3) ls rest)) : W p l e R s m args below meth c H locs cells slots Q (F0 m pc ls (.int n :: .int dp :: .ref a :: .int sp :: .ref a0 :: rest)) := by
  obtain ⟨h1, h2, h3, h4, h5, k, hk, hel⟩ := hh
  rcases hk with rfl | rfl | rfl | rfl | rfl | rfl | rfl
  · exact pq_copyq (ci := 2) hexec hb hml hown hlink (hT _ k_187 _) (hT _ k_186 _) (hT _ k_17 _) hT hK hP hS hk0 hk1 rfl k_1373 h1 h2 h3 h4 h5 hel hframes hlocals hdg kk
  · exact pq_copyq (ci := 3) hexec hb hml hown hlink (hT _ k_187 _) (hT _ k_186 _) (hT _ k_17 _) hT hK hP hS hk0 hk1 rfl k_1370 h1 h2 h3 h4 h5 hel hframes hlocals hdg kk
  · exact pq_copyq (ci := 4) hexec hb hml hown hlink (hT _ k_187 _) (hT _ k_186 _) (hT _ k_17 _) hT hK hP hS hk0 hk1 rfl k_1369 h1 h2 h3 h4 h5 hel hframes hlocals hdg kk
  · exact pq_copyq (ci := 7) hexec hb hml hown hlink (hT _ k_187 _) (hT _ k_186 _) (hT _ k_17 _) hT hK hP hS hk0 hk1 rfl k_1367 h1 h2 h3 h4 h5 hel hframes hlocals hdg kk
  · exact pq_copyq (ci := 8) hexec hb hml hown hlink (hT _ k_187 _) (hT _ k_186 _) (hT _ k_17 _) hT hK hP hS hk0 hk1 rfl k_1368 h1 h2 h3 h4 h5 hel hframes hlocals hdg kk
  · exact pq_copyq (ci := 9) hexec hb hml hown hlink (hT _ k_187 _) (hT _ k_186 _) (hT _ k_17 _) hT hK hP hS hk0 hk1 rfl k_1371 h1 h2 h3 h4 h5 hel hframes hlocals hdg kk
  · exact pq_copyq (ci := 10) hexec hb hml hown hlink (hT _ k_187 _) (hT _ k_186 _) (hT _ k_17 _) hT hK hP hS hk0 hk1 rfl k_1372 h1 h2 h3 h4 h5 hel hframes hlocals hdg kk
end EX
