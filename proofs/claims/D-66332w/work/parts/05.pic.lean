def R_Wa : String := "WaterWorks"
def F_Wa : u_T := fun k => match k with
  | 0 => ("WaterWorks", "net", "LWaterWorks$Net;", true)
  | 1 => ("WaterWorks", "customers", "Ljava/util/ArrayList;", true)
  | 2 => ("WaterWorks", "tariffs", "Ljava/util/ArrayList;", true)
  | _ => ("WaterWorks", "today", "I", false)
def R_As : String := "WaterWorks$AsItIs"
def F_As : u_T := fun k => match k with
  | _ => ("", "", "", false)
def R_Bi : String := "WaterWorks$Bill"
def F_Bi : u_T := fun k => match k with
  | 0 => ("WaterWorks$Bill", "from", "I", true)
  | 1 => ("WaterWorks$Bill", "to", "I", true)
  | _ => ("WaterWorks$Bill", "cents", "J", false)
def R_Cu : String := "WaterWorks$Customer"
def F_Cu : u_T := fun k => match k with
  | 0 => ("WaterWorks$Customer", "node", "LWaterWorks$Place;", true)
  | 1 => ("WaterWorks$Customer", "readings", "Ljava/util/ArrayList;", true)
  | 2 => ("WaterWorks$Customer", "bills", "Ljava/util/ArrayList;", true)
  | _ => ("WaterWorks$Customer", "paid", "J", false)
def R_En : String := "WaterWorks$End"
def F_En : u_T := fun k => match k with
  | 0 => ("WaterWorks$End", "middle", "LWaterWorks$Place;", true)
  | 1 => ("WaterWorks$End", "node", "LWaterWorks$Place;", true)
  | 2 => ("WaterWorks$End", "number", "I", true)
  | 3 => ("WaterWorks$End", "valve", "Z", true)
  | 4 => ("WaterWorks$End", "open", "Z", false)
  | 5 => ("WaterWorks$End", "stuck", "Z", false)
  | _ => ("WaterWorks$End", "planned", "Z", false)
def R_Fx : String := "WaterWorks$Fixed"
def F_Fx : u_T := fun k => match k with
  | _ => ("", "", "", false)
def R_Ne : String := "WaterWorks$Net"
def F_Ne : u_T := fun k => match k with
  | 0 => ("WaterWorks$Net", "nodes", "Ljava/util/ArrayList;", true)
  | 1 => ("WaterWorks$Net", "middles", "Ljava/util/ArrayList;", true)
  | 2 => ("WaterWorks$Net", "all", "Ljava/util/ArrayList;", true)
  | 3 => ("WaterWorks$Net", "asItIs", "LWaterWorks$Gate;", true)
  | 4 => ("WaterWorks$Net", "withPlan", "LWaterWorks$Gate;", true)
  | 5 => ("WaterWorks$Net", "fixed", "LWaterWorks$Gate;", true)
  | 6 => ("WaterWorks$Net", "queue", "[LWaterWorks$Place;", true)
  | 7 => ("WaterWorks$Net", "waiting", "I", false)
  | _ => ("WaterWorks$Net", "flood", "I", false)
def R_No : String := "WaterWorks$Node"
def F_No : u_T := fun k => match k with
  | 0 => ("WaterWorks$Place", "ends", "Ljava/util/ArrayList;", true)
  | 1 => ("WaterWorks$Place", "reached", "I", false)
  | _ => ("WaterWorks$Node", "source", "Z", false)
def R_Pl : String := "WaterWorks$Place"
def F_Pl : u_T := fun k => match k with
  | 0 => ("WaterWorks$Place", "ends", "Ljava/util/ArrayList;", true)
  | _ => ("WaterWorks$Place", "reached", "I", false)
def R_Re : String := "WaterWorks$Reading"
def F_Re : u_T := fun k => match k with
  | 0 => ("WaterWorks$Reading", "day", "I", true)
  | 1 => ("WaterWorks$Reading", "shows", "I", true)
  | 2 => ("WaterWorks$Reading", "digits", "I", true)
  | _ => ("WaterWorks$Reading", "first", "Z", true)
def R_Ta : String := "WaterWorks$Tariff"
def F_Ta : u_T := fun k => match k with
  | 0 => ("WaterWorks$Tariff", "day", "I", true)
  | _ => ("WaterWorks$Tariff", "numbers", "J", true)
def R_Wi : String := "WaterWorks$WithPlan"
def F_Wi : u_T := fun k => match k with
  | _ => ("", "", "", false)
def R_Mo : String := "WaterWorksModel"
def F_Mo : u_T := fun k => match k with
  | 0 => ("WaterWorksModel", "thrown", "I", false)
  | 1 => ("WaterWorksModel", "nodes", "I", false)
  | 2 => ("WaterWorksModel", "pipes", "I", false)
  | 3 => ("WaterWorksModel", "customers", "I", false)
  | 4 => ("WaterWorksModel", "sources", "[Z", true)
  | 5 => ("WaterWorksModel", "ends", "[I", true)
  | 6 => ("WaterWorksModel", "valve", "[Z", true)
  | 7 => ("WaterWorksModel", "open", "[Z", true)
  | 8 => ("WaterWorksModel", "stuck", "[Z", true)
  | 9 => ("WaterWorksModel", "places", "[I", true)
  | 10 => ("WaterWorksModel", "reached", "[Z", true)
  | 11 => ("WaterWorksModel", "through", "[Z", true)
  | 12 => ("WaterWorksModel", "reach", "[Z", true)
  | 13 => ("WaterWorksModel", "shut", "[Z", true)
  | 14 => ("WaterWorksModel", "before", "[Z", true)
  | 15 => ("WaterWorksModel", "today", "I", false)
  | 16 => ("WaterWorksModel", "readings", "[I", true)
  | 17 => ("WaterWorksModel", "days", "[I", true)
  | 18 => ("WaterWorksModel", "shown", "[I", true)
  | 19 => ("WaterWorksModel", "tens", "[I", true)
  | 20 => ("WaterWorksModel", "first", "[Z", true)
  | 21 => ("WaterWorksModel", "tariffs", "I", false)
  | 22 => ("WaterWorksModel", "begins", "[I", true)
  | 23 => ("WaterWorksModel", "prices", "[J", true)
  | 24 => ("WaterWorksModel", "bills", "[I", true)
  | 25 => ("WaterWorksModel", "from", "[I", true)
  | 26 => ("WaterWorksModel", "to", "[I", true)
  | 27 => ("WaterWorksModel", "worth", "[J", true)
  | _ => ("WaterWorksModel", "paid", "[J", true)
def R_Ar : String := "java/util/ArrayList"
def F_Ar : u_T := fun k => match k with
  | 0 => ("java/util/ArrayList", "elementData", "[Ljava/lang/Object;", false)
  | 1 => ("java/util/ArrayList", "size", "I", false)
  | _ => ("java/util/AbstractList", "modCount", "I", false)
abbrev classes : List vw_C := [(R_Wa, F_Wa, 4), (R_As, F_As, 0), (R_Bi, F_Bi, 3), (R_Cu, F_Cu, 4), (R_En, F_En, 7), (R_Fx, F_Fx, 0), (R_Ne, F_Ne, 9), (R_No, F_No, 3), (R_Pl, F_Pl, 2), (R_Re, F_Re, 4), (R_Ta, F_Ta, 2), (R_Wi, F_Wi, 0), (R_Mo, F_Mo, 29), (R_Ar, F_Ar, 3)]
def pq_kinds : List (List Nat) := [[2, 2, 2, 0], [], [0, 0, 1], [2, 2, 2, 1], [2, 2, 0, 0, 0, 0, 0], [], [2, 2, 2, 2, 2, 2, 2, 0, 0], [2, 0, 0], [2, 0], [0, 0, 0, 0], [0, 1], [], [0, 0, 0, 0, 2, 2, 2, 2, 2, 2, 2, 2, 2, 2, 2, 0, 2, 2, 2, 2, 2, 0, 2, 2, 2, 2, 2, 2, 2], [2, 0, 0]]
def pq_types : List (List FieldType) := [[.object "WaterWorks$Net", .object "java/util/ArrayList", .object "java/util/ArrayList", .int], [], [.int, .int, .long], [.object "WaterWorks$Place", .object "java/util/ArrayList", .object "java/util/ArrayList", .long], [.object "WaterWorks$Place", .object "WaterWorks$Place", .int, .boolean, .boolean, .boolean, .boolean], [], [.object "java/util/ArrayList", .object "java/util/ArrayList", .object "java/util/ArrayList", .object "WaterWorks$Gate", .object "WaterWorks$Gate", .object "WaterWorks$Gate", .array (.object "WaterWorks$Place"), .int, .int], [.object "java/util/ArrayList", .int, .boolean], [.object "java/util/ArrayList", .int], [.int, .int, .int, .boolean], [.int, .long], [], [.int, .int, .int, .int, .array (.boolean), .array (.int), .array (.boolean), .array (.boolean), .array (.boolean), .array (.int), .array (.boolean), .array (.boolean), .array (.boolean), .array (.boolean), .array (.boolean), .int, .array (.int), .array (.int), .array (.int), .array (.int), .array (.boolean), .int, .array (.int), .array (.long), .array (.int), .array (.int), .array (.int), .array (.long), .array (.long)], [.array (.object "java/lang/Object"), .int, .int]]
/-! ===== the picture: a function a field ===== -/
def pq_ok : Cond → Bool
  | .initialized .. | .classLink .. | .instantiable .. | .methodLink .. | .instanceMethod .. | .code .. | .codeWith .. | .methodLinkNest .. | .fieldLink .. | .fieldLinkNest .. | .lays .. | .laysFinal .. | .selects .. | .static .. | .castable .. | .superclass .. | .arrayClass .. | .arrayOver (.object _) | .sameField .. | .sameMethod .. | .declares .. | .publicMethod .. | .unhidden .. | .constant .. | .constantLong .. | .codeSync .. | .native .. => true
  | .interfaceMethod r o _ _ => r == "WaterWorks$Gate" && o == "WaterWorks$Gate"
  | _ => false
theorem pq_warm {s U : State} {args a' : Array Value} (hW : s.WarmedH U.vm) : ∀ w : Cond, pq_ok w = true → w.before args s = true → w.before a' U = true := by
  intro w hok h
  have tr : ∀ {c : Cond}, c.onTables = true → c.before args (s.setVm U.vm) = true → c.before a' U = true := by
    intro c hc h
    exact va_tabs (u := s.setVm U.vm) (U := U) hc (rfl : (s.setVm U.vm).vm = U.vm) h
  cases w with
  | fieldLinkNest a i b n d o => exact va_Nw.use rfl (va_Nw.warmF hW (va_Nw.of rfl h))
  | methodLinkNest a i x o => exact va_Nw.use rfl (va_Nw.warmM hW (va_Nw.of rfl h))
  | castable a b => exact va_Nw.use rfl (va_Nw.warmC hW (va_Nw.of rfl h))
  | arrayOver t =>
    cases t with
    | object C => exact va_AO.use (A := a') (va_AO.moved hW.alike (va_AO.of (A := args) h))
    | _ => cases hok
  | arrayClass t => exact word_at hW (Or.inr ⟨_, rfl⟩) h
  | initialized => exact word_at hW (Or.inl rfl) h
  | classLink => exact word_at hW (Or.inl rfl) h
  | instantiable => exact word_at hW (Or.inl rfl) h
  | methodLink => exact word_at hW (Or.inl rfl) h
  | instanceMethod => exact word_at hW (Or.inl rfl) h
  | code => exact word_at hW (Or.inl rfl) h
  | codeWith => exact word_at hW (Or.inl rfl) h
  | fieldLink => exact word_at hW (Or.inl rfl) h
  | lays => exact word_at hW (Or.inl rfl) h
  | laysFinal => exact word_at hW (Or.inl rfl) h
  | selects => exact word_at hW (Or.inl rfl) h
  | static => exact word_at hW (Or.inl rfl) h
  | superclass => exact word_at hW (Or.inl rfl) h
  | sameField => exact word_at hW (Or.inl rfl) h
  | sameMethod => exact word_at hW (Or.inl rfl) h
  | interfaceMethod r o n d =>
    simp only [pq_ok, Bool.and_eq_true, beq_iff_eq] at hok
    obtain ⟨rfl, rfl⟩ := hok
    obtain ⟨cL, kL, r1, hcL, hkL, hiL, hfoundL, hn1⟩ := Cond.interfaceMethod_spec h
    exact tr rfl (by rw [Cond.interfaceMethod_setVm hW.alike (r := r1) hn1 (by decide)]; exact h)
  | declares => exact tr rfl (by rw [Cond.declares_setVm hW.alike]; exact h)
  | publicMethod => exact tr rfl (by rw [Cond.publicMethod_setVm hW.alike]; exact h)
  | unhidden => exact tr rfl (by rw [Cond.unhidden_setVm hW.alike]; exact h)
  | constant => exact word_at hW (Or.inl rfl) h
  | constantLong => exact word_at hW (Or.inl rfl) h
  | codeSync => exact word_at hW (Or.inl rfl) h
  | native => exact word_at hW (Or.inl rfl) h
  | _ => cases hok
def pq_tbl : List Cond := lw_tbl.filter pq_ok
theorem pq_mem {w : Cond} (h : w ∈ lw_tbl) (ho : pq_ok w = true) : w ∈ pq_tbl := List.mem_filter.mpr ⟨h, ho⟩
def pq_T (U : State) : Prop := ∀ w ∈ pq_tbl, ∀ a : Array Value, w.before a U = true
theorem pq_T.warm {s U : State} (h : pq_T s) (hW : s.WarmedH U.vm) : pq_T U := fun w hw a => pq_warm hW w (List.mem_filter.mp hw).2 (h w hw a)
theorem pq_T.of {s : State} {args : Array Value} (h : ∀ w ∈ lw_tbl, w.before args s = true) : pq_T s := fun w hw a => by
  have h1 := h w (List.mem_filter.mp hw).1
  have hW : s.WarmedH s.vm := State.WarmedH.refl s
  exact pq_warm hW w (List.mem_filter.mp hw).2 h1
/-- the statics that Throwable's constructor reads -/
def pq_St (U : State) : Prop := ((Cond.laysStatic Bundle.tN "UNASSIGNED_STACK" Bundle.steD).before #[] U = true ∧ (Cond.isRef (.static Bundle.tN "UNASSIGNED_STACK" Bundle.steD)).before #[] U = true) ∧ ((Cond.laysStatic Bundle.tN "SUPPRESSED_SENTINEL" Bundle.listD).before #[] U = true ∧ (Cond.isRef (.static Bundle.tN "SUPPRESSED_SENTINEL" Bundle.listD)).before #[] U = true)
theorem pq_ls_move {u U : State} {A A' : Array Value} {O f d : String} (hvm : u.vm.Alike U.vm) (hH : ∀ (a : Nat) (cell : Cell), u.heap[a]? = some cell → cell.vm.isStatics = true → U.heap[a]? = some cell)
    (h : (Cond.laysStatic O f d).before A u = true) (h2 : (Cond.isRef (.static O f d)).before A u = true) : (Cond.laysStatic O f d).before A' U = true ∧ (Cond.isRef (.static O f d)).before A' U = true := by
  obtain ⟨c, k, i, fd, a, cell, hc, hf, hst, hsta, hcell, hiss, hcls, hlt, hty⟩ := Cond.laysStatic_spec h
  obtain ⟨k', hi', he⟩ := State.fieldFound?_setVm hvm hf
  have hcell' := hH a cell hcell hiss
  have hc' : U.vm.findClass O = some c := by rw [hvm.findClass]; exact hc
  have hsta' : k'.statics = some a := by rw [he]; exact hsta
  have hty' : k'.staticTypes[fd.slot]? = some fd.type := by rw [he]; exact hty
  have hv : cell.slots[fd.slot]? = some cell.slots[fd.slot] := Array.getElem?_eq_getElem hlt
  have h3 : (Term.static O f d).eval A u none [] u = some cell.slots[fd.slot] := by
    simp [Term.eval, State.fieldNamed?, hf, hst, hsta, hcell, hiss, hv]
  have hi'' : U.fieldFound? O f d = some (c, k', i, fd) := hi'
  have h4 : (Term.static O f d).eval A' U none [] U = some cell.slots[fd.slot] := by
    simp [Term.eval, State.fieldNamed?, hi'', hst, hsta', hcell', hiss, hv]
  constructor
  · simp [Cond.before, Cond.holds, Cond.value, hc', hi'', hst, hsta', hcell', hiss, hcls, hlt, hty']
  · simp only [Cond.before, Cond.holds, Cond.value, h3] at h2
    simp only [Cond.before, Cond.holds, Cond.value, h4]
    exact h2
theorem pq_St.move {u U : State} (hvm : u.vm.Alike U.vm) (hH : ∀ (a : Nat) (cell : Cell), u.heap[a]? = some cell → cell.vm.isStatics = true → U.heap[a]? = some cell) (h : pq_St u) : pq_St U :=
  ⟨pq_ls_move hvm hH h.1.1 h.1.2, pq_ls_move hvm hH h.2.1 h.2.2⟩
/-- kinds (0: none; k + 1: an object of class k; t + 101: an array of type t), int, long, reference fields, array lengths, int (and boolean), long, reference arrays -/
abbrev Pic : Type := (Nat → Nat) × (Nat → Nat → Int32) × (Nat → Nat → Int64) × (Nat → Nat → Option Nat) × (Nat → Nat) × (Nat → Nat → Int32) × (Nat → Nat → Int64) × (Nat → Nat → Option Nat) × Nat × Nat
def p_k (P : Pic) : Nat → Nat := P.1
def p_i (P : Pic) : Nat → Nat → Int32 := P.2.1
def p_l (P : Pic) : Nat → Nat → Int64 := P.2.2.1
def p_r (P : Pic) : Nat → Nat → Option Nat := P.2.2.2.1
def p_n (P : Pic) : Nat → Nat := P.2.2.2.2.1
def p_ai (P : Pic) : Nat → Nat → Int32 := P.2.2.2.2.2.1
def p_al (P : Pic) : Nat → Nat → Int64 := P.2.2.2.2.2.2.1
def p_aq (P : Pic) : Nat → Nat → Option Nat := P.2.2.2.2.2.2.2.1
/-- all that is pictured lies below it -/
def p_z (P : Pic) : Nat := P.2.2.2.2.2.2.2.2.1
/-- the class object of Object[] -/
def p_m (P : Pic) : Nat := P.2.2.2.2.2.2.2.2.2
def up2 {α : Type} (f : Nat → Nat → α) (x a : Nat) (v : α) : Nat → Nat → α := fun y b => if y = x ∧ b = a then v else f y b
def s_i (P : Pic) (f a : Nat) (v : Int32) : Pic := (p_k P, up2 (p_i P) f a v, p_l P, p_r P, p_n P, p_ai P, p_al P, p_aq P, p_z P, p_m P)
def s_l (P : Pic) (f a : Nat) (v : Int64) : Pic := (p_k P, p_i P, up2 (p_l P) f a v, p_r P, p_n P, p_ai P, p_al P, p_aq P, p_z P, p_m P)
def s_r (P : Pic) (f a : Nat) (v : Option Nat) : Pic := (p_k P, p_i P, p_l P, up2 (p_r P) f a v, p_n P, p_ai P, p_al P, p_aq P, p_z P, p_m P)
def s_ai (P : Pic) (a j : Nat) (v : Int32) : Pic := (p_k P, p_i P, p_l P, p_r P, p_n P, up2 (p_ai P) a j v, p_al P, p_aq P, p_z P, p_m P)
def s_al (P : Pic) (a j : Nat) (v : Int64) : Pic := (p_k P, p_i P, p_l P, p_r P, p_n P, p_ai P, up2 (p_al P) a j v, p_aq P, p_z P, p_m P)
def s_aq (P : Pic) (a j : Nat) (v : Option Nat) : Pic := (p_k P, p_i P, p_l P, p_r P, p_n P, p_ai P, p_al P, up2 (p_aq P) a j v, p_z P, p_m P)
/-- a new object of class k at a -/
def s_new (P : Pic) (a k : Nat) : Pic := (va_up (p_k P) a (k + 1), fun f b => if b = a then 0 else p_i P f b, fun f b => if b = a then 0 else p_l P f b, fun f b => if b = a then none else p_r P f b, p_n P, p_ai P, p_al P, p_aq P, a + 1, p_m P)
/-- a new array of type t and length n at a -/
def s_arr (P : Pic) (a t n : Nat) : Pic := (va_up (p_k P) a (t + 101), p_i P, p_l P, p_r P, va_up (p_n P) a n, fun b j => if b = a then 0 else p_ai P b j, fun b j => if b = a then 0 else p_al P b j, fun b j => if b = a then none else p_aq P b j, a + 1, p_m P)
def pq_F (k j : Nat) : Nat × Nat := ((pq_kinds.getD k []).getD j 2, if k = 7 ∧ j < 2 then 320 + j else 40 * k + j)
def pq_V (P : Pic) (k j a : Nat) : Value := match (pq_F k j).1 with
  | 0 => .int (p_i P (pq_F k j).2 a)
  | 1 => .long (p_l P (pq_F k j).2 a)
  | _ => va_rf (p_r P (pq_F k j).2 a)
abbrev pq_D : Type := (Nat → ClassId) × (Nat → Nat → Nat) × (Nat → ClassId)
def pq_A (P : Pic) (t a : Nat) : vp_A := (p_n P a, match t with
  | 0 => .inl (p_ai P a)
  | 1 => .inr (.inl (p_al P a))
  | 2 => .inl (p_ai P a)
  | _ => .inr (.inr (.inr (.inr (p_aq P a)))))
def Pi (D : pq_D) (P : Pic) (H : Heap) : Prop := (p_z P ≤ H.size ∧ ∀ a, p_k P a ≠ 0 → a < p_z P ∧ (p_k P a < 15 ∨ 100 < p_k P a)) ∧ (∀ (a k : Nat) (r : vw_C), p_k P a = k + 1 → classes[k]? = some r → t_OB a (D.1 k) r.2.2 (D.2.1 k) H (fun j => pq_V P k j a)) ∧ (∀ a t : Nat, p_k P a = t + 101 → H[a]? = some (vp_cell (D.2.2 t) (pq_A P t a))) ∧ p_m P = D.2.2 100
def pq_tys (D : pq_D) : List (ClassId × FieldType) := [(D.2.2 0, .int), (D.2.2 1, .long), (D.2.2 2, .boolean), (D.2.2 3, .object "java/lang/Object"), (D.2.2 4, .object "WaterWorks$Place")]
def pq_K (D : pq_D) (U : State) : Prop := va_K (D.1, D.2.1) classes (pq_tys D) U
def pq_xs : List String := ["java/lang/IllegalStateException", "java/lang/IllegalArgumentException", "java/lang/IndexOutOfBoundsException", "java/util/NoSuchElementException"]
/-- the four exceptions' classes are apart; Object[] has its class object -/
def pq_N (D : pq_D) (U : State) : Prop := (∀ x ∈ pq_xs, ∀ y ∈ pq_xs, x ≠ y → ∀ cx cy, U.vm.findClass x = some cx → U.vm.findClass y = some cy → U.vm.assignable cx cy = false) ∧ va_Mi "[Ljava/lang/Object;" (D.2.2 100) U
theorem pq_N.move {D : pq_D} {u U : State} (hvm : u.vm.Alike U.vm) (h : pq_N D u) : pq_N D U := by
  refine ⟨fun x hx y hy hne cx cy h1 h2 => ?_, ?_⟩
  · rw [hvm.assignable]
    exact h.1 x hx y hy hne cx cy (by rw [← hvm.findClass]; exact h1) (by rw [← hvm.findClass]; exact h2)
  · exact h.2.moved hvm
/-- the world of a contract -/
def Wd (D : pq_D) (P : Pic) (U : State) : Prop := pq_T U ∧ pq_K D U ∧ pq_St U ∧ pq_N D U ∧ Pi D P U.heap
/-- THE CONTRACT: from the picture P, y with the arguments av returns v with a picture P1 and 'Post v P1', or throws an exception of class X and 'Thr X P1'; ro: nothing old is written -/
def CT (l : Launch) (D : pq_D) (y : MethodName) (hc : Cond) (rm : Room) (ro : Bool) (av : List Value) (P : Pic) (Post : Option Value → Pic → Prop) (Thr : String → Pic → Prop) : Prop :=
  MT l y hc rm (fun v U => v = av.toArray ∧ Wd D P U)
    (fun _ st o t => st.heap.size ≤ t.heap.size ∧ (∀ q : Nat, q < st.heap.size → p_k P q = 0 ∨ ro = true → t.heap[q]? = st.heap[q]?) ∧ ∃ P1, Pi D P1 t.heap ∧ (ro = true → P1 = P) ∧ (∀ q, p_k P1 q ≠ 0 → p_k P q ≠ 0 ∨ st.heap.size ≤ q) ∧ ((∃ v, o = .returned v ∧ Post v P1) ∨ ∃ x X, o = .threw x ∧ pq_exc t x X ∧ X ∈ pq_xs ∧ Thr X P1))
    (fun st q => ro = false ∧ (p_k P q ≠ 0 ∨ st.heap.size ≤ q))
