/-! GHOST HEAPS: what a run knows of its heap, as a function from addresses to contents. A cell bears a label (free, chosen when it is made); label 0: a constant that nobody writes. -/
set_option maxRecDepth 100000
abbrev gh_C : Type := (Nat × vp_A) ⊕ (Nat × List Value)
abbrev gh_E : Type := Nat × gh_C
abbrev gh_H : Type := Nat → Option gh_E
/-- classes' ids and slots, array classes' ids, constants' addresses -/
abbrev gh_D : Type := va_G × (Nat → ClassId) × (Nat → Nat)
def gh_up (h : gh_H) (a : Nat) (e : gh_E) : gh_H := fun q => if q = a then some e else h q
def gh_T11 : u_T := fun k => match k with
  | 0 => ("BinderyDesk$Binding", "sign", "C", true)
  | _ => ("BinderyDesk$Binding", "places", "I", true)
def gh_clm : List vw_C := [(RX1, TX1, 11), (RX3, TX3, 26), (RX2, TX2, 1), (RX9, TX9, 2), (RX4, TX4, 3), (RX5, TX5, 1), (RX10, TX10, 3), (RX7, TX7, 3), (RJ2, TJ2, 3), (RJ19, TJ19, 4), (RJ4, TJ4, 1), (RJ6, TJ6, 9), (RJ26, TJ26, 6), (RJ28, TJ28, 4), (RJ29, TJ29, 1), (RJ25, TJ25, 1)]
def gh_cl : List vw_C := gh_clm ++ [(RX11, gh_T11, 2), (RX12, gh_T11, 2), (RX13, gh_T11, 2)]
def gh_ty : Nat → FieldType := fun t => match t with
  | 0 => .int
  | 1 => .long
  | 2 => .double
  | 3 => .boolean
  | 4 => .object "java/lang/Object"
  | 5 => .array .int
  | 6 => .object "BinderyDesk$Binding"
  | _ => .object "java/lang/Integer"
/-- a mutable class: its words, its types, its names -/
theorem gh_clm_ok : ∀ r ∈ gh_clm, (∀ w ∈ u_ws r.1 r.2.1 r.2.2, w ∈ lw_all) ∧ (∃ ty : Nat → FieldType, ∀ k, k < r.2.2 → parseFieldDescriptor (r.2.1 k).2.2.1 = some (ty k)) ∧ ∀ a, a < r.2.2 → ∀ b, b < r.2.2 → a ≠ b → (r.2.1 a).2.1 ≠ (r.2.1 b).2.1 := by
  intro r hr
  simp only [gh_clm, List.mem_cons, List.not_mem_nil, or_false] at hr
  rcases hr with rfl | rfl | rfl | rfl | rfl | rfl | rfl | rfl | rfl | rfl | rfl | rfl | rfl | rfl | rfl | rfl
  · exact ⟨in_X1, ⟨tyX1, tyX1_ok⟩, nmX1⟩
  · exact ⟨in_X3, ⟨tyX3, tyX3_ok⟩, nmX3⟩
  · exact ⟨in_X2, ⟨tyX2, tyX2_ok⟩, nmX2⟩
  · exact ⟨in_X9, ⟨tyX9, tyX9_ok⟩, nmX9⟩
  · exact ⟨in_X4, ⟨tyX4, tyX4_ok⟩, nmX4⟩
  · exact ⟨in_X5, ⟨tyX5, tyX5_ok⟩, nmX5⟩
  · exact ⟨in_X10, ⟨tyX10, tyX10_ok⟩, nmX10⟩
  · exact ⟨in_X7, ⟨tyX7, tyX7_ok⟩, nmX7⟩
  · exact ⟨in_J2, ⟨tyJ2, tyJ2_ok⟩, nmJ2⟩
  · exact ⟨in_J19, ⟨tyJ19, tyJ19_ok⟩, nmJ19⟩
  · exact ⟨in_J4, ⟨tyJ4, tyJ4_ok⟩, nmJ4⟩
  · exact ⟨in_J6, ⟨tyJ6, tyJ6_ok⟩, nmJ6⟩
  · exact ⟨in_J26, ⟨tyJ26, tyJ26_ok⟩, nmJ26⟩
  · exact ⟨in_J28, ⟨tyJ28, tyJ28_ok⟩, nmJ28⟩
  · exact ⟨in_J29, ⟨tyJ29, tyJ29_ok⟩, nmJ29⟩
  · exact ⟨in_J25, ⟨tyJ25, tyJ25_ok⟩, nmJ25⟩
def gh_val (x : vp_A) (j : Nat) : Value := match x.2 with
  | .inl f => .int (f j)
  | .inr (.inl f) => .long (f j)
  | .inr (.inr (.inl f)) => .float (f j)
  | .inr (.inr (.inr (.inl f))) => .double (f j)
  | .inr (.inr (.inr (.inr f))) => va_rf (f j)
/-- a cell that this run may write -/
def gh_At (D : gh_D) (e : gh_C) (a : Nat) (H : Heap) : Prop := match e with
  | .inl x => x.1 < 7 ∧ H[a]? = some (vp_cell (D.2.1 x.1) x.2)
  | .inr o => ∃ r : vw_C, gh_clm[o.1]? = some r ∧ t_OB a (D.1.1 o.1) r.2.2 (D.1.2 o.1) H (vp_V o.2)
/-- what can be read of a cell -/
def gh_Rd (e : gh_C) (a : Nat) (U : State) (H : Heap) : Prop := match e with
  | .inl x => ∃ cell : Cell, H[a]? = some cell ∧ U.isArrayOf cell (gh_ty x.1) ∧ cell.vm ≠ .unknown ∧ cell.slots.size = x.2.1 ∧ (∀ j, j < x.2.1 → cell.slots[j]? = some (gh_val x.2 j)) ∧ ∀ C : String, gh_ty x.1 = .object C → x.1 < 7 → U.vm.findClass ("[" ++ (FieldType.object C).toString) = some cell.cls
  | .inr o => ∃ (r : vw_C) (cell : Cell), gh_cl[o.1]? = some r ∧ H[a]? = some cell ∧ cell.vm.isStatics = false ∧ cell.vm ≠ .unknown ∧ U.vm.findClass r.1 = some cell.cls ∧ ∀ k, k < r.2.2 → ∃ (cf : ClassId) (kf : Class) (fi : Nat) (f : Field), U.fieldFound? (r.2.1 k).1 (r.2.1 k).2.1 (r.2.1 k).2.2.1 = some (cf, kf, fi, f) ∧ f.isStatic = false ∧ cell.slots[f.slot]? = some (vp_V o.2 k)
def gh_K (D : gh_D) (U : State) : Prop := va_K D.1 gh_clm [] U ∧ ∀ t, t < 7 → ArrOfT U (D.2.1 t) (gh_ty t) ∧ va_RA U (D.2.1 t) (gh_ty t)
theorem gh_K.moved {D : gh_D} {u U : State} (hvm : u.vm.Alike U.vm) (h : gh_K D u) : gh_K D U := ⟨va_K.moved hvm h.1, fun t ht => ⟨arrOfT_moved hvm (h.2 t ht).1, (h.2 t ht).2.moved hvm⟩⟩
theorem gh_Rd.moved {e : gh_C} {a : Nat} {u U : State} {H : Heap} (hvm : u.vm.Alike U.vm) (h : gh_Rd e a u H) : gh_Rd e a U H := by
  cases e with
  | inl x =>
    obtain ⟨cell, h1, h2, h3, h4, h5, h6⟩ := h
    exact ⟨cell, h1, State.isArrayOf_alike hvm h2, h3, h4, h5, fun C hC hx => by rw [hvm.findClass]; exact h6 C hC hx⟩
  | inr o =>
    obtain ⟨r, cell, h1, h2, h3, h4, h5, h6⟩ := h
    refine ⟨r, cell, h1, h2, h3, h4, by rw [hvm.findClass]; exact h5, fun k hk => ?_⟩
    obtain ⟨cf, kf, fi, f, g1, g2, g3⟩ := h6 k hk
    obtain ⟨k', hi', -⟩ := State.fieldFound?_setVm hvm g1
    exact ⟨cf, k', fi, f, hi', g2, g3⟩
theorem gh_Rd.kept {e : gh_C} {a : Nat} {U : State} {H H1 : Heap} (h : gh_Rd e a U H) (hq : H1[a]? = H[a]?) : gh_Rd e a U H1 := by
  cases e with
  | inl x =>
    obtain ⟨cell, h1, h2⟩ := h
    exact ⟨cell, by rw [hq]; exact h1, h2⟩
  | inr o =>
    obtain ⟨r, cell, h1, h2, h3⟩ := h
    exact ⟨r, cell, h1, by rw [hq]; exact h2, h3⟩
theorem gh_Rd.lt {e : gh_C} {a : Nat} {U : State} {H : Heap} (h : gh_Rd e a U H) : a < H.size := by
  cases e with
  | inl x =>
    obtain ⟨cell, h1, h2⟩ := h
    exact (Array.getElem?_eq_some_iff.mp h1).1
  | inr o =>
    obtain ⟨r, cell, h1, h2, h3⟩ := h
    exact (Array.getElem?_eq_some_iff.mp h2).1
theorem gh_At.kept {D : gh_D} {e : gh_C} {a : Nat} {H H1 : Heap} (h : gh_At D e a H) (hq : H1[a]? = H[a]?) : gh_At D e a H1 := by
  cases e with
  | inl x => exact ⟨h.1, hq.trans h.2⟩
  | inr o =>
    obtain ⟨r, h1, h2⟩ := h
    exact ⟨r, h1, h2.kept hq⟩
theorem gh_At.lt {D : gh_D} {e : gh_C} {a : Nat} {H : Heap} (h : gh_At D e a H) : a < H.size := by
  cases e with
  | inl x => exact (Array.getElem?_eq_some_iff.mp h.2).1
  | inr o =>
    obtain ⟨r, h1, cell, h2, -⟩ := h
    exact (Array.getElem?_eq_some_iff.mp h2).1
theorem gh_cl_of {ci : Nat} {r : vw_C} (h : gh_clm[ci]? = some r) : gh_cl[ci]? = some r := by
  unfold gh_cl
  rw [List.getElem?_append_left (List.getElem?_eq_some_iff.mp h).1]
  exact h
theorem gh_valr (cA : ClassId) (x : vp_A) {j : Nat} (hj : j < x.1) : (vp_cell cA x).slots[j]? = some (gh_val x j) := by
  obtain ⟨n, f | f | f | f | f⟩ := x <;> exact arrV_read _ _ hj
theorem gh_vals (cA : ClassId) (x : vp_A) : (vp_cell cA x).slots.size = x.1 := by
  obtain ⟨n, f | f | f | f | f⟩ := x <;> exact arrV_size _ _ _
theorem gh_At.rd {D : gh_D} {e : gh_C} {a : Nat} {U : State} {H : Heap} {args : Array Value} (hts : ∀ w ∈ lw_all, w.before args U = true) (hK : gh_K D U) (h : gh_At D e a H) : gh_Rd e a U H := by
  cases e with
  | inl x =>
    obtain ⟨h1, h2⟩ := h
    obtain ⟨t, n, y⟩ := x
    have hA := (hK.2 t h1).1
    refine ⟨_, h2, ?_, ?_, gh_vals _ _, fun j hj => gh_valr _ _ hj, fun C hC _ => ?_⟩
    · rcases y with f | f | f | f | f <;> exact hA n _
    · rcases y with f | f | f | f | f <;> exact fun q => by cases q
    · have hR := (hK.2 t h1).2
      have hC' : gh_ty t = .object C := hC
      rw [hC'] at hR
      obtain ⟨-, -, -, -, -, h4⟩ := hR
      rw [h4]
      rcases y with f | f | f | f | f <;> rfl
  | inr o =>
    obtain ⟨r, h1, cell, q1, q2, q3, q4⟩ := h
    obtain ⟨hS, hfc, kC, hkC, hkind⟩ := hK.1.1 o.1 _ h1
    refine ⟨r, cell, gh_cl_of h1, q1, by rw [q3]; rfl, by rw [q3]; exact (fun q => by cases q), by rw [q2]; exact hfc, fun k hk => ?_⟩
    obtain ⟨cf, kf, fi, f, hi, hsl⟩ := hS k hk
    refine ⟨cf, kf, fi, f, hi, (u_facts hfc hkC (u_lays hts (gh_clm_ok r (List.mem_of_getElem? h1)).1 hk) hi).1, ?_⟩
    rw [hsl]
    exact q4 k hk
/-- the heap is as the ghost says -/
def gh_Rep (D : gh_D) (h : gh_H) (U : State) (H : Heap) : Prop := ∀ (a lb : Nat) (e : gh_C), h a = some (lb, e) → (lb = 0 → gh_Rd e a U H) ∧ (lb ≠ 0 → gh_At D e a H)
theorem gh_Rep.moved {D : gh_D} {h : gh_H} {u U : State} {H : Heap} (hvm : u.vm.Alike U.vm) (hR : gh_Rep D h u H) : gh_Rep D h U H := fun a lb e he => ⟨fun z => ((hR a lb e he).1 z).moved hvm, (hR a lb e he).2⟩
theorem gh_Rep.lt {D : gh_D} {h : gh_H} {U : State} {H : Heap} (hR : gh_Rep D h U H) {a : Nat} {e : gh_E} (he : h a = some e) : a < H.size := by
  obtain ⟨lb, e⟩ := e
  by_cases z : lb = 0
  · exact ((hR a lb e he).1 z).lt
  · exact ((hR a lb e he).2 z).lt
theorem gh_Rep.rd {D : gh_D} {h : gh_H} {U : State} {H : Heap} {args : Array Value} (hts : ∀ w ∈ lw_all, w.before args U = true) (hK : gh_K D U) (hR : gh_Rep D h U H) {a lb : Nat} {e : gh_C} (he : h a = some (lb, e)) : gh_Rd e a U H := by
  by_cases z : lb = 0
  · exact (hR a lb e he).1 z
  · exact ((hR a lb e he).2 z).rd hts hK
theorem gh_Rep.fresh {D : gh_D} {h : gh_H} {U : State} {H : Heap} (hR : gh_Rep D h U H) : h H.size = none := by
  cases he : h H.size with
  | none => rfl
  | some e => exact absurd (hR.lt he) (Nat.lt_irrefl _)
/-- the cells that a run may change: those that it knows, and those that come -/
def gh_A (h : gh_H) (sz : Nat) : Nat → Prop := fun q => (∃ (lb : Nat) (e : gh_C), h q = some (lb, e) ∧ lb ≠ 0) ∨ sz ≤ q
/-- a ghost in a run that may change A, begun in the heap H0 at the ghost h0 -/
def gh_Inv (D : gh_D) (h0 : gh_H) (A : Nat → Prop) (H0 : Heap) (U : State) (H : Heap) (locs : List Loc) (h : gh_H) : Prop :=
  gh_Rep D h U H ∧ (∀ (a lb : Nat) (e : gh_C), h a = some (lb, e) → lb ≠ 0 → A a) ∧ (∀ (a : Nat) (e : gh_C), h a = some (0, e) → h0 a = some (0, e) ∧ ¬ A a) ∧ va_S A H0 H locs ∧ ∀ q, H0.size ≤ q → A q
theorem gh_Inv.start {D : gh_D} {h : gh_H} {U : State} (hR : gh_Rep D h U U.heap) : gh_Inv D h (gh_A h U.heap.size) U.heap U U.heap [] h := by
  refine ⟨hR, fun a lb e he hz => Or.inl ⟨lb, e, he, hz⟩, fun a e he => ⟨he, fun q => ?_⟩, va_S.rf, fun q hq => Or.inr hq⟩
  rcases q with ⟨lb, e', h1, h2⟩ | q
  · rw [he] at h1
    cases h1
    exact h2 rfl
  · exact absurd (hR.lt he) (Nat.not_lt.mpr q)
/-- a cell is written -/
theorem gh_Inv.set {D : gh_D} {h0 h : gh_H} {A : Nat → Prop} {H0 H H1 : Heap} {U : State} {locs : List Loc} {a k lb : Nat} {e0 e : gh_C} (G : gh_Inv D h0 A H0 U H locs h) (he : h a = some (lb, e0)) (hz : lb ≠ 0) (hat : gh_At D e a H1) (z : H1.size = H.size) (oq : ∀ q : Nat, q ≠ a → H1[q]? = H[q]?) : gh_Inv D h0 A H0 U H1 (locs ++ [⟨a, k⟩]) (gh_up h a (lb, e)) := by
  obtain ⟨g1, g2, g3, g4, g5⟩ := G
  refine ⟨fun b l x hb => ?_, fun b l x hb hl => ?_, fun b x hb => ?_, g4.put z oq (g2 a lb e0 he hz), g5⟩
  · unfold gh_up at hb
    split at hb
    · rename_i hba
      cases hb
      subst hba
      exact ⟨fun q => absurd q hz, fun _ => hat⟩
    · rename_i hba
      exact ⟨fun q => ((g1 b l x hb).1 q).kept (oq b hba), fun q => ((g1 b l x hb).2 q).kept (oq b hba)⟩
  · unfold gh_up at hb
    split at hb
    · rename_i hba
      subst hba
      exact g2 b lb e0 he hz
    · exact g2 b l x hb hl
  · unfold gh_up at hb
    split at hb
    · cases hb
      exact absurd rfl hz
    · exact g3 b x hb
/-- a cell is made -/
theorem gh_Inv.new {D : gh_D} {h0 h : gh_H} {A : Nat → Prop} {H0 H H1 : Heap} {U : State} {locs : List Loc} {lb : Nat} {e : gh_C} (G : gh_Inv D h0 A H0 U H locs h) (hz : lb ≠ 0) (hat : gh_At D e H.size H1) (z : H1.size = H.size + 1) (oq : ∀ q : Nat, q < H.size → H1[q]? = H[q]?) : gh_Inv D h0 A H0 U H1 locs (gh_up h H.size (lb, e)) := by
  obtain ⟨g1, g2, g3, g4, g5⟩ := G
  refine ⟨fun b l x hb => ?_, fun b l x hb hl => ?_, fun b x hb => ?_, ⟨Nat.le_trans g4.1 (by omega), fun q h1 h2 => (oq q (Nat.lt_of_lt_of_le h1 g4.1)).trans (g4.2.1 q h1 h2), g4.2.2⟩, g5⟩
  · unfold gh_up at hb
    split at hb
    · rename_i hba
      cases hb
      subst hba
      exact ⟨fun q => absurd q hz, fun _ => hat⟩
    · rename_i hba
      exact ⟨fun q => ((g1 b l x hb).1 q).kept (oq b (g1.lt hb)), fun q => ((g1 b l x hb).2 q).kept (oq b (g1.lt hb))⟩
  · unfold gh_up at hb
    split at hb
    · rename_i hba
      subst hba
      exact g5 _ g4.1
    · exact g2 b l x hb hl
  · unfold gh_up at hb
    split at hb
    · cases hb
      exact absurd rfl hz
    · exact g3 b x hb
/-- behind a call that knew the same ghost -/
theorem gh_Inv.call {D : gh_D} {h0 h h' : gh_H} {A : Nat → Prop} {H0 H H1 : Heap} {U t : State} {locs locs1 : List Loc} (G : gh_Inv D h0 A H0 U H locs h) (hvm : U.vm.Alike t.vm) (hR : gh_Rep D h' t H1) (hd : ∀ (a lb : Nat) (e : gh_C), h' a = some (lb, e) → lb ≠ 0 → gh_A h H.size a) (h3 : ∀ (a : Nat) (e : gh_C), h' a = some (0, e) → h a = some (0, e)) (hS : va_S A H0 H1 locs1) : gh_Inv D h0 A H0 U H1 locs1 h' := by
  obtain ⟨g1, g2, g3, g4, g5⟩ := G
  refine ⟨hR.moved hvm.symm, fun a lb e he hz => ?_, fun a e he => g3 a e (h3 a e he), hS, g5⟩
  rcases hd a lb e he hz with ⟨l, x, hx, hl⟩ | hx
  · exact g2 a l x hx hl
  · exact g5 a (Nat.le_trans g4.1 hx)
theorem gh_Inv.sub {D : gh_D} {h0 h : gh_H} {A : Nat → Prop} {H0 H : Heap} {U : State} {locs : List Loc} (G : gh_Inv D h0 A H0 U H locs h) : ∀ q, gh_A h H.size q → A q := by
  intro q hq
  rcases hq with ⟨l, x, hx, hl⟩ | hx
  · exact G.2.1 q l x hx hl
  · exact G.2.2.2.2 q (Nat.le_trans G.2.2.2.1.1 hx)
/-- words of the tables that aren't good: carried along -/
def gh_tw : List Cond := [(Cond.declares ({ cls := "java/util/AbstractCollection", name := "size", desc := "()I" } : Jvm.MethodName)), (Cond.declares ({ cls := "java/util/AbstractCollection", name := "remove", desc := "(Ljava/lang/Object;)Z" } : Jvm.MethodName)), (Cond.declares ({ cls := "java/util/AbstractCollection", name := "iterator", desc := "()Ljava/util/Iterator;" } : Jvm.MethodName)), (Cond.publicMethod ({ cls := "java/util/AbstractCollection", name := "toArray", desc := "()[Ljava/lang/Object;" } : Jvm.MethodName)), (Cond.castable "java/lang/IllegalStateException" "java/lang/IllegalStateException"), (Cond.castable "java/lang/IllegalStateException" "java/lang/Object"), (Cond.declares ({ cls := "java/lang/IndexOutOfBoundsException", name := "<init>", desc := "()V" } : Jvm.MethodName)), (Cond.declares ({ cls := "java/lang/IndexOutOfBoundsException", name := "<init>", desc := "(Ljava/lang/String;)V" } : Jvm.MethodName)), (Cond.castable "java/lang/IndexOutOfBoundsException" "java/lang/IndexOutOfBoundsException"), (Cond.castable "java/lang/IndexOutOfBoundsException" "java/lang/Object"), (Cond.castable "java/lang/ArrayIndexOutOfBoundsException" "java/lang/ArrayIndexOutOfBoundsException"), (Cond.castable "java/lang/ArrayIndexOutOfBoundsException" "java/lang/IndexOutOfBoundsException"), (Cond.castable "java/lang/ArrayIndexOutOfBoundsException" "java/lang/Object"), (Cond.castable "java/lang/String" "java/lang/Comparable"), (Cond.unhidden "java/lang/String" "compareTo" "(Ljava/lang/Object;)I"), (Cond.publicMethod ({ cls := "java/lang/String", name := "compareTo", desc := "(Ljava/lang/Object;)I" } : Jvm.MethodName)), (Cond.castable "java/lang/String" "java/lang/Object"), (Cond.fieldLinkNest "java/util/ArrayList$Itr" (28 : Nat) "java/util/ArrayList" "size" "I" "java/util/ArrayList"), (Cond.castable "java/util/ArrayList$Itr" "java/util/Iterator"), (Cond.unhidden "java/util/ArrayList$Itr" "hasNext" "()Z"), (Cond.publicMethod ({ cls := "java/util/ArrayList$Itr", name := "hasNext", desc := "()Z" } : Jvm.MethodName)), (Cond.unhidden "java/util/ArrayList$Itr" "next" "()Ljava/lang/Object;"), (Cond.publicMethod ({ cls := "java/util/ArrayList$Itr", name := "next", desc := "()Ljava/lang/Object;" } : Jvm.MethodName)), (Cond.unhidden "java/util/ArrayList$Itr" "remove" "()V"), (Cond.publicMethod ({ cls := "java/util/ArrayList$Itr", name := "remove", desc := "()V" } : Jvm.MethodName)), (Cond.castable "java/util/ArrayList$Itr" "java/lang/Object"), (Cond.castable "java/util/ArrayList" "java/util/List"), (Cond.unhidden "java/util/ArrayList" "size" "()I"), (Cond.publicMethod ({ cls := "java/util/ArrayList", name := "size", desc := "()I" } : Jvm.MethodName)), (Cond.unhidden "java/util/ArrayList" "add" "(Ljava/lang/Object;)Z"), (Cond.publicMethod ({ cls := "java/util/ArrayList", name := "add", desc := "(Ljava/lang/Object;)Z" } : Jvm.MethodName)), (Cond.unhidden "java/util/ArrayList" "get" "(I)Ljava/lang/Object;"), (Cond.publicMethod ({ cls := "java/util/ArrayList", name := "get", desc := "(I)Ljava/lang/Object;" } : Jvm.MethodName)), (Cond.unhidden "java/util/ArrayList" "iterator" "()Ljava/util/Iterator;"), (Cond.publicMethod ({ cls := "java/util/ArrayList", name := "iterator", desc := "()Ljava/util/Iterator;" } : Jvm.MethodName)), (Cond.unhidden "java/util/ArrayList" "isEmpty" "()Z"), (Cond.publicMethod ({ cls := "java/util/ArrayList", name := "isEmpty", desc := "()Z" } : Jvm.MethodName)), (Cond.castable "java/util/ArrayList" "java/util/Collection"), (Cond.unhidden "java/util/ArrayList" "contains" "(Ljava/lang/Object;)Z"), (Cond.publicMethod ({ cls := "java/util/ArrayList", name := "contains", desc := "(Ljava/lang/Object;)Z" } : Jvm.MethodName)), (Cond.unhidden "java/util/ArrayList" "toArray" "()[Ljava/lang/Object;"), (Cond.publicMethod ({ cls := "java/util/ArrayList", name := "toArray", desc := "()[Ljava/lang/Object;" } : Jvm.MethodName)), (Cond.unhidden "java/util/ArrayList" "getClass" "()Ljava/lang/Class;"), (Cond.unhidden "java/util/ArrayList" "indexOf" "(Ljava/lang/Object;)I"), (Cond.publicMethod ({ cls := "java/util/ArrayList", name := "indexOf", desc := "(Ljava/lang/Object;)I" } : Jvm.MethodName)), (Cond.castable "java/util/ArrayList" "java/lang/Object"), (Cond.castable "java/util/NoSuchElementException" "java/util/NoSuchElementException"), (Cond.castable "java/util/NoSuchElementException" "java/lang/Object"), (Cond.publicMethod ({ cls := "java/lang/Enum", name := "compareTo", desc := "(Ljava/lang/Object;)I" } : Jvm.MethodName)), (Cond.castable "java/lang/IllegalArgumentException" "java/lang/IllegalArgumentException"), (Cond.castable "java/lang/IllegalArgumentException" "java/lang/Object"), (Cond.castable "java/lang/UnsupportedOperationException" "java/lang/UnsupportedOperationException"), (Cond.castable "java/lang/UnsupportedOperationException" "java/lang/Object"), (Cond.castable "java/lang/Integer" "java/lang/Comparable"), (Cond.unhidden "java/lang/Integer" "compareTo" "(Ljava/lang/Object;)I"), (Cond.publicMethod ({ cls := "java/lang/Integer", name := "compareTo", desc := "(Ljava/lang/Object;)I" } : Jvm.MethodName)), (Cond.castable "java/lang/Integer" "java/lang/Object"), (Cond.castable "java/util/TreeMap$Entry" "java/lang/Object"), (Cond.fieldLinkNest "java/util/TreeMap$PrivateEntryIterator" (13 : Nat) "java/util/TreeMap" "modCount" "I" "java/util/TreeMap"), (Cond.publicMethod ({ cls := "java/util/TreeMap$PrivateEntryIterator", name := "hasNext", desc := "()Z" } : Jvm.MethodName)), (Cond.declares ({ cls := "java/util/TreeMap$PrivateEntryIterator", name := "nextEntry", desc := "()Ljava/util/TreeMap$Entry;" } : Jvm.MethodName)), (Cond.publicMethod ({ cls := "java/util/TreeMap$PrivateEntryIterator", name := "remove", desc := "()V" } : Jvm.MethodName)), (Cond.methodLinkNest "java/util/TreeMap$PrivateEntryIterator" (53 : Nat) ({ cls := "java/util/TreeMap", name := "deleteEntry", desc := "(Ljava/util/TreeMap$Entry;)V" } : Jvm.MethodName) "java/util/TreeMap"), (Cond.castable "java/util/TreeMap$KeyIterator" "java/util/Iterator"), (Cond.unhidden "java/util/TreeMap$KeyIterator" "hasNext" "()Z"), (Cond.unhidden "java/util/TreeMap$KeyIterator" "next" "()Ljava/lang/Object;"), (Cond.publicMethod ({ cls := "java/util/TreeMap$KeyIterator", name := "next", desc := "()Ljava/lang/Object;" } : Jvm.MethodName)), (Cond.unhidden "java/util/TreeMap$KeyIterator" "remove" "()V"), (Cond.castable "java/util/TreeMap$KeyIterator" "java/lang/Object"), (Cond.castable "java/util/TreeMap$KeySet" "java/util/Collection"), (Cond.unhidden "java/util/TreeMap$KeySet" "size" "()I"), (Cond.publicMethod ({ cls := "java/util/TreeMap$KeySet", name := "size", desc := "()I" } : Jvm.MethodName)), (Cond.unhidden "java/util/TreeMap$KeySet" "iterator" "()Ljava/util/Iterator;"), (Cond.publicMethod ({ cls := "java/util/TreeMap$KeySet", name := "iterator", desc := "()Ljava/util/Iterator;" } : Jvm.MethodName)), (Cond.castable "java/util/TreeMap$KeySet" "java/util/NavigableSet"), (Cond.unhidden "java/util/TreeMap$KeySet" "contains" "(Ljava/lang/Object;)Z"), (Cond.publicMethod ({ cls := "java/util/TreeMap$KeySet", name := "contains", desc := "(Ljava/lang/Object;)Z" } : Jvm.MethodName)), (Cond.unhidden "java/util/TreeMap$KeySet" "toArray" "()[Ljava/lang/Object;"), (Cond.unhidden "java/util/TreeMap$KeySet" "getClass" "()Ljava/lang/Class;"), (Cond.castable "java/util/TreeMap$KeySet" "java/lang/Object"), (Cond.declares ({ cls := "java/util/AbstractSet", name := "removeAll", desc := "(Ljava/util/Collection;)Z" } : Jvm.MethodName)), (Cond.castable "java/util/ConcurrentModificationException" "java/util/ConcurrentModificationException"), (Cond.castable "java/util/ConcurrentModificationException" "java/lang/Object"), (Cond.castable "java/lang/ArithmeticException" "java/lang/ArithmeticException"), (Cond.castable "java/lang/ArithmeticException" "java/lang/Object"), (Cond.declares ({ cls := "java/lang/Object", name := "equals", desc := "(Ljava/lang/Object;)Z" } : Jvm.MethodName)), (Cond.declares ({ cls := "java/lang/Object", name := "getClass", desc := "()Ljava/lang/Class;" } : Jvm.MethodName)), (Cond.publicMethod ({ cls := "java/lang/Object", name := "getClass", desc := "()Ljava/lang/Class;" } : Jvm.MethodName)), (Cond.castable "java/util/TreeSet" "java/util/Collection"), (Cond.unhidden "java/util/TreeSet" "size" "()I"), (Cond.publicMethod ({ cls := "java/util/TreeSet", name := "size", desc := "()I" } : Jvm.MethodName)), (Cond.unhidden "java/util/TreeSet" "iterator" "()Ljava/util/Iterator;"), (Cond.publicMethod ({ cls := "java/util/TreeSet", name := "iterator", desc := "()Ljava/util/Iterator;" } : Jvm.MethodName)), (Cond.castable "java/util/TreeSet" "java/util/NavigableSet"), (Cond.unhidden "java/util/TreeSet" "contains" "(Ljava/lang/Object;)Z"), (Cond.publicMethod ({ cls := "java/util/TreeSet", name := "contains", desc := "(Ljava/lang/Object;)Z" } : Jvm.MethodName)), (Cond.unhidden "java/util/TreeSet" "toArray" "()[Ljava/lang/Object;"), (Cond.unhidden "java/util/TreeSet" "getClass" "()Ljava/lang/Class;"), (Cond.castable "java/util/TreeSet" "java/lang/Object"), (Cond.castable "java/util/TreeMap" "java/util/NavigableMap"), (Cond.unhidden "java/util/TreeMap" "size" "()I"), (Cond.publicMethod ({ cls := "java/util/TreeMap", name := "size", desc := "()I" } : Jvm.MethodName)), (Cond.unhidden "java/util/TreeMap" "put" "(Ljava/lang/Object;Ljava/lang/Object;)Ljava/lang/Object;"), (Cond.publicMethod ({ cls := "java/util/TreeMap", name := "put", desc := "(Ljava/lang/Object;Ljava/lang/Object;)Ljava/lang/Object;" } : Jvm.MethodName)), (Cond.unhidden "java/util/TreeMap" "navigableKeySet" "()Ljava/util/NavigableSet;"), (Cond.publicMethod ({ cls := "java/util/TreeMap", name := "navigableKeySet", desc := "()Ljava/util/NavigableSet;" } : Jvm.MethodName)), (Cond.unhidden "java/util/TreeMap" "remove" "(Ljava/lang/Object;)Ljava/lang/Object;"), (Cond.publicMethod ({ cls := "java/util/TreeMap", name := "remove", desc := "(Ljava/lang/Object;)Ljava/lang/Object;" } : Jvm.MethodName)), (Cond.unhidden "java/util/TreeMap" "containsKey" "(Ljava/lang/Object;)Z"), (Cond.publicMethod ({ cls := "java/util/TreeMap", name := "containsKey", desc := "(Ljava/lang/Object;)Z" } : Jvm.MethodName)), (Cond.castable "java/util/TreeMap" "java/lang/Object"), (Cond.declares ({ cls := "java/lang/Throwable", name := "<init>", desc := "()V" } : Jvm.MethodName)), (Cond.declares ({ cls := "java/lang/Throwable", name := "<init>", desc := "(Ljava/lang/String;)V" } : Jvm.MethodName)), (Cond.castable "java/lang/Throwable" "java/lang/Object"), (Cond.declares ({ cls := "java/lang/Exception", name := "<init>", desc := "()V" } : Jvm.MethodName)), (Cond.declares ({ cls := "java/lang/Exception", name := "<init>", desc := "(Ljava/lang/String;)V" } : Jvm.MethodName)), (Cond.declares ({ cls := "java/lang/RuntimeException", name := "<init>", desc := "()V" } : Jvm.MethodName)), (Cond.declares ({ cls := "java/lang/RuntimeException", name := "<init>", desc := "(Ljava/lang/String;)V" } : Jvm.MethodName)), (Cond.methodLinkNest "BinderyDesk" (49 : Nat) ({ cls := "BinderyDesk$Counter", name := "<init>", desc := "()V" } : Jvm.MethodName) "BinderyDesk"), (Cond.fieldLinkNest "BinderyDesk" (115 : Nat) "BinderyDesk$Content" "state" "I" "BinderyDesk"), (Cond.fieldLinkNest "BinderyDesk" (111 : Nat) "BinderyDesk$Content" "isApproved" "Z" "BinderyDesk"), (Cond.fieldLinkNest "BinderyDesk" (264 : Nat) "BinderyDesk$Correction" "content" "LBinderyDesk$Content;" "BinderyDesk"), (Cond.fieldLinkNest "BinderyDesk" (159 : Nat) "BinderyDesk$Job" "binding" "LBinderyDesk$Binding;" "BinderyDesk"), (Cond.fieldLinkNest "BinderyDesk" (152 : Nat) "BinderyDesk$Job" "pages" "Ljava/util/List;" "BinderyDesk"), (Cond.fieldLinkNest "BinderyDesk" (179 : Nat) "BinderyDesk$Job" "piles" "Ljava/util/List;" "BinderyDesk"), (Cond.fieldLinkNest "BinderyDesk" (254 : Nat) "BinderyDesk$Lot" "copies" "I" "BinderyDesk"), (Cond.fieldLinkNest "BinderyDesk" (261 : Nat) "BinderyDesk$Lot" "contents" "Ljava/util/List;" "BinderyDesk"), (Cond.fieldLinkNest "BinderyDesk" (251 : Nat) "BinderyDesk$Lot" "states" "[I" "BinderyDesk"), (Cond.castable "BinderyDesk" "java/lang/Object"), (Cond.fieldLinkNest "BinderyDesk" (163 : Nat) "BinderyDesk$Binding" "places" "I" "BinderyDesk"), (Cond.fieldLinkNest "BinderyDesk$Lot" (38 : Nat) "BinderyDesk$Content" "state" "I" "BinderyDesk"), (Cond.castable "BinderyDesk$Lot" "BinderyDesk$Event"), (Cond.castable "BinderyDesk$Lot" "java/lang/Object"), (Cond.castable "BinderyDesk$Binding$1" "java/lang/Comparable"), (Cond.unhidden "BinderyDesk$Binding$1" "compareTo" "(Ljava/lang/Object;)I"), (Cond.castable "BinderyDesk$Binding$1" "java/lang/Enum"), (Cond.castable "BinderyDesk$Binding$1" "java/lang/Object"), (Cond.castable "BinderyDesk$Binding$1" "BinderyDesk$Binding"), (Cond.castable "BinderyDesk$Binding$2" "java/lang/Comparable"), (Cond.unhidden "BinderyDesk$Binding$2" "compareTo" "(Ljava/lang/Object;)I"), (Cond.castable "BinderyDesk$Binding$2" "java/lang/Enum"), (Cond.castable "BinderyDesk$Binding$2" "java/lang/Object"), (Cond.castable "BinderyDesk$Binding$2" "BinderyDesk$Binding"), (Cond.castable "BinderyDesk$Binding$3" "java/lang/Comparable"), (Cond.unhidden "BinderyDesk$Binding$3" "compareTo" "(Ljava/lang/Object;)I"), (Cond.castable "BinderyDesk$Binding$3" "java/lang/Enum"), (Cond.castable "BinderyDesk$Binding$3" "java/lang/Object"), (Cond.castable "BinderyDesk$Binding$3" "BinderyDesk$Binding"), (Cond.declares ({ cls := "BinderyDesk$Counter", name := "count", desc := "()J" } : Jvm.MethodName)), (Cond.declares ({ cls := "BinderyDesk$Counter", name := "add", desc := "(I)V" } : Jvm.MethodName)), (Cond.castable "BinderyDesk$Counter" "java/lang/Object"), (Cond.castable "BinderyDeskModel" "java/lang/Object"), (Cond.castable "BinderyDesk$Content" "java/lang/Object"), (Cond.castable "BinderyDesk$Correction" "BinderyDesk$Event"), (Cond.castable "BinderyDesk$Correction" "java/lang/Object"), (Cond.declares ({ cls := "BinderyDesk$Binding", name := "pageAt", desc := "(III)I" } : Jvm.MethodName)), (Cond.castable "BinderyDesk$Binding" "java/lang/Object"), (Cond.fieldLinkNest "BinderyDesk$Job" (71 : Nat) "BinderyDesk$Content" "isApproved" "Z" "BinderyDesk"), (Cond.castable "BinderyDesk$Job" "java/lang/Object"), (Cond.fieldLinkNest "BinderyDesk$Job" (44 : Nat) "BinderyDesk$Binding" "places" "I" "BinderyDesk"), (Cond.declares ({ cls := "BinderyDesk$Pile", name := "stock", desc := "()I" } : Jvm.MethodName)), (Cond.methodLinkNest "BinderyDesk$Pile" (1 : Nat) ({ cls := "BinderyDesk$Counter", name := "<init>", desc := "()V" } : Jvm.MethodName) "BinderyDesk"), (Cond.methodLinkNest "BinderyDesk$SheetPile" (1 : Nat) ({ cls := "BinderyDesk$Pile", name := "<init>", desc := "()V" } : Jvm.MethodName) "BinderyDesk"), (Cond.castable "BinderyDesk$SheetPile" "java/lang/Object"), (Cond.castable "[B" "java/lang/Object"), (Cond.castable "[D" "java/lang/Object"), (Cond.castable "[I" "java/lang/Object"), (Cond.castable "[J" "java/lang/Object"), (Cond.castable "[LBinderyDesk$Binding;" "java/lang/Cloneable"), (Cond.castable "[LBinderyDesk$Binding;" "java/lang/Object"), (Cond.castable "[Ljava/lang/Object;" "java/lang/Object"), (Cond.castable "[Z" "java/lang/Object"), (Cond.castable "[[I" "java/lang/Object"), (Cond.declares ({ cls := "java/lang/Comparable", name := "compareTo", desc := "(Ljava/lang/Object;)I" } : Jvm.MethodName)), (Cond.declares ({ cls := "java/util/Collection", name := "size", desc := "()I" } : Jvm.MethodName)), (Cond.declares ({ cls := "java/util/Collection", name := "iterator", desc := "()Ljava/util/Iterator;" } : Jvm.MethodName)), (Cond.declares ({ cls := "java/util/Collection", name := "contains", desc := "(Ljava/lang/Object;)Z" } : Jvm.MethodName)), (Cond.declares ({ cls := "java/util/Collection", name := "toArray", desc := "()[Ljava/lang/Object;" } : Jvm.MethodName)), (Cond.declares ({ cls := "java/util/Comparator", name := "compare", desc := "(Ljava/lang/Object;Ljava/lang/Object;)I" } : Jvm.MethodName)), (Cond.declares ({ cls := "java/util/Iterator", name := "hasNext", desc := "()Z" } : Jvm.MethodName)), (Cond.declares ({ cls := "java/util/Iterator", name := "next", desc := "()Ljava/lang/Object;" } : Jvm.MethodName)), (Cond.declares ({ cls := "java/util/Iterator", name := "remove", desc := "()V" } : Jvm.MethodName)), (Cond.declares ({ cls := "java/util/List", name := "size", desc := "()I" } : Jvm.MethodName)), (Cond.declares ({ cls := "java/util/List", name := "add", desc := "(Ljava/lang/Object;)Z" } : Jvm.MethodName)), (Cond.declares ({ cls := "java/util/List", name := "get", desc := "(I)Ljava/lang/Object;" } : Jvm.MethodName)), (Cond.declares ({ cls := "java/util/List", name := "iterator", desc := "()Ljava/util/Iterator;" } : Jvm.MethodName)), (Cond.declares ({ cls := "java/util/List", name := "isEmpty", desc := "()Z" } : Jvm.MethodName)), (Cond.declares ({ cls := "java/util/List", name := "indexOf", desc := "(Ljava/lang/Object;)I" } : Jvm.MethodName)), (Cond.publicMethod ({ cls := "java/util/Map", name := "size", desc := "()I" } : Jvm.MethodName)), (Cond.declares ({ cls := "java/util/Map", name := "size", desc := "()I" } : Jvm.MethodName)), (Cond.publicMethod ({ cls := "java/util/Map", name := "put", desc := "(Ljava/lang/Object;Ljava/lang/Object;)Ljava/lang/Object;" } : Jvm.MethodName)), (Cond.declares ({ cls := "java/util/Map", name := "put", desc := "(Ljava/lang/Object;Ljava/lang/Object;)Ljava/lang/Object;" } : Jvm.MethodName)), (Cond.publicMethod ({ cls := "java/util/Map", name := "remove", desc := "(Ljava/lang/Object;)Ljava/lang/Object;" } : Jvm.MethodName)), (Cond.declares ({ cls := "java/util/Map", name := "remove", desc := "(Ljava/lang/Object;)Ljava/lang/Object;" } : Jvm.MethodName)), (Cond.publicMethod ({ cls := "java/util/Map", name := "containsKey", desc := "(Ljava/lang/Object;)Z" } : Jvm.MethodName)), (Cond.declares ({ cls := "java/util/Map", name := "containsKey", desc := "(Ljava/lang/Object;)Z" } : Jvm.MethodName)), (Cond.declares ({ cls := "java/util/NavigableMap", name := "navigableKeySet", desc := "()Ljava/util/NavigableSet;" } : Jvm.MethodName)), (Cond.declares ({ cls := "java/util/NavigableSet", name := "iterator", desc := "()Ljava/util/Iterator;" } : Jvm.MethodName)), (Cond.declares ({ cls := "java/util/TreeMap$NavigableSubMap", name := "keyIterator", desc := "()Ljava/util/Iterator;" } : Jvm.MethodName))]
theorem gh_tw_tbl : ∀ w ∈ gh_tw, w ∈ lw_tbl := List.forall_mem_cons.mpr ⟨q1128, List.forall_mem_cons.mpr ⟨q1231, List.forall_mem_cons.mpr ⟨q1268, List.forall_mem_cons.mpr ⟨q1433, List.forall_mem_cons.mpr ⟨q271, List.forall_mem_cons.mpr ⟨q1869, List.forall_mem_cons.mpr ⟨q463, List.forall_mem_cons.mpr ⟨q464, List.forall_mem_cons.mpr ⟨q485, List.forall_mem_cons.mpr ⟨q1872, List.forall_mem_cons.mpr ⟨q462, List.forall_mem_cons.mpr ⟨q1855, List.forall_mem_cons.mpr ⟨q1871, List.forall_mem_cons.mpr ⟨q982, List.forall_mem_cons.mpr ⟨q984, List.forall_mem_cons.mpr ⟨q986, List.forall_mem_cons.mpr ⟨q1891, List.forall_mem_cons.mpr ⟨q109, List.forall_mem_cons.mpr ⟨q567, List.forall_mem_cons.mpr ⟨q569, List.forall_mem_cons.mpr ⟨q571, List.forall_mem_cons.mpr ⟨q584, List.forall_mem_cons.mpr ⟨q586, List.forall_mem_cons.mpr ⟨q1282, List.forall_mem_cons.mpr ⟨q1284, List.forall_mem_cons.mpr ⟨q1874, List.forall_mem_cons.mpr ⟨q242, List.forall_mem_cons.mpr ⟨q244, List.forall_mem_cons.mpr ⟨q246, List.forall_mem_cons.mpr ⟨q362, List.forall_mem_cons.mpr ⟨q364, List.forall_mem_cons.mpr ⟨q503, List.forall_mem_cons.mpr ⟨q505, List.forall_mem_cons.mpr ⟨q540, List.forall_mem_cons.mpr ⟨q542, List.forall_mem_cons.mpr ⟨q637, List.forall_mem_cons.mpr ⟨q639, List.forall_mem_cons.mpr ⟨q1138, List.forall_mem_cons.mpr ⟨q1363, List.forall_mem_cons.mpr ⟨q1365, List.forall_mem_cons.mpr ⟨q1426, List.forall_mem_cons.mpr ⟨q1428, List.forall_mem_cons.mpr ⟨q1448, List.forall_mem_cons.mpr ⟨q1528, List.forall_mem_cons.mpr ⟨q1529, List.forall_mem_cons.mpr ⟨q1864, List.forall_mem_cons.mpr ⟨q594, List.forall_mem_cons.mpr ⟨q1875, List.forall_mem_cons.mpr ⟨q945, List.forall_mem_cons.mpr ⟨q737, List.forall_mem_cons.mpr ⟨q1879, List.forall_mem_cons.mpr ⟨q864, List.forall_mem_cons.mpr ⟨q1882, List.forall_mem_cons.mpr ⟨q969, List.forall_mem_cons.mpr ⟨q971, List.forall_mem_cons.mpr ⟨q973, List.forall_mem_cons.mpr ⟨q1883, List.forall_mem_cons.mpr ⟨q1884, List.forall_mem_cons.mpr ⟨q140, List.forall_mem_cons.mpr ⟨q577, List.forall_mem_cons.mpr ⟨q614, List.forall_mem_cons.mpr ⟨q1315, List.forall_mem_cons.mpr ⟨q1319, List.forall_mem_cons.mpr ⟨q573, List.forall_mem_cons.mpr ⟨q575, List.forall_mem_cons.mpr ⟨q608, List.forall_mem_cons.mpr ⟨q610, List.forall_mem_cons.mpr ⟨q1313, List.forall_mem_cons.mpr ⟨q1886, List.forall_mem_cons.mpr ⟨q1140, List.forall_mem_cons.mpr ⟨q1142, List.forall_mem_cons.mpr ⟨q1143, List.forall_mem_cons.mpr ⟨q1154, List.forall_mem_cons.mpr ⟨q1156, List.forall_mem_cons.mpr ⟨q1221, List.forall_mem_cons.mpr ⟨q1377, List.forall_mem_cons.mpr ⟨q1379, List.forall_mem_cons.mpr ⟨q1431, List.forall_mem_cons.mpr ⟨q1450, List.forall_mem_cons.mpr ⟨q1885, List.forall_mem_cons.mpr ⟨q1121, List.forall_mem_cons.mpr ⟨q1299, List.forall_mem_cons.mpr ⟨q1887, List.forall_mem_cons.mpr ⟨q1545, List.forall_mem_cons.mpr ⟨q1889, List.forall_mem_cons.mpr ⟨q1320, List.forall_mem_cons.mpr ⟨q1447, List.forall_mem_cons.mpr ⟨q1449, List.forall_mem_cons.mpr ⟨q1144, List.forall_mem_cons.mpr ⟨q1146, List.forall_mem_cons.mpr ⟨q1147, List.forall_mem_cons.mpr ⟨q1194, List.forall_mem_cons.mpr ⟨q1196, List.forall_mem_cons.mpr ⟨q1223, List.forall_mem_cons.mpr ⟨q1390, List.forall_mem_cons.mpr ⟨q1392, List.forall_mem_cons.mpr ⟨q1443, List.forall_mem_cons.mpr ⟨q1451, List.forall_mem_cons.mpr ⟨q1865, List.forall_mem_cons.mpr ⟨q228, List.forall_mem_cons.mpr ⟨q230, List.forall_mem_cons.mpr ⟨q232, List.forall_mem_cons.mpr ⟨q920, List.forall_mem_cons.mpr ⟨q922, List.forall_mem_cons.mpr ⟨q1203, List.forall_mem_cons.mpr ⟨q1205, List.forall_mem_cons.mpr ⟨q1240, List.forall_mem_cons.mpr ⟨q1242, List.forall_mem_cons.mpr ⟨q1385, List.forall_mem_cons.mpr ⟨q1387, List.forall_mem_cons.mpr ⟨q1866, List.forall_mem_cons.mpr ⟨q276, List.forall_mem_cons.mpr ⟨q277, List.forall_mem_cons.mpr ⟨q1890, List.forall_mem_cons.mpr ⟨q274, List.forall_mem_cons.mpr ⟨q275, List.forall_mem_cons.mpr ⟨q272, List.forall_mem_cons.mpr ⟨q273, List.forall_mem_cons.mpr ⟨q174, List.forall_mem_cons.mpr ⟨q347, List.forall_mem_cons.mpr ⟨q349, List.forall_mem_cons.mpr ⟨q531, List.forall_mem_cons.mpr ⟨q772, List.forall_mem_cons.mpr ⟨q774, List.forall_mem_cons.mpr ⟨q776, List.forall_mem_cons.mpr ⟨q1463, List.forall_mem_cons.mpr ⟨q1465, List.forall_mem_cons.mpr ⟨q1467, List.forall_mem_cons.mpr ⟨q1863, List.forall_mem_cons.mpr ⟨q1907, List.forall_mem_cons.mpr ⟨q345, List.forall_mem_cons.mpr ⟨q1860, List.forall_mem_cons.mpr ⟨q1888, List.forall_mem_cons.mpr ⟨q941, List.forall_mem_cons.mpr ⟨q943, List.forall_mem_cons.mpr ⟨q1856, List.forall_mem_cons.mpr ⟨q1876, List.forall_mem_cons.mpr ⟨q1892, List.forall_mem_cons.mpr ⟨q963, List.forall_mem_cons.mpr ⟨q965, List.forall_mem_cons.mpr ⟨q1857, List.forall_mem_cons.mpr ⟨q1877, List.forall_mem_cons.mpr ⟨q1893, List.forall_mem_cons.mpr ⟨q966, List.forall_mem_cons.mpr ⟨q968, List.forall_mem_cons.mpr ⟨q1858, List.forall_mem_cons.mpr ⟨q1878, List.forall_mem_cons.mpr ⟨q1894, List.forall_mem_cons.mpr ⟨q687, List.forall_mem_cons.mpr ⟨q695, List.forall_mem_cons.mpr ⟨q1867, List.forall_mem_cons.mpr ⟨q1868, List.forall_mem_cons.mpr ⟨q1870, List.forall_mem_cons.mpr ⟨q1859, List.forall_mem_cons.mpr ⟨q1873, List.forall_mem_cons.mpr ⟨q660, List.forall_mem_cons.mpr ⟨q1862, List.forall_mem_cons.mpr ⟨q348, List.forall_mem_cons.mpr ⟨q1880, List.forall_mem_cons.mpr ⟨q1905, List.forall_mem_cons.mpr ⟨q681, List.forall_mem_cons.mpr ⟨q764, List.forall_mem_cons.mpr ⟨q761, List.forall_mem_cons.mpr ⟨q1881, List.forall_mem_cons.mpr ⟨q1899, List.forall_mem_cons.mpr ⟨q1904, List.forall_mem_cons.mpr ⟨q1897, List.forall_mem_cons.mpr ⟨q1903, List.forall_mem_cons.mpr ⟨q732, List.forall_mem_cons.mpr ⟨q1900, List.forall_mem_cons.mpr ⟨q1898, List.forall_mem_cons.mpr ⟨q1902, List.forall_mem_cons.mpr ⟨q1901, List.forall_mem_cons.mpr ⟨q940, List.forall_mem_cons.mpr ⟨q1137, List.forall_mem_cons.mpr ⟨q1151, List.forall_mem_cons.mpr ⟨q1361, List.forall_mem_cons.mpr ⟨q1424, List.forall_mem_cons.mpr ⟨q1002, List.forall_mem_cons.mpr ⟨q566, List.forall_mem_cons.mpr ⟨q582, List.forall_mem_cons.mpr ⟨q1280, List.forall_mem_cons.mpr ⟨q241, List.forall_mem_cons.mpr ⟨q360, List.forall_mem_cons.mpr ⟨q501, List.forall_mem_cons.mpr ⟨q538, List.forall_mem_cons.mpr ⟨q635, List.forall_mem_cons.mpr ⟨q1526, List.forall_mem_cons.mpr ⟨q226, List.forall_mem_cons.mpr ⟨q227, List.forall_mem_cons.mpr ⟨q917, List.forall_mem_cons.mpr ⟨q918, List.forall_mem_cons.mpr ⟨q1237, List.forall_mem_cons.mpr ⟨q1238, List.forall_mem_cons.mpr ⟨q1382, List.forall_mem_cons.mpr ⟨q1383, List.forall_mem_cons.mpr ⟨q1201, List.forall_mem_cons.mpr ⟨q1220, List.forall_mem_cons.mpr ⟨q1191, fun _ h => absurd h List.not_mem_nil⟩⟩⟩⟩⟩⟩⟩⟩⟩⟩⟩⟩⟩⟩⟩⟩⟩⟩⟩⟩⟩⟩⟩⟩⟩⟩⟩⟩⟩⟩⟩⟩⟩⟩⟩⟩⟩⟩⟩⟩⟩⟩⟩⟩⟩⟩⟩⟩⟩⟩⟩⟩⟩⟩⟩⟩⟩⟩⟩⟩⟩⟩⟩⟩⟩⟩⟩⟩⟩⟩⟩⟩⟩⟩⟩⟩⟩⟩⟩⟩⟩⟩⟩⟩⟩⟩⟩⟩⟩⟩⟩⟩⟩⟩⟩⟩⟩⟩⟩⟩⟩⟩⟩⟩⟩⟩⟩⟩⟩⟩⟩⟩⟩⟩⟩⟩⟩⟩⟩⟩⟩⟩⟩⟩⟩⟩⟩⟩⟩⟩⟩⟩⟩⟩⟩⟩⟩⟩⟩⟩⟩⟩⟩⟩⟩⟩⟩⟩⟩⟩⟩⟩⟩⟩⟩⟩⟩⟩⟩⟩⟩⟩⟩⟩⟩⟩⟩⟩⟩⟩⟩⟩⟩⟩⟩⟩⟩⟩⟩⟩⟩⟩⟩⟩⟩⟩⟩⟩⟩⟩⟩⟩⟩⟩⟩⟩⟩⟩⟩
def gh_fw : List (String × MethodName × MethodName) := [("java/lang/String", ({ cls := "java/lang/Comparable", name := "compareTo", desc := "(Ljava/lang/Object;)I" } : MethodName), ({ cls := "java/lang/String", name := "compareTo", desc := "(Ljava/lang/Object;)I" } : MethodName)), ("java/util/ArrayList$Itr", ({ cls := "java/util/Iterator", name := "hasNext", desc := "()Z" } : MethodName), ({ cls := "java/util/ArrayList$Itr", name := "hasNext", desc := "()Z" } : MethodName)), ("java/util/ArrayList$Itr", ({ cls := "java/util/Iterator", name := "next", desc := "()Ljava/lang/Object;" } : MethodName), ({ cls := "java/util/ArrayList$Itr", name := "next", desc := "()Ljava/lang/Object;" } : MethodName)), ("java/util/ArrayList$Itr", ({ cls := "java/util/Iterator", name := "remove", desc := "()V" } : MethodName), ({ cls := "java/util/ArrayList$Itr", name := "remove", desc := "()V" } : MethodName)), ("java/util/ArrayList", ({ cls := "java/util/List", name := "size", desc := "()I" } : MethodName), ({ cls := "java/util/ArrayList", name := "size", desc := "()I" } : MethodName)), ("java/util/ArrayList", ({ cls := "java/util/List", name := "add", desc := "(Ljava/lang/Object;)Z" } : MethodName), ({ cls := "java/util/ArrayList", name := "add", desc := "(Ljava/lang/Object;)Z" } : MethodName)), ("java/util/ArrayList", ({ cls := "java/util/List", name := "get", desc := "(I)Ljava/lang/Object;" } : MethodName), ({ cls := "java/util/ArrayList", name := "get", desc := "(I)Ljava/lang/Object;" } : MethodName)), ("java/util/ArrayList", ({ cls := "java/util/List", name := "iterator", desc := "()Ljava/util/Iterator;" } : MethodName), ({ cls := "java/util/ArrayList", name := "iterator", desc := "()Ljava/util/Iterator;" } : MethodName)), ("java/util/ArrayList", ({ cls := "java/util/List", name := "isEmpty", desc := "()Z" } : MethodName), ({ cls := "java/util/ArrayList", name := "isEmpty", desc := "()Z" } : MethodName)), ("java/util/ArrayList", ({ cls := "java/util/Collection", name := "size", desc := "()I" } : MethodName), ({ cls := "java/util/ArrayList", name := "size", desc := "()I" } : MethodName)), ("java/util/ArrayList", ({ cls := "java/util/Collection", name := "iterator", desc := "()Ljava/util/Iterator;" } : MethodName), ({ cls := "java/util/ArrayList", name := "iterator", desc := "()Ljava/util/Iterator;" } : MethodName)), ("java/util/ArrayList", ({ cls := "java/util/Collection", name := "contains", desc := "(Ljava/lang/Object;)Z" } : MethodName), ({ cls := "java/util/ArrayList", name := "contains", desc := "(Ljava/lang/Object;)Z" } : MethodName)), ("java/util/ArrayList", ({ cls := "java/util/Collection", name := "toArray", desc := "()[Ljava/lang/Object;" } : MethodName), ({ cls := "java/util/ArrayList", name := "toArray", desc := "()[Ljava/lang/Object;" } : MethodName)), ("java/util/ArrayList", ({ cls := "java/util/List", name := "indexOf", desc := "(Ljava/lang/Object;)I" } : MethodName), ({ cls := "java/util/ArrayList", name := "indexOf", desc := "(Ljava/lang/Object;)I" } : MethodName)), ("java/lang/Integer", ({ cls := "java/lang/Comparable", name := "compareTo", desc := "(Ljava/lang/Object;)I" } : MethodName), ({ cls := "java/lang/Integer", name := "compareTo", desc := "(Ljava/lang/Object;)I" } : MethodName)), ("java/util/TreeMap$KeyIterator", ({ cls := "java/util/Iterator", name := "hasNext", desc := "()Z" } : MethodName), ({ cls := "java/util/TreeMap$PrivateEntryIterator", name := "hasNext", desc := "()Z" } : MethodName)), ("java/util/TreeMap$KeyIterator", ({ cls := "java/util/Iterator", name := "next", desc := "()Ljava/lang/Object;" } : MethodName), ({ cls := "java/util/TreeMap$KeyIterator", name := "next", desc := "()Ljava/lang/Object;" } : MethodName)), ("java/util/TreeMap$KeyIterator", ({ cls := "java/util/Iterator", name := "remove", desc := "()V" } : MethodName), ({ cls := "java/util/TreeMap$PrivateEntryIterator", name := "remove", desc := "()V" } : MethodName)), ("java/util/TreeMap$KeySet", ({ cls := "java/util/Collection", name := "size", desc := "()I" } : MethodName), ({ cls := "java/util/TreeMap$KeySet", name := "size", desc := "()I" } : MethodName)), ("java/util/TreeMap$KeySet", ({ cls := "java/util/Collection", name := "iterator", desc := "()Ljava/util/Iterator;" } : MethodName), ({ cls := "java/util/TreeMap$KeySet", name := "iterator", desc := "()Ljava/util/Iterator;" } : MethodName)), ("java/util/TreeMap$KeySet", ({ cls := "java/util/NavigableSet", name := "iterator", desc := "()Ljava/util/Iterator;" } : MethodName), ({ cls := "java/util/TreeMap$KeySet", name := "iterator", desc := "()Ljava/util/Iterator;" } : MethodName)), ("java/util/TreeMap$KeySet", ({ cls := "java/util/Collection", name := "contains", desc := "(Ljava/lang/Object;)Z" } : MethodName), ({ cls := "java/util/TreeMap$KeySet", name := "contains", desc := "(Ljava/lang/Object;)Z" } : MethodName)), ("java/util/TreeMap$KeySet", ({ cls := "java/util/Collection", name := "toArray", desc := "()[Ljava/lang/Object;" } : MethodName), ({ cls := "java/util/AbstractCollection", name := "toArray", desc := "()[Ljava/lang/Object;" } : MethodName)), ("java/util/TreeSet", ({ cls := "java/util/Collection", name := "size", desc := "()I" } : MethodName), ({ cls := "java/util/TreeSet", name := "size", desc := "()I" } : MethodName)), ("java/util/TreeSet", ({ cls := "java/util/Collection", name := "iterator", desc := "()Ljava/util/Iterator;" } : MethodName), ({ cls := "java/util/TreeSet", name := "iterator", desc := "()Ljava/util/Iterator;" } : MethodName)), ("java/util/TreeSet", ({ cls := "java/util/NavigableSet", name := "iterator", desc := "()Ljava/util/Iterator;" } : MethodName), ({ cls := "java/util/TreeSet", name := "iterator", desc := "()Ljava/util/Iterator;" } : MethodName)), ("java/util/TreeSet", ({ cls := "java/util/Collection", name := "contains", desc := "(Ljava/lang/Object;)Z" } : MethodName), ({ cls := "java/util/TreeSet", name := "contains", desc := "(Ljava/lang/Object;)Z" } : MethodName)), ("java/util/TreeSet", ({ cls := "java/util/Collection", name := "toArray", desc := "()[Ljava/lang/Object;" } : MethodName), ({ cls := "java/util/AbstractCollection", name := "toArray", desc := "()[Ljava/lang/Object;" } : MethodName)), ("java/util/TreeMap", ({ cls := "java/util/NavigableMap", name := "navigableKeySet", desc := "()Ljava/util/NavigableSet;" } : MethodName), ({ cls := "java/util/TreeMap", name := "navigableKeySet", desc := "()Ljava/util/NavigableSet;" } : MethodName)), ("BinderyDesk$Binding$1", ({ cls := "java/lang/Comparable", name := "compareTo", desc := "(Ljava/lang/Object;)I" } : MethodName), ({ cls := "java/lang/Enum", name := "compareTo", desc := "(Ljava/lang/Object;)I" } : MethodName)), ("BinderyDesk$Binding$2", ({ cls := "java/lang/Comparable", name := "compareTo", desc := "(Ljava/lang/Object;)I" } : MethodName), ({ cls := "java/lang/Enum", name := "compareTo", desc := "(Ljava/lang/Object;)I" } : MethodName)), ("BinderyDesk$Binding$3", ({ cls := "java/lang/Comparable", name := "compareTo", desc := "(Ljava/lang/Object;)I" } : MethodName), ({ cls := "java/lang/Enum", name := "compareTo", desc := "(Ljava/lang/Object;)I" } : MethodName))]
theorem gh_fw_ok : ∀ q ∈ gh_fw, q.2.1.cls ≠ "java/lang/invoke/MethodHandle" ∧ q.2.1.cls ≠ "java/lang/invoke/VarHandle" := by decide +kernel
theorem gh_fw_of {args : Array Value} {s : State} (h : ∀ w ∈ lw_tbl, w.before args s = true) : ∀ q ∈ gh_fw, va_Fw q.1 q.2.1 q.2.2 s := List.forall_mem_cons.mpr ⟨va_Fw.of (h _ q940) (h _ q939) (h _ q986) (h _ q984) (h _ q982), List.forall_mem_cons.mpr ⟨va_Fw.of (h _ q566) (h _ q565) (h _ q571) (h _ q569) (h _ q567), List.forall_mem_cons.mpr ⟨va_Fw.of (h _ q582) (h _ q581) (h _ q586) (h _ q584) (h _ q567), List.forall_mem_cons.mpr ⟨va_Fw.of (h _ q1280) (h _ q1279) (h _ q1284) (h _ q1282) (h _ q567), List.forall_mem_cons.mpr ⟨va_Fw.of (h _ q241) (h _ q240) (h _ q246) (h _ q244) (h _ q242), List.forall_mem_cons.mpr ⟨va_Fw.of (h _ q360) (h _ q359) (h _ q364) (h _ q362) (h _ q242), List.forall_mem_cons.mpr ⟨va_Fw.of (h _ q501) (h _ q500) (h _ q505) (h _ q503) (h _ q242), List.forall_mem_cons.mpr ⟨va_Fw.of (h _ q538) (h _ q537) (h _ q542) (h _ q540) (h _ q242), List.forall_mem_cons.mpr ⟨va_Fw.of (h _ q635) (h _ q634) (h _ q639) (h _ q637) (h _ q242), List.forall_mem_cons.mpr ⟨va_Fw.of (h _ q1137) (h _ q1136) (h _ q246) (h _ q244) (h _ q1138), List.forall_mem_cons.mpr ⟨va_Fw.of (h _ q1151) (h _ q1150) (h _ q542) (h _ q540) (h _ q1138), List.forall_mem_cons.mpr ⟨va_Fw.of (h _ q1361) (h _ q1360) (h _ q1365) (h _ q1363) (h _ q1138), List.forall_mem_cons.mpr ⟨va_Fw.of (h _ q1424) (h _ q1423) (h _ q1428) (h _ q1426) (h _ q1138), List.forall_mem_cons.mpr ⟨va_Fw.of (h _ q1526) (h _ q1525) (h _ q1529) (h _ q1528) (h _ q242), List.forall_mem_cons.mpr ⟨va_Fw.of (h _ q940) (h _ q939) (h _ q973) (h _ q971) (h _ q969), List.forall_mem_cons.mpr ⟨va_Fw.of (h _ q566) (h _ q565) (h _ q577) (h _ q575) (h _ q573), List.forall_mem_cons.mpr ⟨va_Fw.of (h _ q582) (h _ q581) (h _ q610) (h _ q608) (h _ q573), List.forall_mem_cons.mpr ⟨va_Fw.of (h _ q1280) (h _ q1279) (h _ q1315) (h _ q1313) (h _ q573), List.forall_mem_cons.mpr ⟨va_Fw.of (h _ q1137) (h _ q1136) (h _ q1143) (h _ q1142) (h _ q1140), List.forall_mem_cons.mpr ⟨va_Fw.of (h _ q1151) (h _ q1150) (h _ q1156) (h _ q1154) (h _ q1140), List.forall_mem_cons.mpr ⟨va_Fw.of (h _ q1220) (h _ q1219) (h _ q1156) (h _ q1154) (h _ q1221), List.forall_mem_cons.mpr ⟨va_Fw.of (h _ q1361) (h _ q1360) (h _ q1379) (h _ q1377) (h _ q1140), List.forall_mem_cons.mpr ⟨va_Fw.of (h _ q1424) (h _ q1423) (h _ q1433) (h _ q1431) (h _ q1140), List.forall_mem_cons.mpr ⟨va_Fw.of (h _ q1137) (h _ q1136) (h _ q1147) (h _ q1146) (h _ q1144), List.forall_mem_cons.mpr ⟨va_Fw.of (h _ q1151) (h _ q1150) (h _ q1196) (h _ q1194) (h _ q1144), List.forall_mem_cons.mpr ⟨va_Fw.of (h _ q1220) (h _ q1219) (h _ q1196) (h _ q1194) (h _ q1223), List.forall_mem_cons.mpr ⟨va_Fw.of (h _ q1361) (h _ q1360) (h _ q1392) (h _ q1390) (h _ q1144), List.forall_mem_cons.mpr ⟨va_Fw.of (h _ q1424) (h _ q1423) (h _ q1433) (h _ q1443) (h _ q1144), List.forall_mem_cons.mpr ⟨va_Fw.of (h _ q1201) (h _ q1200) (h _ q1205) (h _ q1203) (h _ q228), List.forall_mem_cons.mpr ⟨va_Fw.of (h _ q940) (h _ q939) (h _ q945) (h _ q943) (h _ q941), List.forall_mem_cons.mpr ⟨va_Fw.of (h _ q940) (h _ q939) (h _ q945) (h _ q965) (h _ q963), List.forall_mem_cons.mpr ⟨va_Fw.of (h _ q940) (h _ q939) (h _ q945) (h _ q968) (h _ q966), fun _ h => absurd h List.not_mem_nil⟩⟩⟩⟩⟩⟩⟩⟩⟩⟩⟩⟩⟩⟩⟩⟩⟩⟩⟩⟩⟩⟩⟩⟩⟩⟩⟩⟩⟩⟩⟩⟩
/-- pairs of classes, not castable -/
def gh_nc : List (String × String) := [("BinderyDesk$Lot", "BinderyDesk$Correction"), ("java/lang/IndexOutOfBoundsException", "java/lang/IllegalStateException"), ("java/lang/IndexOutOfBoundsException", "java/util/NoSuchElementException"), ("java/lang/IndexOutOfBoundsException", "java/lang/IllegalArgumentException"), ("java/lang/IndexOutOfBoundsException", "java/lang/UnsupportedOperationException"), ("java/lang/IndexOutOfBoundsException", "java/lang/ArithmeticException"), ("java/lang/IllegalStateException", "java/lang/IndexOutOfBoundsException"), ("java/lang/IllegalStateException", "java/util/NoSuchElementException"), ("java/lang/IllegalStateException", "java/lang/IllegalArgumentException"), ("java/lang/IllegalStateException", "java/lang/UnsupportedOperationException"), ("java/lang/IllegalStateException", "java/lang/ArithmeticException"), ("java/util/NoSuchElementException", "java/lang/IndexOutOfBoundsException"), ("java/util/NoSuchElementException", "java/lang/IllegalStateException"), ("java/util/NoSuchElementException", "java/lang/IllegalArgumentException"), ("java/util/NoSuchElementException", "java/lang/UnsupportedOperationException"), ("java/util/NoSuchElementException", "java/lang/ArithmeticException"), ("java/lang/IllegalArgumentException", "java/lang/IndexOutOfBoundsException"), ("java/lang/IllegalArgumentException", "java/lang/IllegalStateException"), ("java/lang/IllegalArgumentException", "java/util/NoSuchElementException"), ("java/lang/IllegalArgumentException", "java/lang/UnsupportedOperationException"), ("java/lang/IllegalArgumentException", "java/lang/ArithmeticException"), ("java/lang/UnsupportedOperationException", "java/lang/IndexOutOfBoundsException"), ("java/lang/UnsupportedOperationException", "java/lang/IllegalStateException"), ("java/lang/UnsupportedOperationException", "java/util/NoSuchElementException"), ("java/lang/UnsupportedOperationException", "java/lang/IllegalArgumentException"), ("java/lang/UnsupportedOperationException", "java/lang/ArithmeticException"), ("java/lang/ArithmeticException", "java/lang/IndexOutOfBoundsException"), ("java/lang/ArithmeticException", "java/lang/IllegalStateException"), ("java/lang/ArithmeticException", "java/util/NoSuchElementException"), ("java/lang/ArithmeticException", "java/lang/IllegalArgumentException"), ("java/lang/ArithmeticException", "java/lang/UnsupportedOperationException")]
/-- classes whose objects lie in lists -/
def gh_os : List Nat := [3, 4, 5, 6, 7]
theorem gh_os_ok : ∀ ci ∈ gh_os, ∃ r : vw_C, gh_cl[ci]? = some r ∧ (Cond.castable r.1 "java/lang/Object") ∈ gh_tw := List.forall_mem_cons.mpr ⟨⟨_, rfl, List.mem_of_getElem? (i := 163) rfl⟩, List.forall_mem_cons.mpr ⟨⟨_, rfl, List.mem_of_getElem? (i := 152) rfl⟩, List.forall_mem_cons.mpr ⟨⟨_, rfl, List.mem_of_getElem? (i := 154) rfl⟩, List.forall_mem_cons.mpr ⟨⟨_, rfl, List.mem_of_getElem? (i := 132) rfl⟩, List.forall_mem_cons.mpr ⟨⟨_, rfl, List.mem_of_getElem? (i := 158) rfl⟩, fun _ h => absurd h List.not_mem_nil⟩⟩⟩⟩⟩
def gh_kw : Cond → Bool
  | .castable _ _ => true
  | .declares _ => true
  | .fieldLinkNest _ _ _ _ _ _ => true
  | .methodLinkNest _ _ _ _ => true
  | .publicMethod _ => true
  | .unhidden _ _ _ => true
  | _ => false
theorem gh_tw_ok : ∀ w ∈ gh_tw, gh_kw w = true := by decide +kernel
/-- interfaces' methods that others declare -/
def gh_if : List (String × String × String × String) := [("java/util/NavigableMap", "java/util/Map", "size", "()I"), ("java/util/NavigableMap", "java/util/Map", "put", "(Ljava/lang/Object;Ljava/lang/Object;)Ljava/lang/Object;"), ("java/util/NavigableMap", "java/util/Map", "remove", "(Ljava/lang/Object;)Ljava/lang/Object;"), ("java/util/NavigableMap", "java/util/Map", "containsKey", "(Ljava/lang/Object;)Z"), ("java/util/Collection", "java/lang/Object", "getClass", "()Ljava/lang/Class;")]
theorem gh_if_ok : ∀ q ∈ gh_if, (q.1 ≠ "java/lang/invoke/MethodHandle" ∧ q.1 ≠ "java/lang/invoke/VarHandle") ∧ q.1 ≠ q.2.1 := by decide +kernel
/-- links that the Statement gives beside the tables -/
def gh_ml : List Cond := [Cond.methodLink "java/util/TreeSet" 53 ({ cls := "java/util/NavigableMap", name := "size", desc := "()I" } : MethodName), Cond.methodLink "java/util/TreeSet" 69 ({ cls := "java/util/NavigableMap", name := "put", desc := "(Ljava/lang/Object;Ljava/lang/Object;)Ljava/lang/Object;" } : MethodName), Cond.methodLink "java/util/TreeMap$KeySet" 26 ({ cls := "java/util/NavigableMap", name := "size", desc := "()I" } : MethodName), Cond.methodLink "java/util/TreeMap$KeySet" 80 ({ cls := "java/util/NavigableMap", name := "remove", desc := "(Ljava/lang/Object;)Ljava/lang/Object;" } : MethodName), Cond.methodLink "java/util/TreeSet" 73 ({ cls := "java/util/NavigableMap", name := "remove", desc := "(Ljava/lang/Object;)Ljava/lang/Object;" } : MethodName), Cond.methodLink "java/util/TreeMap$KeySet" 36 ({ cls := "java/util/NavigableMap", name := "containsKey", desc := "(Ljava/lang/Object;)Z" } : MethodName), Cond.methodLink "java/util/TreeSet" 61 ({ cls := "java/util/NavigableMap", name := "containsKey", desc := "(Ljava/lang/Object;)Z" } : MethodName)]
theorem gh_ml_ok : ∀ w ∈ gh_ml, goodWord w = true := by decide +kernel
theorem gh_ml_ok2 : ∀ w ∈ gh_ml, w.onTables = true := by decide +kernel
/-! an interface's method that a superinterface (or Object) declares -/
theorem gh_ifm {u : State} {A : Array Value} {I J n d : String} (hx : I ≠ "java/lang/invoke/MethodHandle" ∧ I ≠ "java/lang/invoke/VarHandle") (hxo : I ≠ J) (h : (Cond.interfaceMethod I J n d).before A u = true) : ∃ (c : ClassId) (k ok : Class) (mm : MethodId), u.vm.findClass I = some c ∧ u.vm.classes[c]? = some k ∧ k.isInterface = true ∧ (∀ y, signaturePolymorphic k y = false) ∧ k.findMethod n d = none ∧ u.vm.faceFind c n d = some mm ∧ u.vm.classes[mm.cls]? = some ok ∧ u.methodNamed? ⟨J, n, d⟩ = some mm ∧ k.name = I := by
  obtain ⟨c, k, mm, hc, hk, hi, hfd, hn⟩ := Cond.interfaceMethod_spec h
  obtain ⟨k', hk', hname⟩ := Vm.findClass_spec hc
  cases hk.symm.trans hk'
  have hpoly : ∀ y, signaturePolymorphic k y = false := fun y => by simp [signaturePolymorphic, hname, hx.1, hx.2]
  obtain ⟨ok, hok, hokname⟩ := className_of_methodNamed hn
  have hnone : k.findMethod n d = none := by
    cases hj : k.findMethod n d with
    | none => rfl
    | some j =>
      exfalso
      have hsome : (k.methods[j]?).isSome := by
        obtain ⟨hlt, -, -⟩ := Array.findIdx?_eq_some_iff_getElem.mp hj
        simp [hlt]
      have h2 := State.methodFound?_declared hc hk hpoly hj hsome
      rw [hfd] at h2
      have e2 : mm.cls = c := by rw [Option.some.inj h2]
      rw [e2] at hok
      cases hk.symm.trans hok
      exact hxo (hname.symm.trans hokname)
  exact ⟨c, k, ok, mm, hc, hk, hi, hpoly, hnone, State.faceFind_of_found hc hk hi hpoly hnone hfd, hok, hn, hname⟩
theorem gh_ifm_moved {u U : State} (hvm : u.vm.Alike U.vm) {A A' : Array Value} {I J n d : String} (hx : I ≠ "java/lang/invoke/MethodHandle" ∧ I ≠ "java/lang/invoke/VarHandle") (hxo : I ≠ J) (h : (Cond.interfaceMethod I J n d).before A u = true) : (Cond.interfaceMethod I J n d).before A' U = true := by
  obtain ⟨c, k, ok, mm, hc, hk, hi, hpoly, hnone, hf, hok, hn, hname⟩ := gh_ifm hx hxo h
  obtain ⟨k', hk', he⟩ := hvm.2.2 _ _ hk
  obtain ⟨ok', hok', -⟩ := hvm.2.2 _ _ hok
  have hc' : U.vm.findClass I = some c := by rw [hvm.findClass]; exact hc
  have hi' : k'.isInterface = true := by rw [he]; exact hi
  have hname' : k'.name = I := by rw [he]; exact hname
  have hpoly' : ∀ y, signaturePolymorphic k' y = false := fun y => by simp [signaturePolymorphic, hname', hx.1, hx.2]
  have hnone' : k'.findMethod n d = none := by rw [he]; exact hnone
  have hf' : U.vm.faceFind c n d = some mm := by rw [hvm.faceFind]; exact hf
  have hfd := State.methodFound?_faceFind hc' hk' hi' hpoly' hnone' hf' hok'
  have hn' : U.methodNamed? ⟨J, n, d⟩ = some mm := by
    have := State.methodNamed?_setVm (s := u) hvm (x := ⟨J, n, d⟩)
    rw [hn] at this
    exact this
  simp [Cond.before, Cond.holds, Cond.value, hc', hfd, hn', hk', hi']
theorem gh_kw_warm {w : Cond} (hk : gh_kw w = true) {s U : State} (hW : s.WarmedH U.vm) (h : va_Nw w s) : va_Nw w U := by
  cases w <;> first | exact va_Nw.warmC hW h | exact va_Nw.warmD hW h | exact va_Nw.warmF hW h | exact va_Nw.warmM hW h | exact va_tabs rfl (rfl : (s.setVm U.vm).vm = U.vm) (by rw [Cond.publicMethod_setVm hW.alike]; exact h) | exact va_tabs rfl (rfl : (s.setVm U.vm).vm = U.vm) (by rw [Cond.unhidden_setVm hW.alike]; exact h) | (simp [gh_kw] at hk; done)
theorem gh_kw_same {w : Cond} (hk : gh_kw w = true) {s U : State} (hv : s.vm = U.vm) (h : va_Nw w s) : va_Nw w U := by
  cases w <;> first | exact va_Nw.same rfl hv h | (simp [gh_kw] at hk; done)
/-- arrays of int arrays -/
def gh_AI (U : State) : Prop := (Cond.arrayOver (.array .int)).before #[] U = true
theorem gh_AI.moved {u U : State} (hvm : u.vm.Alike U.vm) (h : gh_AI u) : gh_AI U := by
  obtain ⟨comp, c, k, h1, h2, h3, h4, h5⟩ := arrayOverA_spec h
  obtain ⟨k', hk', he⟩ := hvm.2.2 _ _ h3
  have hi : (U.vm.classes.findIdx? fun (x : Class) => match x.kind with | .array component _ => component == comp | _ => false) = some c := by
    rw [hvm.findIdx?_eq _ (fun _ => rfl)]
    exact h2
  have hkind : k'.kind = .array comp (.array .int) := by rw [he]; exact h4
  have f1 : U.vm.findClass (FieldType.array .int).toString = some comp := by rw [hvm.findClass]; exact h1
  have f2 : U.vm.findClass ("[" ++ (FieldType.array .int).toString) = some c := by rw [hvm.findClass]; exact h5
  unfold gh_AI Cond.before Cond.holds
  simp only [Cond.value]
  rw [f1, Option.bind_some]
  refine (congrArg (fun o : Option Nat => (o.bind (fun c => (U.vm.classes[c]?).map fun (k : Class) => match k.kind with | .array _ ty => decide (ty = FieldType.array .int) && decide (U.vm.findClass ("[" ++ (FieldType.array .int).toString) = some c) | _ => false) == some true)) hi).trans ?_
  simp [hk', hkind, f2]
/-- the tables' words that aren't in lw_all -/
def gh_Tb (U : State) : Prop := (∀ w ∈ gh_tw, va_Nw w U) ∧ (∀ q ∈ gh_fw, va_Fw q.1 q.2.1 q.2.2 U) ∧ (∀ q ∈ gh_nc, va_Nc q.1 q.2 U) ∧ va_AO "java/lang/Object" U ∧ (∀ q ∈ gh_if, (Cond.interfaceMethod q.1 q.2.1 q.2.2.1 q.2.2.2).before #[] U = true) ∧ (∀ w ∈ gh_ml, w.before #[] U = true) ∧ gh_AI U
theorem gh_Tb.warm {s U : State} (hW : s.WarmedH U.vm) (h : gh_Tb s) : gh_Tb U := ⟨fun w hw => gh_kw_warm (gh_tw_ok w hw) hW (h.1 w hw), fun q hq => va_Fw.moved (gh_fw_ok q hq) hW.alike (h.2.1 q hq), fun q hq => va_Nc.moved hW.alike (h.2.2.1 q hq), va_AO.moved hW.alike h.2.2.2.1, fun q hq => gh_ifm_moved hW.alike (gh_if_ok q hq).1 (gh_if_ok q hq).2 (h.2.2.2.2.1 q hq), fun w hw => word_at hW (good_of_word (gh_ml_ok w hw)) (h.2.2.2.2.2.1 w hw), gh_AI.moved hW.alike h.2.2.2.2.2.2⟩
theorem gh_Tb.same {s U : State} (hv : s.vm = U.vm) (h : gh_Tb s) : gh_Tb U := ⟨fun w hw => gh_kw_same (gh_tw_ok w hw) hv (h.1 w hw), fun q hq => va_Fw.moved (gh_fw_ok q hq) (by rw [hv]; exact Vm.Alike.refl _) (h.2.1 q hq), fun q hq => va_Nc.moved (by rw [hv]; exact Vm.Alike.refl _) (h.2.2.1 q hq), va_AO.moved (by rw [hv]; exact Vm.Alike.refl _) h.2.2.2.1, fun q hq => gh_ifm_moved (by rw [hv]; exact Vm.Alike.refl _) (gh_if_ok q hq).1 (gh_if_ok q hq).2 (h.2.2.2.2.1 q hq), fun w hw => va_Nw.same (gh_ml_ok2 w hw) hv (h.2.2.2.2.2.1 w hw), gh_AI.moved (by rw [hv]; exact Vm.Alike.refl _) h.2.2.2.2.2.2⟩
/-- the constants: statics, class objects -/
def gh_Env (D : gh_D) (A : Nat → Prop) (U : State) (H : Heap) : Prop :=
  va_Z "java/util/ArrayList" "DEFAULTCAPACITY_EMPTY_ELEMENTDATA" "[Ljava/lang/Object;" (.ref (D.2.2 0)) A U H ∧ va_Z "java/util/ArrayList" "EMPTY_ELEMENTDATA" "[Ljava/lang/Object;" (.ref (D.2.2 1)) A U H ∧
  va_Z "java/lang/Integer$IntegerCache" "high" "I" (.int 127) A U H ∧ va_Z "java/lang/Integer$IntegerCache" "cache" "[Ljava/lang/Integer;" (.ref (D.2.2 2)) A U H ∧
  va_Z "java/util/TreeSet" "PRESENT" "Ljava/lang/Object;" (.ref (D.2.2 3)) A U H ∧ va_Z "BinderyDesk$Binding" "$VALUES" "[LBinderyDesk$Binding;" (.ref (D.2.2 4)) A U H ∧
  vx_Zq Bundle.tN "UNASSIGNED_STACK" Bundle.steD A U H ∧ vx_Zq Bundle.tN "SUPPRESSED_SENTINEL" Bundle.listD A U H ∧
  va_Mi "java/util/ArrayList" (D.2.2 5) U ∧ va_Mi "[Ljava/lang/Object;" (D.2.2 6) U
theorem gh_Env.moved {D : gh_D} {A : Nat → Prop} {u U : State} {H : Heap} (hvm : u.vm.Alike U.vm) (h : gh_Env D A u H) : gh_Env D A U H := by
  obtain ⟨h1, h2, h3, h4, h5, h6, h7, h8, h9, h10⟩ := h
  exact ⟨va_Z.moved hvm h1, va_Z.moved hvm h2, va_Z.moved hvm h3, va_Z.moved hvm h4, va_Z.moved hvm h5, va_Z.moved hvm h6, vx_Zq.moved hvm h7, vx_Zq.moved hvm h8, va_Mi.moved hvm h9, va_Mi.moved hvm h10⟩
theorem gh_Env.kept {D : gh_D} {A : Nat → Prop} {U : State} {H H1 : Heap} (h : gh_Env D A U H) (hq : ∀ a : Nat, a < H.size → ¬ A a → H1[a]? = H[a]?) : gh_Env D A U H1 := by
  obtain ⟨h1, h2, h3, h4, h5, h6, h7, h8, h9, h10⟩ := h
  exact ⟨h1.kept hq, h2.kept hq, h3.kept hq, h4.kept hq, h5.kept hq, h6.kept hq, h7.kept hq, h8.kept hq, h9, h10⟩
theorem gh_Env.narrow {D : gh_D} {A B : Nat → Prop} {U : State} {H : Heap} (h : gh_Env D A U H) (hAB : ∀ q, B q → A q) : gh_Env D B U H := by
  obtain ⟨h1, h2, h3, h4, h5, h6, h7, h8, h9, h10⟩ := h
  exact ⟨h1.narrow hAB, h2.narrow hAB, h3.narrow hAB, h4.narrow hAB, h5.narrow hAB, h6.narrow hAB, h7.narrow hAB, h8.narrow hAB, h9, h10⟩
/-- a contract's start: any ghost -/
def gh_Pc (D : gh_D) (h : gh_H) (sz : Nat) (av : List Value) : Array Value → State → Prop := va_Pc av (fun U => U.heap.size = sz ∧ gh_K D U ∧ gh_Tb U ∧ gh_Env D (gh_A h sz) U U.heap ∧ gh_Rep D h U U.heap)
/-- .. and its end -/
def gh_B (D : gh_D) (h : gh_H) (sz : Nat) (h' : gh_H) (t : State) : Prop := gh_Rep D h' t t.heap ∧ (∀ (a lb : Nat) (e : gh_C), h' a = some (lb, e) → lb ≠ 0 → gh_A h sz a) ∧ ∀ (a : Nat) (e : gh_C), h' a = some (0, e) → h a = some (0, e)
abbrev gh_Qi (Q : Int32 → gh_H → Prop) (D : gh_D) (h : gh_H) (sz : Nat) : Array Value → State → Outcome → State → Prop := va_Qi Q (gh_B D h sz) (gh_A h sz)
abbrev gh_Ql (Q : Int64 → gh_H → Prop) (D : gh_D) (h : gh_H) (sz : Nat) : Array Value → State → Outcome → State → Prop := va_Ql Q (gh_B D h sz) (gh_A h sz)
abbrev gh_Qf (Q : UInt32 → gh_H → Prop) (D : gh_D) (h : gh_H) (sz : Nat) : Array Value → State → Outcome → State → Prop := va_Qf Q (gh_B D h sz) (gh_A h sz)
abbrev gh_Qd (Q : UInt64 → gh_H → Prop) (D : gh_D) (h : gh_H) (sz : Nat) : Array Value → State → Outcome → State → Prop := va_Qd Q (gh_B D h sz) (gh_A h sz)
abbrev gh_Qv (Q : gh_H → Prop) (D : gh_D) (h : gh_H) (sz : Nat) : Array Value → State → Outcome → State → Prop := va_Qv Q (gh_B D h sz) (gh_A h sz)
abbrev gh_Qq (Q : Option Nat → gh_H → Prop) (D : gh_D) (h : gh_H) (sz : Nat) : Array Value → State → Outcome → State → Prop := va_Qq Q (gh_B D h sz) (gh_A h sz)
abbrev gh_X (X : String → gh_H → Prop) (D : gh_D) (h : gh_H) (sz : Nat) : String → State → State → Prop := vx_X (S := gh_H) (fun _ => True) (fun E h' t => X E h' ∧ gh_B D h sz h' t) (gh_A h sz)
/-- what a method's body knows all through -/
def gh_M (D : gh_D) (p : Program) (l : Launch) (s : State) (m : MethodId) (args : Array Value) (meth : Method) (c : Code) (own : String) (cc : ByteArray) (nL : Nat) (A : Nat → Prop) : Prop :=
  CallFix p m c cc nL s args lw_all own ∧ gh_K D s ∧ gh_Tb s ∧ gh_Env D A s s.heap ∧ meth.locks = false ∧ l.stackTraces = false
theorem gh_Pc.blind {D : gh_D} {h : gh_H} {sz : Nat} {av : List Value} : FrameBlind (gh_Pc D h sz av) := by
  intro a U g mk q
  obtain ⟨q0, q1, q2, q3, q4, q5⟩ := q
  exact ⟨q0, q1, gh_K.moved (u := U) (U := U.calling g mk a) (Vm.Alike.refl U.vm) q2, gh_Tb.same (s := U) (U := U.calling g mk a) rfl q3, gh_Env.moved (u := U) (U := U.calling g mk a) (Vm.Alike.refl U.vm) q4, gh_Rep.moved (u := U) (U := U.calling g mk a) (Vm.Alike.refl U.vm) q5⟩
section GHW
variable {D : gh_D} {p : Program} {l : Launch} {e : Env} {R : Room} {s : State} {m : MethodId} {args : Array Value} {below : List Frame} {meth : Method} {c : Code} {H : Heap} {locs : List Loc} {cells slots : Nat} {Q : State → Prop}
variable {own : String} {cc : ByteArray} {nL : Nat} {A : Nat → Prop} {h0 h : gh_H} {pc : Nat} {ls : Array Slot} {rest st0 : List Value} {a : Array Value} {mc ms : Nat}
theorem gh_pre (M : gh_M D p l s m args meth c own cc nL A) (G : gh_Inv D h0 A s.heap s H locs h) {As : List Value} : PreS s H (gh_Pc D h H.size As) As := by
  refine ⟨gh_Pc.blind, fun U hU hW => ⟨rfl, by rw [hU], M.2.1.moved hW.alike, M.2.2.1.warm hW, ?_, ?_⟩⟩
  · rw [hU]
    exact ((M.2.2.2.1.kept G.2.2.2.1.2.1).narrow G.sub).moved hW.alike
  · rw [hU]
    exact G.1.moved hW.alike
theorem gh_preV (M : gh_M D p l s m args meth c own cc nL A) (G : gh_Inv D h0 A s.heap s H locs h) {As : List Value} {C : String} {b : Addr} (hr : ∃ cellB : Cell, H[b]? = some cellB ∧ cellB.vm.isStatics = false ∧ s.vm.findClass C = some cellB.cls) : PreV s H C b (gh_Pc D h H.size (.ref b :: As)) As := ⟨(gh_pre M G (As := .ref b :: As)).1, hr, (gh_pre M G (As := .ref b :: As)).2⟩
/-- the receiver -/
theorem gh_rec (M : gh_M D p l s m args meth c own cc nL A) (G : gh_Inv D h0 A s.heap s H locs h) {b lb ci : Nat} {fs : List Value} {r : vw_C} (hb : h b = some (lb, .inr (ci, fs))) (hc : gh_cl[ci]? = some r) : ∃ cellB : Cell, H[b]? = some cellB ∧ cellB.vm.isStatics = false ∧ s.vm.findClass r.1 = some cellB.cls := by
  obtain ⟨r', cell, g1, g2, g3, g4, g5, g6⟩ := G.1.rd M.1.2.2.2.2 M.2.1 hb
  cases g1.symm.trans hc
  exact ⟨cell, g2, g3, g5⟩
theorem gh_ki (G : gh_Inv D h0 A s.heap s H locs h) {Qi : Int32 → gh_H → Prop} {X : String → gh_H → Prop} (hr : vx_Run p l e R s m args below meth c H locs cells slots mc ms (F0 m pc ls st0) rest (gh_Qi Qi D h H.size a) (gh_X X D h H.size) (gh_A h H.size))
    (kx : ∀ (E : String) (ce : Cell) (q9 : Addr) (h' : gh_H) (H1 : Heap) (locs1 : List Loc), X E h' → gh_Inv D h0 A s.heap s H1 locs1 h' → H1[q9]? = some ce → ce.vm = .none → s.vm.findClass E = some ce.cls → vx_W p l e R s m args below meth c H1 locs1 (cells + mc) (slots + ms) Q (F0 m pc ls rest) q9)
    (kk : ∀ (r : Int32) (h' : gh_H) (H1 : Heap) (locs1 : List Loc), Qi r h' → gh_Inv D h0 A s.heap s H1 locs1 h' → W p l e R s m args below meth c H1 locs1 (cells + mc) (slots + ms) Q (F0 m (pc + 3) ls (.int r :: rest))) : W p l e R s m args below meth c H locs cells slots Q (F0 m pc ls st0) := by
  refine vx_calli hr G.2.2.2.1 (fun q _ z => G.sub q z) G.sub (fun q _ z => G.sub q z) (fun E ce q9 h' t H1 locs1 ht hvm hp hB hz hk hS hce hcv hcl => ?_) (fun r h' t H1 locs1 ht hvm hp hB hz hk hS => ?_)
  · obtain ⟨hX, hR, hd, h3⟩ := hB
    rw [ht] at hR
    exact kx E ce q9 h' H1 locs1 hX (G.call hvm hR hd h3 hS) hce hcv hcl
  · obtain ⟨hR, hd, h3⟩ := hB
    rw [ht] at hR
    exact kk r h' H1 locs1 hp (G.call hvm hR hd h3 hS)
theorem gh_kl (G : gh_Inv D h0 A s.heap s H locs h) {Qi : Int64 → gh_H → Prop} {X : String → gh_H → Prop} (hr : vx_Run p l e R s m args below meth c H locs cells slots mc ms (F0 m pc ls st0) rest (gh_Ql Qi D h H.size a) (gh_X X D h H.size) (gh_A h H.size))
    (kx : ∀ (E : String) (ce : Cell) (q9 : Addr) (h' : gh_H) (H1 : Heap) (locs1 : List Loc), X E h' → gh_Inv D h0 A s.heap s H1 locs1 h' → H1[q9]? = some ce → ce.vm = .none → s.vm.findClass E = some ce.cls → vx_W p l e R s m args below meth c H1 locs1 (cells + mc) (slots + ms) Q (F0 m pc ls rest) q9)
    (kk : ∀ (r : Int64) (h' : gh_H) (H1 : Heap) (locs1 : List Loc), Qi r h' → gh_Inv D h0 A s.heap s H1 locs1 h' → W p l e R s m args below meth c H1 locs1 (cells + mc) (slots + ms) Q (F0 m (pc + 3) ls (.long r :: rest))) : W p l e R s m args below meth c H locs cells slots Q (F0 m pc ls st0) := by
  refine vx_calll hr G.2.2.2.1 (fun q _ z => G.sub q z) G.sub (fun q _ z => G.sub q z) (fun E ce q9 h' t H1 locs1 ht hvm hp hB hz hk hS hce hcv hcl => ?_) (fun r h' t H1 locs1 ht hvm hp hB hz hk hS => ?_)
  · obtain ⟨hX, hR, hd, h3⟩ := hB
    rw [ht] at hR
    exact kx E ce q9 h' H1 locs1 hX (G.call hvm hR hd h3 hS) hce hcv hcl
  · obtain ⟨hR, hd, h3⟩ := hB
    rw [ht] at hR
    exact kk r h' H1 locs1 hp (G.call hvm hR hd h3 hS)
theorem gh_kf (G : gh_Inv D h0 A s.heap s H locs h) {Qi : UInt32 → gh_H → Prop} {X : String → gh_H → Prop} (hr : vx_Run p l e R s m args below meth c H locs cells slots mc ms (F0 m pc ls st0) rest (gh_Qf Qi D h H.size a) (gh_X X D h H.size) (gh_A h H.size))
    (kx : ∀ (E : String) (ce : Cell) (q9 : Addr) (h' : gh_H) (H1 : Heap) (locs1 : List Loc), X E h' → gh_Inv D h0 A s.heap s H1 locs1 h' → H1[q9]? = some ce → ce.vm = .none → s.vm.findClass E = some ce.cls → vx_W p l e R s m args below meth c H1 locs1 (cells + mc) (slots + ms) Q (F0 m pc ls rest) q9)
    (kk : ∀ (r : UInt32) (h' : gh_H) (H1 : Heap) (locs1 : List Loc), Qi r h' → gh_Inv D h0 A s.heap s H1 locs1 h' → W p l e R s m args below meth c H1 locs1 (cells + mc) (slots + ms) Q (F0 m (pc + 3) ls (.float r :: rest))) : W p l e R s m args below meth c H locs cells slots Q (F0 m pc ls st0) := by
  refine vx_callf hr G.2.2.2.1 (fun q _ z => G.sub q z) G.sub (fun q _ z => G.sub q z) (fun E ce q9 h' t H1 locs1 ht hvm hp hB hz hk hS hce hcv hcl => ?_) (fun r h' t H1 locs1 ht hvm hp hB hz hk hS => ?_)
  · obtain ⟨hX, hR, hd, h3⟩ := hB
    rw [ht] at hR
    exact kx E ce q9 h' H1 locs1 hX (G.call hvm hR hd h3 hS) hce hcv hcl
  · obtain ⟨hR, hd, h3⟩ := hB
    rw [ht] at hR
    exact kk r h' H1 locs1 hp (G.call hvm hR hd h3 hS)
theorem gh_kd (G : gh_Inv D h0 A s.heap s H locs h) {Qi : UInt64 → gh_H → Prop} {X : String → gh_H → Prop} (hr : vx_Run p l e R s m args below meth c H locs cells slots mc ms (F0 m pc ls st0) rest (gh_Qd Qi D h H.size a) (gh_X X D h H.size) (gh_A h H.size))
    (kx : ∀ (E : String) (ce : Cell) (q9 : Addr) (h' : gh_H) (H1 : Heap) (locs1 : List Loc), X E h' → gh_Inv D h0 A s.heap s H1 locs1 h' → H1[q9]? = some ce → ce.vm = .none → s.vm.findClass E = some ce.cls → vx_W p l e R s m args below meth c H1 locs1 (cells + mc) (slots + ms) Q (F0 m pc ls rest) q9)
    (kk : ∀ (r : UInt64) (h' : gh_H) (H1 : Heap) (locs1 : List Loc), Qi r h' → gh_Inv D h0 A s.heap s H1 locs1 h' → W p l e R s m args below meth c H1 locs1 (cells + mc) (slots + ms) Q (F0 m (pc + 3) ls (.double r :: rest))) : W p l e R s m args below meth c H locs cells slots Q (F0 m pc ls st0) := by
  refine vx_calld hr G.2.2.2.1 (fun q _ z => G.sub q z) G.sub (fun q _ z => G.sub q z) (fun E ce q9 h' t H1 locs1 ht hvm hp hB hz hk hS hce hcv hcl => ?_) (fun r h' t H1 locs1 ht hvm hp hB hz hk hS => ?_)
  · obtain ⟨hX, hR, hd, h3⟩ := hB
    rw [ht] at hR
    exact kx E ce q9 h' H1 locs1 hX (G.call hvm hR hd h3 hS) hce hcv hcl
  · obtain ⟨hR, hd, h3⟩ := hB
    rw [ht] at hR
    exact kk r h' H1 locs1 hp (G.call hvm hR hd h3 hS)
theorem gh_kq (G : gh_Inv D h0 A s.heap s H locs h) {Qi : Option Nat → gh_H → Prop} {X : String → gh_H → Prop} (hr : vx_Run p l e R s m args below meth c H locs cells slots mc ms (F0 m pc ls st0) rest (gh_Qq Qi D h H.size a) (gh_X X D h H.size) (gh_A h H.size))
    (kx : ∀ (E : String) (ce : Cell) (q9 : Addr) (h' : gh_H) (H1 : Heap) (locs1 : List Loc), X E h' → gh_Inv D h0 A s.heap s H1 locs1 h' → H1[q9]? = some ce → ce.vm = .none → s.vm.findClass E = some ce.cls → vx_W p l e R s m args below meth c H1 locs1 (cells + mc) (slots + ms) Q (F0 m pc ls rest) q9)
    (kk : ∀ (r : Option Nat) (h' : gh_H) (H1 : Heap) (locs1 : List Loc), Qi r h' → gh_Inv D h0 A s.heap s H1 locs1 h' → W p l e R s m args below meth c H1 locs1 (cells + mc) (slots + ms) Q (F0 m (pc + 3) ls (va_rf r :: rest))) : W p l e R s m args below meth c H locs cells slots Q (F0 m pc ls st0) := by
  refine vx_callq hr G.2.2.2.1 (fun q _ z => G.sub q z) G.sub (fun q _ z => G.sub q z) (fun E ce q9 h' t H1 locs1 ht hvm hp hB hz hk hS hce hcv hcl => ?_) (fun r h' t H1 locs1 ht hvm hp hB hz hk hS => ?_)
  · obtain ⟨hX, hR, hd, h3⟩ := hB
    rw [ht] at hR
    exact kx E ce q9 h' H1 locs1 hX (G.call hvm hR hd h3 hS) hce hcv hcl
  · obtain ⟨hR, hd, h3⟩ := hB
    rw [ht] at hR
    exact kk r h' H1 locs1 hp (G.call hvm hR hd h3 hS)
theorem gh_kv (G : gh_Inv D h0 A s.heap s H locs h) {Qi : gh_H → Prop} {X : String → gh_H → Prop} (hr : vx_Run p l e R s m args below meth c H locs cells slots mc ms (F0 m pc ls st0) rest (gh_Qv Qi D h H.size a) (gh_X X D h H.size) (gh_A h H.size))
    (kx : ∀ (E : String) (ce : Cell) (q9 : Addr) (h' : gh_H) (H1 : Heap) (locs1 : List Loc), X E h' → gh_Inv D h0 A s.heap s H1 locs1 h' → H1[q9]? = some ce → ce.vm = .none → s.vm.findClass E = some ce.cls → vx_W p l e R s m args below meth c H1 locs1 (cells + mc) (slots + ms) Q (F0 m pc ls rest) q9)
    (kk : ∀ (h' : gh_H) (H1 : Heap) (locs1 : List Loc), Qi h' → gh_Inv D h0 A s.heap s H1 locs1 h' → W p l e R s m args below meth c H1 locs1 (cells + mc) (slots + ms) Q (F0 m (pc + 3) ls rest)) : W p l e R s m args below meth c H locs cells slots Q (F0 m pc ls st0) := by
  refine vx_callv hr G.2.2.2.1 (fun q _ z => G.sub q z) G.sub (fun q _ z => G.sub q z) (fun E ce q9 h' t H1 locs1 ht hvm hp hB hz hk hS hce hcv hcl => ?_) (fun h' t H1 locs1 ht hvm hp hB hz hk hS => ?_)
  · obtain ⟨hX, hR, hd, h3⟩ := hB
    rw [ht] at hR
    exact kx E ce q9 h' H1 locs1 hX (G.call hvm hR hd h3 hS) hce hcv hcl
  · obtain ⟨hR, hd, h3⟩ := hB
    rw [ht] at hR
    exact kk h' H1 locs1 hp (G.call hvm hR hd h3 hS)
theorem gh_kFi (G : gh_Inv D h0 A s.heap s H locs h) {Qi : Int32 → gh_H → Prop} {X : String → gh_H → Prop} (hr : vx_Run5 p l e R s m args below meth c H locs cells slots mc ms (F0 m pc ls st0) rest (gh_Qi Qi D h H.size a) (gh_X X D h H.size) (gh_A h H.size))
    (kx : ∀ (E : String) (ce : Cell) (q9 : Addr) (h' : gh_H) (H1 : Heap) (locs1 : List Loc), X E h' → gh_Inv D h0 A s.heap s H1 locs1 h' → H1[q9]? = some ce → ce.vm = .none → s.vm.findClass E = some ce.cls → vx_W p l e R s m args below meth c H1 locs1 (cells + mc) (slots + ms) Q (F0 m pc ls rest) q9)
    (kk : ∀ (r : Int32) (h' : gh_H) (H1 : Heap) (locs1 : List Loc), Qi r h' → gh_Inv D h0 A s.heap s H1 locs1 h' → W p l e R s m args below meth c H1 locs1 (cells + mc) (slots + ms) Q (F0 m (pc + 5) ls (.int r :: rest))) : W p l e R s m args below meth c H locs cells slots Q (F0 m pc ls st0) := by
  refine vx_callFi hr G.2.2.2.1 (fun q _ z => G.sub q z) G.sub (fun q _ z => G.sub q z) (fun E ce q9 h' t H1 locs1 ht hvm hp hB hz hk hS hce hcv hcl => ?_) (fun r h' t H1 locs1 ht hvm hp hB hz hk hS => ?_)
  · obtain ⟨hX, hR, hd, h3⟩ := hB
    rw [ht] at hR
    exact kx E ce q9 h' H1 locs1 hX (G.call hvm hR hd h3 hS) hce hcv hcl
  · obtain ⟨hR, hd, h3⟩ := hB
    rw [ht] at hR
    exact kk r h' H1 locs1 hp (G.call hvm hR hd h3 hS)
theorem gh_kFl (G : gh_Inv D h0 A s.heap s H locs h) {Qi : Int64 → gh_H → Prop} {X : String → gh_H → Prop} (hr : vx_Run5 p l e R s m args below meth c H locs cells slots mc ms (F0 m pc ls st0) rest (gh_Ql Qi D h H.size a) (gh_X X D h H.size) (gh_A h H.size))
    (kx : ∀ (E : String) (ce : Cell) (q9 : Addr) (h' : gh_H) (H1 : Heap) (locs1 : List Loc), X E h' → gh_Inv D h0 A s.heap s H1 locs1 h' → H1[q9]? = some ce → ce.vm = .none → s.vm.findClass E = some ce.cls → vx_W p l e R s m args below meth c H1 locs1 (cells + mc) (slots + ms) Q (F0 m pc ls rest) q9)
    (kk : ∀ (r : Int64) (h' : gh_H) (H1 : Heap) (locs1 : List Loc), Qi r h' → gh_Inv D h0 A s.heap s H1 locs1 h' → W p l e R s m args below meth c H1 locs1 (cells + mc) (slots + ms) Q (F0 m (pc + 5) ls (.long r :: rest))) : W p l e R s m args below meth c H locs cells slots Q (F0 m pc ls st0) := by
  refine vx_callFl hr G.2.2.2.1 (fun q _ z => G.sub q z) G.sub (fun q _ z => G.sub q z) (fun E ce q9 h' t H1 locs1 ht hvm hp hB hz hk hS hce hcv hcl => ?_) (fun r h' t H1 locs1 ht hvm hp hB hz hk hS => ?_)
  · obtain ⟨hX, hR, hd, h3⟩ := hB
    rw [ht] at hR
    exact kx E ce q9 h' H1 locs1 hX (G.call hvm hR hd h3 hS) hce hcv hcl
  · obtain ⟨hR, hd, h3⟩ := hB
    rw [ht] at hR
    exact kk r h' H1 locs1 hp (G.call hvm hR hd h3 hS)
theorem gh_kFf (G : gh_Inv D h0 A s.heap s H locs h) {Qi : UInt32 → gh_H → Prop} {X : String → gh_H → Prop} (hr : vx_Run5 p l e R s m args below meth c H locs cells slots mc ms (F0 m pc ls st0) rest (gh_Qf Qi D h H.size a) (gh_X X D h H.size) (gh_A h H.size))
    (kx : ∀ (E : String) (ce : Cell) (q9 : Addr) (h' : gh_H) (H1 : Heap) (locs1 : List Loc), X E h' → gh_Inv D h0 A s.heap s H1 locs1 h' → H1[q9]? = some ce → ce.vm = .none → s.vm.findClass E = some ce.cls → vx_W p l e R s m args below meth c H1 locs1 (cells + mc) (slots + ms) Q (F0 m pc ls rest) q9)
    (kk : ∀ (r : UInt32) (h' : gh_H) (H1 : Heap) (locs1 : List Loc), Qi r h' → gh_Inv D h0 A s.heap s H1 locs1 h' → W p l e R s m args below meth c H1 locs1 (cells + mc) (slots + ms) Q (F0 m (pc + 5) ls (.float r :: rest))) : W p l e R s m args below meth c H locs cells slots Q (F0 m pc ls st0) := by
  refine vx_callFf hr G.2.2.2.1 (fun q _ z => G.sub q z) G.sub (fun q _ z => G.sub q z) (fun E ce q9 h' t H1 locs1 ht hvm hp hB hz hk hS hce hcv hcl => ?_) (fun r h' t H1 locs1 ht hvm hp hB hz hk hS => ?_)
  · obtain ⟨hX, hR, hd, h3⟩ := hB
    rw [ht] at hR
    exact kx E ce q9 h' H1 locs1 hX (G.call hvm hR hd h3 hS) hce hcv hcl
  · obtain ⟨hR, hd, h3⟩ := hB
    rw [ht] at hR
    exact kk r h' H1 locs1 hp (G.call hvm hR hd h3 hS)
theorem gh_kFd (G : gh_Inv D h0 A s.heap s H locs h) {Qi : UInt64 → gh_H → Prop} {X : String → gh_H → Prop} (hr : vx_Run5 p l e R s m args below meth c H locs cells slots mc ms (F0 m pc ls st0) rest (gh_Qd Qi D h H.size a) (gh_X X D h H.size) (gh_A h H.size))
    (kx : ∀ (E : String) (ce : Cell) (q9 : Addr) (h' : gh_H) (H1 : Heap) (locs1 : List Loc), X E h' → gh_Inv D h0 A s.heap s H1 locs1 h' → H1[q9]? = some ce → ce.vm = .none → s.vm.findClass E = some ce.cls → vx_W p l e R s m args below meth c H1 locs1 (cells + mc) (slots + ms) Q (F0 m pc ls rest) q9)
    (kk : ∀ (r : UInt64) (h' : gh_H) (H1 : Heap) (locs1 : List Loc), Qi r h' → gh_Inv D h0 A s.heap s H1 locs1 h' → W p l e R s m args below meth c H1 locs1 (cells + mc) (slots + ms) Q (F0 m (pc + 5) ls (.double r :: rest))) : W p l e R s m args below meth c H locs cells slots Q (F0 m pc ls st0) := by
  refine vx_callFd hr G.2.2.2.1 (fun q _ z => G.sub q z) G.sub (fun q _ z => G.sub q z) (fun E ce q9 h' t H1 locs1 ht hvm hp hB hz hk hS hce hcv hcl => ?_) (fun r h' t H1 locs1 ht hvm hp hB hz hk hS => ?_)
  · obtain ⟨hX, hR, hd, h3⟩ := hB
    rw [ht] at hR
    exact kx E ce q9 h' H1 locs1 hX (G.call hvm hR hd h3 hS) hce hcv hcl
  · obtain ⟨hR, hd, h3⟩ := hB
    rw [ht] at hR
    exact kk r h' H1 locs1 hp (G.call hvm hR hd h3 hS)
theorem gh_kFq (G : gh_Inv D h0 A s.heap s H locs h) {Qi : Option Nat → gh_H → Prop} {X : String → gh_H → Prop} (hr : vx_Run5 p l e R s m args below meth c H locs cells slots mc ms (F0 m pc ls st0) rest (gh_Qq Qi D h H.size a) (gh_X X D h H.size) (gh_A h H.size))
    (kx : ∀ (E : String) (ce : Cell) (q9 : Addr) (h' : gh_H) (H1 : Heap) (locs1 : List Loc), X E h' → gh_Inv D h0 A s.heap s H1 locs1 h' → H1[q9]? = some ce → ce.vm = .none → s.vm.findClass E = some ce.cls → vx_W p l e R s m args below meth c H1 locs1 (cells + mc) (slots + ms) Q (F0 m pc ls rest) q9)
    (kk : ∀ (r : Option Nat) (h' : gh_H) (H1 : Heap) (locs1 : List Loc), Qi r h' → gh_Inv D h0 A s.heap s H1 locs1 h' → W p l e R s m args below meth c H1 locs1 (cells + mc) (slots + ms) Q (F0 m (pc + 5) ls (va_rf r :: rest))) : W p l e R s m args below meth c H locs cells slots Q (F0 m pc ls st0) := by
  refine vx_callFq hr G.2.2.2.1 (fun q _ z => G.sub q z) G.sub (fun q _ z => G.sub q z) (fun E ce q9 h' t H1 locs1 ht hvm hp hB hz hk hS hce hcv hcl => ?_) (fun r h' t H1 locs1 ht hvm hp hB hz hk hS => ?_)
  · obtain ⟨hX, hR, hd, h3⟩ := hB
    rw [ht] at hR
    exact kx E ce q9 h' H1 locs1 hX (G.call hvm hR hd h3 hS) hce hcv hcl
  · obtain ⟨hR, hd, h3⟩ := hB
    rw [ht] at hR
    exact kk r h' H1 locs1 hp (G.call hvm hR hd h3 hS)
theorem gh_kFv (G : gh_Inv D h0 A s.heap s H locs h) {Qi : gh_H → Prop} {X : String → gh_H → Prop} (hr : vx_Run5 p l e R s m args below meth c H locs cells slots mc ms (F0 m pc ls st0) rest (gh_Qv Qi D h H.size a) (gh_X X D h H.size) (gh_A h H.size))
    (kx : ∀ (E : String) (ce : Cell) (q9 : Addr) (h' : gh_H) (H1 : Heap) (locs1 : List Loc), X E h' → gh_Inv D h0 A s.heap s H1 locs1 h' → H1[q9]? = some ce → ce.vm = .none → s.vm.findClass E = some ce.cls → vx_W p l e R s m args below meth c H1 locs1 (cells + mc) (slots + ms) Q (F0 m pc ls rest) q9)
    (kk : ∀ (h' : gh_H) (H1 : Heap) (locs1 : List Loc), Qi h' → gh_Inv D h0 A s.heap s H1 locs1 h' → W p l e R s m args below meth c H1 locs1 (cells + mc) (slots + ms) Q (F0 m (pc + 5) ls rest)) : W p l e R s m args below meth c H locs cells slots Q (F0 m pc ls st0) := by
  refine vx_callFv hr G.2.2.2.1 (fun q _ z => G.sub q z) G.sub (fun q _ z => G.sub q z) (fun E ce q9 h' t H1 locs1 ht hvm hp hB hz hk hS hce hcv hcl => ?_) (fun h' t H1 locs1 ht hvm hp hB hz hk hS => ?_)
  · obtain ⟨hX, hR, hd, h3⟩ := hB
    rw [ht] at hR
    exact kx E ce q9 h' H1 locs1 hX (G.call hvm hR hd h3 hS) hce hcv hcl
  · obtain ⟨hR, hd, h3⟩ := hB
    rw [ht] at hR
    exact kk h' H1 locs1 hp (G.call hvm hR hd h3 hS)
end GHW
/-! reads and writes, as statements over ghosts -/
def gh_GI (h : gh_H) (r : Option Nat) (ck : List (Nat × Nat)) (K : Int32 → Prop) : Prop := ∃ (a lb ci k : Nat) (fs : List Value) (x : Int32), r = some a ∧ h a = some (lb, .inr (ci, fs)) ∧ (ci, k) ∈ ck ∧ fs[k]? = some (.int x) ∧ K x
def gh_GJ (h : gh_H) (r : Option Nat) (ck : List (Nat × Nat)) (K : Int64 → Prop) : Prop := ∃ (a lb ci k : Nat) (fs : List Value) (x : Int64), r = some a ∧ h a = some (lb, .inr (ci, fs)) ∧ (ci, k) ∈ ck ∧ fs[k]? = some (.long x) ∧ K x
def gh_GR (h : gh_H) (r : Option Nat) (ck : List (Nat × Nat)) (K : Option Nat → Prop) : Prop := ∃ (a lb ci k : Nat) (fs : List Value) (x : Option Nat), r = some a ∧ h a = some (lb, .inr (ci, fs)) ∧ (ci, k) ∈ ck ∧ fs[k]? = some (va_rf x) ∧ K x
def gh_PV (h : gh_H) (r : Option Nat) (ck : List (Nat × Nat)) (v : Value) (K : gh_H → Prop) : Prop := ∃ (a lb ci k : Nat) (fs : List Value), r = some a ∧ h a = some (lb, .inr (ci, fs)) ∧ lb ≠ 0 ∧ (ci, k) ∈ ck ∧ k < fs.length ∧ K (gh_up h a (lb, .inr (ci, fs.set k v)))
def gh_LI (h : gh_H) (r : Option Nat) (i : Int32) (K : Int32 → Prop) : Prop := ∃ (a lb n : Nat) (f : Nat → Int32), r = some a ∧ h a = some (lb, .inl (0, n, .inl f)) ∧ vp_in i n ∧ K (f i.toNatClampNeg)
def gh_LZ (h : gh_H) (r : Option Nat) (i : Int32) (K : Int32 → Prop) : Prop := ∃ (a lb n : Nat) (f : Nat → Int32), r = some a ∧ h a = some (lb, .inl (3, n, .inl f)) ∧ vp_in i n ∧ K (f i.toNatClampNeg)
def gh_LJ (h : gh_H) (r : Option Nat) (i : Int32) (K : Int64 → Prop) : Prop := ∃ (a lb n : Nat) (f : Nat → Int64), r = some a ∧ h a = some (lb, .inl (1, n, .inr (.inl f))) ∧ vp_in i n ∧ K (f i.toNatClampNeg)
def gh_LD (h : gh_H) (r : Option Nat) (i : Int32) (K : UInt64 → Prop) : Prop := ∃ (a lb n : Nat) (f : Nat → UInt64), r = some a ∧ h a = some (lb, .inl (2, n, .inr (.inr (.inr (.inl f))))) ∧ vp_in i n ∧ K (f i.toNatClampNeg)
def gh_LR (h : gh_H) (r : Option Nat) (i : Int32) (K : Option Nat → Prop) : Prop := ∃ (a lb t n : Nat) (f : Nat → Option Nat), r = some a ∧ h a = some (lb, .inl (t, n, .inr (.inr (.inr (.inr f))))) ∧ 4 ≤ t ∧ vp_in i n ∧ K (f i.toNatClampNeg)
def gh_SI (h : gh_H) (r : Option Nat) (i x : Int32) (K : gh_H → Prop) : Prop := ∃ (a lb n : Nat) (f : Nat → Int32), r = some a ∧ h a = some (lb, .inl (0, n, .inl f)) ∧ lb ≠ 0 ∧ vp_in i n ∧ K (gh_up h a (lb, .inl (0, n, .inl (upd f i.toNatClampNeg x))))
def gh_SZ (h : gh_H) (r : Option Nat) (i x : Int32) (K : gh_H → Prop) : Prop := ∃ (a lb n : Nat) (f : Nat → Int32), r = some a ∧ h a = some (lb, .inl (3, n, .inl f)) ∧ lb ≠ 0 ∧ vp_in i n ∧ K (gh_up h a (lb, .inl (3, n, .inl (upd f i.toNatClampNeg (vp_nar .boolean x)))))
def gh_SJ (h : gh_H) (r : Option Nat) (i : Int32) (x : Int64) (K : gh_H → Prop) : Prop := ∃ (a lb n : Nat) (f : Nat → Int64), r = some a ∧ h a = some (lb, .inl (1, n, .inr (.inl f))) ∧ lb ≠ 0 ∧ vp_in i n ∧ K (gh_up h a (lb, .inl (1, n, .inr (.inl (vp_updL f i.toNatClampNeg x)))))
def gh_SD (h : gh_H) (r : Option Nat) (i : Int32) (x : UInt64) (K : gh_H → Prop) : Prop := ∃ (a lb n : Nat) (f : Nat → UInt64), r = some a ∧ h a = some (lb, .inl (2, n, .inr (.inr (.inr (.inl f))))) ∧ lb ≠ 0 ∧ vp_in i n ∧ K (gh_up h a (lb, .inl (2, n, .inr (.inr (.inr (.inl (vf_upd f i.toNatClampNeg x)))))))
def gh_SR (h : gh_H) (r : Option Nat) (i : Int32) (v : Option Nat) (K : gh_H → Prop) : Prop := ∃ (a lb n : Nat) (f : Nat → Option Nat), r = some a ∧ h a = some (lb, .inl (4, n, .inr (.inr (.inr (.inr f))))) ∧ lb ≠ 0 ∧ vp_in i n ∧ (v = none ∨ ∃ (b l2 ci : Nat) (fs : List Value), v = some b ∧ h b = some (l2, .inr (ci, fs)) ∧ ci ∈ gh_os) ∧ K (gh_up h a (lb, .inl (4, n, .inr (.inr (.inr (.inr (va_up f i.toNatClampNeg v)))))))
def gh_LN (h : gh_H) (r : Option Nat) (K : Int32 → Prop) : Prop := ∃ (a lb t : Nat) (x : vp_A), r = some a ∧ h a = some (lb, .inl (t, x)) ∧ K (Int32.ofNat x.1)
def gh_NO (h : gh_H) (ci : Nat) (fs : List Value) (K : Nat → gh_H → Prop) : Prop := ∃ lb : Nat, lb ≠ 0 ∧ ∀ q : Nat, h q = none → K q (gh_up h q (lb, .inr (ci, fs)))
def gh_NA (h : gh_H) (t : Nat) (n : Int32) (lim : Nat) (x : (Nat → Int32) ⊕ (Nat → Int64) ⊕ (Nat → UInt32) ⊕ (Nat → UInt64) ⊕ (Nat → Option Nat)) (K : Nat → gh_H → Prop) : Prop := ¬ n < 0 ∧ n.toNatClampNeg ≤ lim ∧ ∃ lb : Nat, lb ≠ 0 ∧ ∀ q : Nat, h q = none → K q (gh_up h q (lb, .inl (t, n.toNatClampNeg, x)))
def gh_CK (h : gh_H) (r : Option Nat) (cis : List Nat) (K : Prop) : Prop := (r = none ∨ ∃ (a lb ci : Nat) (fs : List Value), r = some a ∧ h a = some (lb, .inr (ci, fs)) ∧ ci ∈ cis) ∧ K
def gh_IS (h : gh_H) (r : Option Nat) (yes no : List Nat) (K : Int32 → Prop) : Prop := (r = none ∧ K 0) ∨ ∃ (a lb ci : Nat) (fs : List Value), r = some a ∧ h a = some (lb, .inr (ci, fs)) ∧ ((ci ∈ yes ∧ K 1) ∨ (ci ∈ no ∧ K 0))
/-- the receiver of a call is of this class -/
def gh_RC (h : gh_H) (r : Option Nat) (ci : Nat) (K : Nat → Prop) : Prop := ∃ (a lb : Nat) (fs : List Value), r = some a ∧ h a = some (lb, .inr (ci, fs)) ∧ K a
/-- a field link, for the classes and places ck -/
def gh_FL (own : String) (index : Nat) (ck : List (Nat × Nat)) : Prop := ∀ (args : Array Value) (s : State), (∀ w ∈ lw_all, w.before args s = true) → gh_Tb s → ∀ q ∈ ck, ∃ (r : vw_C) (ref : String), gh_cl[q.1]? = some r ∧ q.2 < r.2.2 ∧
  ((Cond.fieldLink own index ref (r.2.1 q.2).2.1 (r.2.1 q.2).2.2.1).before args s = true ∨ ∃ host : String, (Cond.fieldLinkNest own index ref (r.2.1 q.2).2.1 (r.2.1 q.2).2.2.1 host).before args s = true) ∧
  ∀ x, s.fieldFound? (r.2.1 q.2).1 (r.2.1 q.2).2.1 (r.2.1 q.2).2.2.1 = some x → s.fieldFound? ref (r.2.1 q.2).2.1 (r.2.1 q.2).2.2.1 = some x
def gh_FP (own : String) (index : Nat) (ck : List (Nat × Nat)) (ty : FieldType) (fin : Bool) : Prop := gh_FL own index ck ∧ ∀ q ∈ ck, ∃ r : vw_C, gh_clm[q.1]? = some r ∧ (r.2.1 q.2).2.2.2 = fin ∧ parseFieldDescriptor (r.2.1 q.2).2.2.1 = some ty ∧ (fin = true → (r.2.1 q.2).1 = own)
theorem gh_os_at {ci : Nat} (h : ci ∈ gh_os) : ∃ r : vw_C, gh_cl[ci]? = some r ∧ (Cond.castable r.1 "java/lang/Object") ∈ gh_tw := gh_os_ok ci h
section GHR
variable {D : gh_D} {p : Program} {l : Launch} {e : Env} {R : Room} {s : State} {m : MethodId} {args : Array Value} {below : List Frame} {meth : Method} {c : Code} {H : Heap} {locs : List Loc} {cells slots : Nat} {Q : State → Prop}
variable {own : String} {cc : ByteArray} {nL : Nat} {A : Nat → Prop} {h0 h : gh_H} {pc : Nat} {ls : Array Slot} {rest st0 : List Value}
theorem gh_Mts (M : gh_M D p l s m args meth c own cc nL A) : ∀ w ∈ lw_all, w.before args s = true := M.1.2.2.2.2
theorem gh_get (M : gh_M D p l s m args meth c own cc nL A) (G : gh_Inv D h0 A s.heap s H locs h) {index : Nat} {ck : List (Nat × Nat)} (hF : gh_FL own index ck) {b lb ci k : Nat} {fs : List Value} (hb : h b = some (lb, .inr (ci, fs))) (hm : (ci, k) ∈ ck) {v : Value} (hv : fs[k]? = some v) (hdg : decode cc pc = .ok (.getfield index, 3))
    (kk : W p l e R s m args below meth c H locs cells slots Q (F0 m (pc + 3) ls (v :: rest))) : W p l e R s m args below meth c H locs cells slots Q (F0 m pc ls (.ref b :: rest)) := by
  obtain ⟨r, ref, h1, h2, h3, h4⟩ := hF args s (gh_Mts M) M.2.2.1 _ hm
  obtain ⟨r', cell, g1, g2, g3, g4, g5, g6⟩ := G.1.rd (gh_Mts M) M.2.1 hb
  cases g1.symm.trans h1
  obtain ⟨cf, kf, fi, f, f1, f2, f3⟩ := g6 k h2
  have hs : cell.slots[f.slot]? = some v := by
    rw [f3]
    simp [vp_V, hv]
  rcases h3 with h3 | ⟨host, h3⟩
  · exact W.getf M.1.1 M.1.2.1 M.1.2.2.2.1 h3 (h4 _ f1) f2 g2 g4 hs rfl rfl hdg kk
  · exact va_Wgetf M.1.1 M.1.2.1 M.1.2.2.2.1 h3 (h4 _ f1) f2 g2 g4 hs rfl rfl hdg kk
theorem gh_getI (M : gh_M D p l s m args meth c own cc nL A) (G : gh_Inv D h0 A s.heap s H locs h) {index : Nat} {r : Option Nat} {ck : List (Nat × Nat)} {K : Int32 → Prop} (hw : gh_GI h r ck K) (hF : gh_FL own index ck) (hdg : decode cc pc = .ok (.getfield index, 3))
    (kk : ∀ x : Int32, K x → W p l e R s m args below meth c H locs cells slots Q (F0 m (pc + 3) ls (.int x :: rest))) : W p l e R s m args below meth c H locs cells slots Q (F0 m pc ls (va_rf r :: rest)) := by
  obtain ⟨a, lb, ci, k, fs, x, rfl, h1, h2, h3, h4⟩ := hw
  exact gh_get M G hF h1 h2 h3 hdg (kk x h4)
theorem gh_getJ (M : gh_M D p l s m args meth c own cc nL A) (G : gh_Inv D h0 A s.heap s H locs h) {index : Nat} {r : Option Nat} {ck : List (Nat × Nat)} {K : Int64 → Prop} (hw : gh_GJ h r ck K) (hF : gh_FL own index ck) (hdg : decode cc pc = .ok (.getfield index, 3))
    (kk : ∀ x : Int64, K x → W p l e R s m args below meth c H locs cells slots Q (F0 m (pc + 3) ls (.long x :: rest))) : W p l e R s m args below meth c H locs cells slots Q (F0 m pc ls (va_rf r :: rest)) := by
  obtain ⟨a, lb, ci, k, fs, x, rfl, h1, h2, h3, h4⟩ := hw
  exact gh_get M G hF h1 h2 h3 hdg (kk x h4)
theorem gh_getR (M : gh_M D p l s m args meth c own cc nL A) (G : gh_Inv D h0 A s.heap s H locs h) {index : Nat} {r : Option Nat} {ck : List (Nat × Nat)} {K : Option Nat → Prop} (hw : gh_GR h r ck K) (hF : gh_FL own index ck) (hdg : decode cc pc = .ok (.getfield index, 3))
    (kk : ∀ x : Option Nat, K x → W p l e R s m args below meth c H locs cells slots Q (F0 m (pc + 3) ls (va_rf x :: rest))) : W p l e R s m args below meth c H locs cells slots Q (F0 m pc ls (va_rf r :: rest)) := by
  obtain ⟨a, lb, ci, k, fs, x, rfl, h1, h2, h3, h4⟩ := hw
  exact gh_get M G hF h1 h2 h3 hdg (kk x h4)
theorem gh_put (M : gh_M D p l s m args meth c own cc nL A) (G : gh_Inv D h0 A s.heap s H locs h) {index : Nat} {r : Option Nat} {ck : List (Nat × Nat)} {v : Value} {K : gh_H → Prop} (hw : gh_PV h r ck v K) {ty : FieldType} (hF : gh_FP own index ck ty false) (hn : narrow ty v = v) (hfit : fits ty v = true) (hdg : decode cc pc = .ok (.putfield index, 3))
    (kk : ∀ (h1 : gh_H) (H1 : Heap) (locs1 : List Loc), K h1 → gh_Inv D h0 A s.heap s H1 locs1 h1 → W p l e R s m args below meth c H1 locs1 cells slots Q (F0 m (pc + 3) ls rest)) : W p l e R s m args below meth c H locs cells slots Q (F0 m pc ls (v :: va_rf r :: rest)) := by
  obtain ⟨b, lb, ci, k, fs, rfl, hb, hz, hm, hl, hk⟩ := hw
  obtain ⟨r, f1, f2, f3, -⟩ := hF.2 _ hm
  obtain ⟨r0, ref, h1, h2, h3, h4⟩ := hF.1 args s (gh_Mts M) M.2.2.1 _ hm
  cases (gh_cl_of f1).symm.trans h1
  obtain ⟨r1, g1, cell, q1, q2, q3, q4⟩ := (G.1 b lb _ hb).2 hz
  cases g1.symm.trans f1
  obtain ⟨hin, ⟨ty0, hty⟩, hnm⟩ := gh_clm_ok _ (List.mem_of_getElem? f1)
  have hts := gh_Mts M
  have hap := va_apart (own := own) hts hin ty0 hty hnm M.2.1.1 f1
  obtain ⟨hS, hfc, kC, hkC, hkind⟩ := M.2.1.1.1 ci _ f1
  obtain ⟨cf, kf, fi, f, hi, hsl⟩ := hS k h2
  have hlay := hts _ (hin _ (u_in_lay h2))
  unfold u_lay at hlay
  rw [if_neg (by rw [f2]; decide)] at hlay
  have hst := (u_facts hfc hkC (u_lays hts hin h2) hi).1
  have h6 := u_store hfc hkC hkind hlay hi f3 hn hfit
  rcases h3 with h3 | ⟨host, h3⟩
  · refine W.putK M.1.1 M.1.2.1 (f := f) ⟨M.1.2.2.2.1, h3, ⟨_, _, _, h4 _ hi⟩, hst⟩ (by rw [q2]; exact h6) q1 q3 (by rw [hsl]; exact k2_hasslot (q4 k h2)) rfl rfl hdg fun H' e1 e2 e3 => ?_
    rw [hsl] at e1 ⊢
    exact kk _ H' _ hk (G.set hb hz ⟨_, f1, t_OB.to (V := updV (vp_V fs) k v) ⟨_, e1, q2, q3, t_set q4 hap h2 v⟩ (fun j _ => vp_updV_set hl v j)⟩ e2 e3)
  · refine va_WputK M.1.1 M.1.2.1 (f := f) M.1.2.2.2.1 h3 (h4 _ hi) hst (by rw [q2]; exact h6) q1 q3 (by rw [hsl]; exact k2_hasslot (q4 k h2)) rfl rfl hdg fun H' e1 e2 e3 => ?_
    rw [hsl] at e1 ⊢
    exact kk _ H' _ hk (G.set hb hz ⟨_, f1, t_OB.to (V := updV (vp_V fs) k v) ⟨_, e1, q2, q3, t_set q4 hap h2 v⟩ (fun j _ => vp_updV_set hl v j)⟩ e2 e3)
theorem gh_putF (M : gh_M D p l s m args meth c own cc nL A) (G : gh_Inv D h0 A s.heap s H locs h) (hname : meth.name = "<init>") {index : Nat} {r : Option Nat} {ck : List (Nat × Nat)} {v : Value} {K : gh_H → Prop} (hw : gh_PV h r ck v K) {ty : FieldType} (hF : gh_FP own index ck ty true) (hn : narrow ty v = v) (hfit : fits ty v = true) (hdg : decode cc pc = .ok (.putfield index, 3))
    (kk : ∀ (h1 : gh_H) (H1 : Heap) (locs1 : List Loc), K h1 → gh_Inv D h0 A s.heap s H1 locs1 h1 → W p l e R s m args below meth c H1 locs1 cells slots Q (F0 m (pc + 3) ls rest)) : W p l e R s m args below meth c H locs cells slots Q (F0 m pc ls (v :: va_rf r :: rest)) := by
  obtain ⟨b, lb, ci, k, fs, rfl, hb, hz, hm, hl, hk⟩ := hw
  obtain ⟨r, f1, f2, f3, f4⟩ := hF.2 _ hm
  obtain ⟨r0, ref, h1, h2, h3, h4⟩ := hF.1 args s (gh_Mts M) M.2.2.1 _ hm
  cases (gh_cl_of f1).symm.trans h1
  obtain ⟨r1, g1, cell, q1, q2, q3, q4⟩ := (G.1 b lb _ hb).2 hz
  cases g1.symm.trans f1
  obtain ⟨hin, ⟨ty0, hty⟩, hnm⟩ := gh_clm_ok _ (List.mem_of_getElem? f1)
  have hts := gh_Mts M
  have hap := va_apart (own := own) hts hin ty0 hty hnm M.2.1.1 f1
  obtain ⟨hS, hfc, kC, hkC, hkind⟩ := M.2.1.1.1 ci _ f1
  obtain ⟨cf, kf, fi, f, hi, hsl⟩ := hS k h2
  have hlay := hts _ (hin _ (u_in_lay h2))
  unfold u_lay at hlay
  rw [if_pos f2] at hlay
  have hst := (u_facts hfc hkC (u_lays hts hin h2) hi).1
  have hcf : m.cls = cf := by
    obtain ⟨_, _, c', _, _, _, -, -, hf', -, -, -, hown2, -⟩ := Cond.laysFinal_spec hlay
    have e1 : c' = cf := by have := hi.symm.trans hf'; simp at this; exact this.1.symm
    rw [f4 rfl] at hown2
    rw [← e1]; exact Option.some.inj (M.1.2.2.2.1.symm.trans hown2)
  have h6 := u_fits hfc hkC hkind (Or.inr hlay) hi f3 hn hfit
  rcases h3 with h3 | ⟨host, h3⟩
  · refine W.putFinK M.1.1 M.1.2.1 M.1.2.2.2.1 h3 (h4 _ hi) hst hcf hname (by rw [q2]; exact h6) q1 q3 (by rw [hsl]; exact k2_hasslot (q4 k h2)) rfl rfl hdg fun H' e1 e2 e3 => ?_
    rw [hsl] at e1 ⊢
    exact kk _ H' _ hk (G.set hb hz ⟨_, f1, t_OB.to (V := updV (vp_V fs) k v) ⟨_, e1, q2, q3, t_set q4 hap h2 v⟩ (fun j _ => vp_updV_set hl v j)⟩ e2 e3)
  · refine va_Wputf M.1.1 M.1.2.1 M.1.2.2.2.1 h3 (h4 _ hi) hst (Or.inr ⟨hcf, hname⟩) q1 (by rw [q3]; exact fun h => by cases h) (by rw [hsl]; exact k2_hasslot (q4 k h2)) h6.1 (by rw [q2, q3]; exact h6.2) rfl rfl hdg ?_
    have hlt : b < H.size := (Array.getElem?_eq_some_iff.mp q1).1
    have e1 : (H.setIfInBounds b (cell.setSlot f.slot v))[b]? = some (cell.setSlot f.slot v) := by simp [Array.getElem?_setIfInBounds, hlt]
    rw [hsl] at e1 ⊢
    exact kk _ _ _ hk (G.set hb hz ⟨_, f1, t_OB.to (V := updV (vp_V fs) k v) ⟨_, e1, q2, q3, t_set q4 hap h2 v⟩ (fun j _ => vp_updV_set hl v j)⟩ (by simp) (fun q hq => by simp [Array.getElem?_setIfInBounds, Ne.symm hq]))
/-- an array of the ghost, to be read -/
theorem gh_arr (M : gh_M D p l s m args meth c own cc nL A) (G : gh_Inv D h0 A s.heap s H locs h) {b lb t : Nat} {x : vp_A} (hb : h b = some (lb, .inl (t, x))) : ∃ cell : Cell, H[b]? = some cell ∧ s.isArrayOf cell (gh_ty t) ∧ cell.vm ≠ .unknown ∧ cell.slots.size = x.1 ∧ (∀ j, j < x.1 → cell.slots[j]? = some (gh_val x j)) ∧ ∀ C : String, gh_ty t = .object C → t < 7 → s.vm.findClass ("[" ++ (FieldType.object C).toString) = some cell.cls := G.1.rd (gh_Mts M) M.2.1 hb
theorem gh_ial (M : gh_M D p l s m args meth c own cc nL A) (G : gh_Inv D h0 A s.heap s H locs h) {r : Option Nat} {i : Int32} {K : Int32 → Prop} (hw : gh_LI h r i K) (hdg : decode cc pc = .ok (.iaload, 1))
    (kk : ∀ x : Int32, K x → W p l e R s m args below meth c H locs cells slots Q (F0 m (pc + 1) ls (.int x :: rest))) : W p l e R s m args below meth c H locs cells slots Q (F0 m pc ls (.int i :: va_rf r :: rest)) := by
  obtain ⟨b, lb, n, f, rfl, hb, hin, hk⟩ := hw
  obtain ⟨cell, g1, g2, g3, g4, g5, -⟩ := gh_arr M G hb
  exact W.iald M.1.1 M.1.2.1 g1 g2 g3 (by rw [g4]; exact hin) (g5 _ (Nat.not_le.mp fun q => hin (Or.inr q))) rfl rfl hdg (kk _ hk)
theorem gh_zal (M : gh_M D p l s m args meth c own cc nL A) (G : gh_Inv D h0 A s.heap s H locs h) {r : Option Nat} {i : Int32} {K : Int32 → Prop} (hw : gh_LZ h r i K) (hdg : decode cc pc = .ok (.baload, 1))
    (kk : ∀ x : Int32, K x → W p l e R s m args below meth c H locs cells slots Q (F0 m (pc + 1) ls (.int x :: rest))) : W p l e R s m args below meth c H locs cells slots Q (F0 m pc ls (.int i :: va_rf r :: rest)) := by
  obtain ⟨b, lb, n, f, rfl, hb, hin, hk⟩ := hw
  obtain ⟨cell, g1, g2, g3, g4, g5, -⟩ := gh_arr M G hb
  exact W.zald M.1.1 M.1.2.1 g1 g2 g3 (by rw [g4]; exact hin) (g5 _ (Nat.not_le.mp fun q => hin (Or.inr q))) rfl rfl hdg (kk _ hk)
theorem gh_jal (M : gh_M D p l s m args meth c own cc nL A) (G : gh_Inv D h0 A s.heap s H locs h) {r : Option Nat} {i : Int32} {K : Int64 → Prop} (hw : gh_LJ h r i K) (hdg : decode cc pc = .ok (.laload, 1))
    (kk : ∀ x : Int64, K x → W p l e R s m args below meth c H locs cells slots Q (F0 m (pc + 1) ls (.long x :: rest))) : W p l e R s m args below meth c H locs cells slots Q (F0 m pc ls (.int i :: va_rf r :: rest)) := by
  obtain ⟨b, lb, n, f, rfl, hb, hin, hk⟩ := hw
  obtain ⟨cell, g1, g2, g3, g4, g5, -⟩ := gh_arr M G hb
  exact W.lald M.1.1 M.1.2.1 g1 g2 g3 (by rw [g4]; exact hin) (g5 _ (Nat.not_le.mp fun q => hin (Or.inr q))) rfl rfl hdg (kk _ hk)
theorem gh_dal (M : gh_M D p l s m args meth c own cc nL A) (G : gh_Inv D h0 A s.heap s H locs h) {r : Option Nat} {i : Int32} {K : UInt64 → Prop} (hw : gh_LD h r i K) (hdg : decode cc pc = .ok (.daload, 1))
    (kk : ∀ x : UInt64, K x → W p l e R s m args below meth c H locs cells slots Q (F0 m (pc + 1) ls (.double x :: rest))) : W p l e R s m args below meth c H locs cells slots Q (F0 m pc ls (.int i :: va_rf r :: rest)) := by
  obtain ⟨b, lb, n, f, rfl, hb, hin, hk⟩ := hw
  obtain ⟨cell, g1, g2, g3, g4, g5, -⟩ := gh_arr M G hb
  exact W.dald M.1.1 M.1.2.1 g1 g2 g3 (by rw [g4]; exact hin) (g5 _ (Nat.not_le.mp fun q => hin (Or.inr q))) rfl rfl hdg (kk _ hk)
theorem gh_tyr {t : Nat} (ht : 4 ≤ t) : (gh_ty t).isReference = true := by
  obtain ⟨j, rfl⟩ : ∃ j, t = 4 + j := ⟨t - 4, by omega⟩
  match j with
  | 0 => rfl
  | 1 => rfl
  | 2 => rfl
  | j + 3 =>
    have e : 4 + (j + 3) = j + 7 := by omega
    rw [e]
    rfl
theorem gh_ral (M : gh_M D p l s m args meth c own cc nL A) (G : gh_Inv D h0 A s.heap s H locs h) {r : Option Nat} {i : Int32} {K : Option Nat → Prop} (hw : gh_LR h r i K) (hdg : decode cc pc = .ok (.aaload, 1))
    (kk : ∀ x : Option Nat, K x → W p l e R s m args below meth c H locs cells slots Q (F0 m (pc + 1) ls (va_rf x :: rest))) : W p l e R s m args below meth c H locs cells slots Q (F0 m pc ls (.int i :: va_rf r :: rest)) := by
  obtain ⟨b, lb, t, n, f, rfl, hb, ht, hin, hk⟩ := hw
  obtain ⟨cell, g1, g2, g3, g4, g5, -⟩ := gh_arr M G hb
  exact W.aald M.1.1 M.1.2.1 g1 g2 (gh_tyr ht) g3 (by rw [g4]; exact hin) (g5 _ (Nat.not_le.mp fun q => hin (Or.inr q))) rfl rfl hdg (kk _ hk)
theorem gh_len (M : gh_M D p l s m args meth c own cc nL A) (G : gh_Inv D h0 A s.heap s H locs h) {r : Option Nat} {K : Int32 → Prop} (hw : gh_LN h r K) (hdg : decode cc pc = .ok (.arraylength, 1))
    (kk : ∀ x : Int32, K x → W p l e R s m args below meth c H locs cells slots Q (F0 m (pc + 1) ls (.int x :: rest))) : W p l e R s m args below meth c H locs cells slots Q (F0 m pc ls (va_rf r :: rest)) := by
  obtain ⟨b, lb, t, x, rfl, hb, hk⟩ := hw
  obtain ⟨cell, g1, g2, g3, g4, g5, -⟩ := gh_arr M G hb
  exact W.alen M.1.1 M.1.2.1 g1 g2 (by rw [g4] <;> rfl) rfl rfl hdg (kk _ hk)
theorem gh_ias (M : gh_M D p l s m args meth c own cc nL A) (G : gh_Inv D h0 A s.heap s H locs h) {r : Option Nat} {i x : Int32} {K : gh_H → Prop} (hw : gh_SI h r i x K) (hdg : decode cc pc = .ok (.iastore, 1))
    (kk : ∀ (h1 : gh_H) (H1 : Heap) (locs1 : List Loc), K h1 → gh_Inv D h0 A s.heap s H1 locs1 h1 → W p l e R s m args below meth c H1 locs1 cells slots Q (F0 m (pc + 1) ls rest)) : W p l e R s m args below meth c H locs cells slots Q (F0 m pc ls (.int x :: .int i :: va_rf r :: rest)) := by
  obtain ⟨b, lb, n, f, rfl, hb, hz, hin, hk⟩ := hw
  have hP := ((G.1 b lb _ hb).2 hz).2
  have hA := (M.2.1.2 0 (by decide)).1
  refine W.iast M.1.1 M.1.2.1 hP (hA n (fun j => .int (f j))) (fun q => by cases q) (by show ¬ (i < 0 ∨ (arrV _ _ _).slots.size ≤ _); rw [arrV_size]; exact hin) rfl rfl hdg fun H1 e z oq => ?_
  refine kk _ H1 _ hk (G.set hb hz ⟨Nat.le_of_ble_eq_true rfl, ?_⟩ z oq)
  rw [e]
  rw [vp_cell_i, vp_cell_i, arrV_store]
  congr 2
  funext q
  by_cases hq : q = i.toNatClampNeg
  · subst hq
    simp [updV, upd]
  · simp [updV, upd, hq]
theorem gh_zas (M : gh_M D p l s m args meth c own cc nL A) (G : gh_Inv D h0 A s.heap s H locs h) {r : Option Nat} {i x : Int32} {K : gh_H → Prop} (hw : gh_SZ h r i x K) (hdg : decode cc pc = .ok (.bastore, 1))
    (kk : ∀ (h1 : gh_H) (H1 : Heap) (locs1 : List Loc), K h1 → gh_Inv D h0 A s.heap s H1 locs1 h1 → W p l e R s m args below meth c H1 locs1 cells slots Q (F0 m (pc + 1) ls rest)) : W p l e R s m args below meth c H locs cells slots Q (F0 m pc ls (.int x :: .int i :: va_rf r :: rest)) := by
  obtain ⟨b, lb, n, f, rfl, hb, hz, hin, hk⟩ := hw
  have hP := ((G.1 b lb _ hb).2 hz).2
  have hA := (M.2.1.2 3 (by decide)).1
  refine W.zast M.1.1 M.1.2.1 hP (hA n (fun j => .int (f j))) (fun q => by cases q) (by show ¬ (i < 0 ∨ (arrV _ _ _).slots.size ≤ _); rw [arrV_size]; exact hin) rfl rfl hdg fun H1 e z oq => ?_
  refine kk _ H1 _ hk (G.set hb hz ⟨Nat.le_of_ble_eq_true rfl, ?_⟩ z oq)
  rw [e]
  rw [vp_cell_i, vp_cell_i, arrV_store]
  congr 2
  funext q
  by_cases hq : q = i.toNatClampNeg
  · subst hq
    simp [updV, upd]
    rfl
  · simp [updV, upd, hq]
theorem gh_jas (M : gh_M D p l s m args meth c own cc nL A) (G : gh_Inv D h0 A s.heap s H locs h) {r : Option Nat} {i : Int32} {x : Int64} {K : gh_H → Prop} (hw : gh_SJ h r i x K) (hdg : decode cc pc = .ok (.lastore, 1))
    (kk : ∀ (h1 : gh_H) (H1 : Heap) (locs1 : List Loc), K h1 → gh_Inv D h0 A s.heap s H1 locs1 h1 → W p l e R s m args below meth c H1 locs1 cells slots Q (F0 m (pc + 1) ls rest)) : W p l e R s m args below meth c H locs cells slots Q (F0 m pc ls (.long x :: .int i :: va_rf r :: rest)) := by
  obtain ⟨b, lb, n, f, rfl, hb, hz, hin, hk⟩ := hw
  have hP := ((G.1 b lb _ hb).2 hz).2
  have hA := (M.2.1.2 1 (by decide)).1
  refine W.last M.1.1 M.1.2.1 hP (hA n (fun j => .long (f j))) (fun q => by cases q) (by show ¬ (i < 0 ∨ (arrV _ _ _).slots.size ≤ _); rw [arrV_size]; exact hin) rfl rfl hdg fun H1 e z oq => ?_
  refine kk _ H1 _ hk (G.set hb hz ⟨Nat.le_of_ble_eq_true rfl, ?_⟩ z oq)
  rw [e]
  rw [vp_cell_l, vp_cell_l, arrV_store]
  congr 2
  funext q
  by_cases hq : q = i.toNatClampNeg
  · subst hq
    simp [updV, vp_updL]
  · simp [updV, vp_updL, hq]
theorem gh_das (M : gh_M D p l s m args meth c own cc nL A) (G : gh_Inv D h0 A s.heap s H locs h) {r : Option Nat} {i : Int32} {x : UInt64} {K : gh_H → Prop} (hw : gh_SD h r i x K) (hdg : decode cc pc = .ok (.dastore, 1))
    (kk : ∀ (h1 : gh_H) (H1 : Heap) (locs1 : List Loc), K h1 → gh_Inv D h0 A s.heap s H1 locs1 h1 → W p l e R s m args below meth c H1 locs1 cells slots Q (F0 m (pc + 1) ls rest)) : W p l e R s m args below meth c H locs cells slots Q (F0 m pc ls (.double x :: .int i :: va_rf r :: rest)) := by
  obtain ⟨b, lb, n, f, rfl, hb, hz, hin, hk⟩ := hw
  have hP := ((G.1 b lb _ hb).2 hz).2
  have hA := (M.2.1.2 2 (by decide)).1
  refine W.dast M.1.1 M.1.2.1 hP (hA n (fun j => .double (f j))) (fun q => by cases q) (by show ¬ (i < 0 ∨ (arrV _ _ _).slots.size ≤ _); rw [arrV_size]; exact hin) rfl rfl hdg fun H1 e z oq => ?_
  refine kk _ H1 _ hk (G.set hb hz ⟨Nat.le_of_ble_eq_true rfl, ?_⟩ z oq)
  rw [e]
  rw [vp_cell_d, vp_cell_d, arrV_store]
  congr 2
  funext q
  by_cases hq : q = i.toNatClampNeg
  · subst hq
    simp [updV, vf_upd]
  · simp [updV, vf_upd, hq]
theorem gh_ras (M : gh_M D p l s m args meth c own cc nL A) (G : gh_Inv D h0 A s.heap s H locs h) {r : Option Nat} {i : Int32} {v : Option Nat} {K : gh_H → Prop} (hw : gh_SR h r i v K) (hdg : decode cc pc = .ok (.aastore, 1))
    (kk : ∀ (h1 : gh_H) (H1 : Heap) (locs1 : List Loc), K h1 → gh_Inv D h0 A s.heap s H1 locs1 h1 → W p l e R s m args below meth c H1 locs1 cells slots Q (F0 m (pc + 1) ls rest)) : W p l e R s m args below meth c H locs cells slots Q (F0 m pc ls (va_rf v :: .int i :: va_rf r :: rest)) := by
  obtain ⟨b, lb, n, f, rfl, hb, hz, hin, hv, hk⟩ := hw
  have hP := ((G.1 b lb _ hb).2 hz).2
  have hA := M.2.1.2 4 (by decide)
  have hlt : i.toNatClampNeg < n := Nat.not_le.mp fun q => hin (Or.inr q)
  have h00 : ¬ i < 0 := fun q => hin (Or.inl q)
  have fin : ∀ (H1 : Heap), H1[b]? = some ((vp_cell (D.2.1 4) (n, .inr (.inr (.inr (.inr f))))).setSlot i.toNatClampNeg (va_rf v)) → gh_At D (.inl (4, n, .inr (.inr (.inr (.inr (va_up f i.toNatClampNeg v)))))) b H1 := by
    intro H1 e
    refine ⟨Nat.le_of_ble_eq_true rfl, ?_⟩
    rw [e]
    rw [vp_cell_q, vp_cell_q, arrV_store]
    congr 2
    funext q
    by_cases hq : q = i.toNatClampNeg
    · subst hq
      simp [updV, va_up]
    · simp [updV, va_up, hq]
  rcases hv with rfl | ⟨y, l2, ci, fs, rfl, hy, hci⟩
  · refine va_WaastN (C := "java/lang/Object") M.1.1 M.1.2.1 hP (hA.1 n (fun j => va_rf (f j))) (fun h => by cases h) (by show ¬ (i < 0 ∨ (arrV _ _ _).slots.size ≤ _); rw [arrV_size]; exact hin) rfl rfl hdg fun H1 e z oq => ?_
    exact kk _ H1 _ hk (G.set hb hz (fin H1 e) z oq)
  · obtain ⟨r, hr, hcast⟩ := gh_os_at hci
    obtain ⟨r', cellV, g1, g2, g3, g4, g5, g6⟩ := G.1.rd (gh_Mts M) M.2.1 hy
    cases g1.symm.trans hr
    obtain ⟨kA, comp, k1, k2, k3, -⟩ := hA.2
    obtain ⟨kE, hkE, -⟩ := Vm.findClass_spec k3
    obtain ⟨c0, t1, f1, f2, f3⟩ := Cond.castable_spec (va_Nw.use (A := args) rfl (M.2.2.1.1 _ hcast))
    cases g5.symm.trans f1
    cases k3.symm.trans f2
    obtain ⟨kC, hkC, -⟩ := Vm.findClass_spec g5
    refine W.aast M.1.1 M.1.2.1 hP (fun q h => by cases h) (fun h => by cases h) k1 k2 rfl hkE ⟨h00, by show _ < (arrV _ _ _).slots.size; rw [arrV_size]; exact hlt⟩ g2 (fun q h => by rw [h] at g3; cases g3) hkC f3 rfl rfl hdg fun H1 e z oq => ?_
    exact kk _ H1 _ hk (G.set hb hz (fin H1 e) z oq)
theorem gh_new (M : gh_M D p l s m args meth c own cc nL A) (G : gh_Inv D h0 A s.heap s H locs h) {index ci : Nat} {N : Nat} {r : vw_C} {fs : List Value} {K : Nat → gh_H → Prop} (hw : gh_NO h ci fs K) (ty : Nat → FieldType) (hty : ∀ k, k < r.2.2 → parseFieldDescriptor (r.2.1 k).2.2.1 = some (ty k)) (hcl : Cond.classLink own index r.1 ∈ lw_all) (hinst : Cond.instantiable r.1 r.2.2 ∈ lw_all) (hini : Cond.initialized r.1 ∈ lw_all) (hc : gh_clm[ci]? = some r) (hN : r.2.2 = N) (hfs : ∀ j, j < r.2.2 → defaultValue (ty j) = vp_V fs j) (hcells : cells + 1 ≤ R.cells) (hslots : slots + N ≤ R.slots) (hdg : decode cc pc = .ok (.new index, 3))
    (kk : ∀ (q : Nat) (h1 : gh_H) (H1 : Heap), K q h1 → gh_Inv D h0 A s.heap s H1 locs h1 → W p l e R s m args below meth c H1 locs (cells + 1) (slots + N) Q (F0 m (pc + 3) ls (va_rf (some q) :: rest))) : W p l e R s m args below meth c H locs cells slots Q (F0 m pc ls rest) := by
  subst hN
  obtain ⟨lb, hz, hk⟩ := hw
  have hts := gh_Mts M
  have hKn := M.2.1.1.1 ci _ hc
  refine W.newcK M.1.1 M.1.2.1 M.1.2.2.2.1 (hts _ hcl) (hts _ hinst) (hts _ hini) rfl hdg hcells hslots hKn.2.1 rfl fun H1 kC hkC e1 z1 o1 => ?_
  exact kk H.size _ H1 (hk H.size G.1.fresh) (G.new hz ⟨_, hc, (u_born ty hts (gh_clm_ok _ (List.mem_of_getElem? hc)).1 hKn hkC e1 hty).to hfs⟩ z1 o1)
theorem gh_newa (M : gh_M D p l s m args meth c own cc nL A) (G : gh_Inv D h0 A s.heap s H locs h) {atype : ArrayType} {t lim : Nat} {n : Int32} {x : (Nat → Int32) ⊕ (Nat → Int64) ⊕ (Nat → UInt32) ⊕ (Nat → UInt64) ⊕ (Nat → Option Nat)} {K : Nat → gh_H → Prop} (hw : gh_NA h t n lim x K) (harr : Cond.arrayClass (newarray.typeOf atype) ∈ lw_all) (ht : t < 7) (hty : newarray.typeOf atype = gh_ty t) (hra : ∀ U cA, va_RA U cA (gh_ty t) → U.vm.findClass ("[" ++ (newarray.typeOf atype).toString) = some cA)
    (hx : ∀ (cA : ClassId) (N : Nat), vp_cell cA (N, x) = arrV cA N (fun _ => defaultValue (newarray.typeOf atype))) (hlim : lim * 8 ≤ 536870912) (hcb : componentBytes (newarray.typeOf atype) ≤ 8) (hcells : cells + 1 ≤ R.cells) (hslots : slots + lim ≤ R.slots) (hdg : decode cc pc = .ok (.newarray atype, 2))
    (kk : ∀ (q : Nat) (h1 : gh_H) (H1 : Heap), K q h1 → gh_Inv D h0 A s.heap s H1 locs h1 → W p l e R s m args below meth c H1 locs (cells + 1) (slots + lim) Q (F0 m (pc + 2) ls (va_rf (some q) :: rest))) : W p l e R s m args below meth c H locs cells slots Q (F0 m pc ls (.int n :: rest)) := by
  obtain ⟨hn, hl, lb, hz, hk⟩ := hw
  refine va_newaK M.1.1 M.1.2.1 (gh_Mts M _ harr) rfl hdg rfl hn rfl (Nat.le_trans (Nat.mul_le_mul hl hcb) hlim) hcells (by omega) rfl fun H1 cA e1 z1 o1 hAr hNm => ?_
  have hcA : cA = D.2.1 t := Option.some.inj (hNm.symm.trans (hra s _ (M.2.1.2 t ht).2))
  subst hcA
  refine W.widen (k := cells + 1) (n := slots + lim) (Nat.le_refl _) (by omega) ?_
  exact kk H.size _ H1 (hk H.size G.1.fresh) (G.new hz ⟨ht, by rw [hx]; exact e1⟩ z1 o1)
theorem gh_newq (M : gh_M D p l s m args meth c own cc nL A) (G : gh_Inv D h0 A s.heap s H locs h) {index lim : Nat} {n : Int32} {K : Nat → gh_H → Prop} (hw : gh_NA h 4 n lim (.inr (.inr (.inr (.inr (fun _ => none))))) K) (hcl : Cond.classLink own index "java/lang/Object" ∈ lw_all) (hlim : lim * 4 ≤ 536870912) (hcells : cells + 1 ≤ R.cells) (hslots : slots + lim ≤ R.slots) (hdg : decode cc pc = .ok (.anewarray index, 3))
    (kk : ∀ (q : Nat) (h1 : gh_H) (H1 : Heap), K q h1 → gh_Inv D h0 A s.heap s H1 locs h1 → W p l e R s m args below meth c H1 locs (cells + 1) (slots + lim) Q (F0 m (pc + 3) ls (va_rf (some q) :: rest))) : W p l e R s m args below meth c H locs cells slots Q (F0 m pc ls (.int n :: rest)) := by
  obtain ⟨hn, hl, lb, hz, hk⟩ := hw
  refine W.anew M.1.1 M.1.2.1 M.1.2.2.2.1 (gh_Mts M _ hcl) (va_AO.use M.2.2.1.2.2.2.1) rfl hdg rfl hn (Nat.le_trans (Nat.mul_le_mul_right 4 hl) hlim) hcells (by omega) fun cA kA comp hfc hkA hkd hco => ?_
  obtain ⟨kA', comp', -, -, -, hnm⟩ := (M.2.1.2 4 (by decide)).2
  have hcA : cA = D.2.1 4 := Option.some.inj (hfc.symm.trans hnm)
  subst hcA
  refine W.widen (k := cells + 1) (n := slots + lim) (Nat.le_refl _) (by omega) ?_
  refine kk H.size _ _ (hk H.size G.1.fresh) (G.new hz ⟨Nat.le_of_ble_eq_true rfl, ?_⟩ (by simp) (fun q hq => by rw [Array.getElem?_push, if_neg (Nat.ne_of_lt hq)]))
  rw [vp_cell_q, Array.getElem?_push, if_pos rfl, arrV_new]
  rfl
theorem gh_cast (M : gh_M D p l s m args meth c own cc nL A) (G : gh_Inv D h0 A s.heap s H locs h) {index : Nat} {nm : String} {r : Option Nat} {cis : List Nat} {K : Prop} (hw : gh_CK h r cis K) (hcl : Cond.classLink own index nm ∈ lw_all) (hcis : ∀ ci ∈ cis, ∃ q : vw_C, gh_cl[ci]? = some q ∧ ((gh_clm[ci]? = some q ∧ q.1 = nm) ∨ Cond.castable q.1 nm ∈ gh_tw)) (hdg : decode cc pc = .ok (.checkcast index, 3))
    (kk : K → W p l e R s m args below meth c H locs cells slots Q (F0 m (pc + 3) ls (va_rf r :: rest))) : W p l e R s m args below meth c H locs cells slots Q (F0 m pc ls (va_rf r :: rest)) := by
  obtain ⟨hr, hk⟩ := hw
  rcases hr with rfl | ⟨b, lb, ci, fs, rfl, hb, hci⟩
  · exact lv_castN M.1.1 M.1.2.1 hdg (kk hk)
  · obtain ⟨q, hq, hq2⟩ := hcis ci hci
    rcases hq2 with ⟨hq2, rfl⟩ | hq2
    · exact va_castS M.1.1 M.1.2.1 M.1.2.2.2.1 (gh_Mts M _ hcl) (M.2.1.1.1 ci _ hq2).2 (gh_rec M G hb hq) hdg (kk hk)
    · exact va_castY M.1.1 M.1.2.1 M.1.2.2.2.1 (gh_Mts M _ hcl) (M.2.2.1.1 _ hq2) (gh_rec M G hb hq) hdg (kk hk)
theorem gh_inst (M : gh_M D p l s m args meth c own cc nL A) (G : gh_Inv D h0 A s.heap s H locs h) {index : Nat} {nm : String} {r : Option Nat} {yes no : List Nat} {K : Int32 → Prop} (hw : gh_IS h r yes no K) (hcl : Cond.classLink own index nm ∈ lw_all) (hy : ∀ ci ∈ yes, ∃ q : vw_C, gh_cl[ci]? = some q ∧ ((gh_clm[ci]? = some q ∧ q.1 = nm) ∨ Cond.castable q.1 nm ∈ gh_tw)) (hno : ∀ ci ∈ no, ∃ q : vw_C, gh_cl[ci]? = some q ∧ (q.1, nm) ∈ gh_nc) (hdg : decode cc pc = .ok (.instanceof index, 3))
    (kk : ∀ x : Int32, K x → W p l e R s m args below meth c H locs cells slots Q (F0 m (pc + 3) ls (.int x :: rest))) : W p l e R s m args below meth c H locs cells slots Q (F0 m pc ls (va_rf r :: rest)) := by
  rcases hw with ⟨rfl, hk⟩ | ⟨b, lb, ci, fs, rfl, hb, hci⟩
  · exact lv_instN M.1.1 M.1.2.1 hdg (kk 0 hk)
  · rcases hci with ⟨hci, hk⟩ | ⟨hci, hk⟩
    · obtain ⟨q, hq, hq2⟩ := hy ci hci
      rcases hq2 with ⟨hq2, rfl⟩ | hq2
      · exact va_instS M.1.1 M.1.2.1 M.1.2.2.2.1 (gh_Mts M _ hcl) (M.2.1.1.1 ci _ hq2).2 (gh_rec M G hb hq) hdg (kk 1 hk)
      · exact va_instY M.1.1 M.1.2.1 M.1.2.2.2.1 (gh_Mts M _ hcl) (M.2.2.1.1 _ hq2) (gh_rec M G hb hq) hdg (kk 1 hk)
    · obtain ⟨q, hq, hq2⟩ := hno ci hci
      exact va_instNo M.1.1 M.1.2.1 M.1.2.2.2.1 (gh_Mts M _ hcl) (M.2.2.1.2.2.1 _ hq2) (gh_rec M G hb hq) hdg (kk 0 hk)
/-- a static that holds a known value -/
theorem gh_gets (M : gh_M D p l s m args meth c own cc nL A) (G : gh_Inv D h0 A s.heap s H locs h) {index : Nat} {ref n d : String} {v : Value} {C : String} (hZ : va_Z C n d v A s s.heap) (hlink : Cond.fieldLink own index ref n d ∈ lw_all) (hs : ref = C) (hdg : decode cc pc = .ok (.getstatic index, 3))
    (kk : W p l e R s m args below meth c H locs cells slots Q (F0 m (pc + 3) ls (v :: rest))) : W p l e R s m args below meth c H locs cells slots Q (F0 m pc ls rest) := by
  subst hs
  exact va_gets M.1.1 M.1.2.1 hZ G.2.2.2.1 M.1.2.2.2.1 (gh_Mts M _ hlink) (fun x h => h) hdg kk
end GHR
section GHL
variable {D : gh_D} {p : Program} {l : Launch} {e : Env} {R : Room} {s : State} {m : MethodId} {args : Array Value} {below : List Frame} {meth : Method} {c : Code} {H : Heap} {locs : List Loc} {cells slots : Nat} {Q : State → Prop}
variable {cc : ByteArray} {pc : Nat} {ls : Array Slot} {rest : List Value}
/-- the locals that are known: place, width, value -/
def gh_L (ls : Array Slot) (nL : Nat) (lv : List (Nat × Nat × Value)) : Prop := lv_has ls nL (lv.map fun q => (q.1, q.2.2)) ∧ ∀ q ∈ lv, q.2.2.category = q.2.1
theorem gh_cat (r : Option Nat) : (va_rf r).category = 1 := by cases r <;> rfl
theorem gh_at {nL : Nat} {lv : List (Nat × Nat × Value)} (h : gh_L ls nL lv) (k : Nat) {i n : Nat} {v : Value} (hk : lv[k]? = some (i, n, v)) : ls[i]? = some (.val v) := h.1.2.2 (i, v) (List.mem_map.mpr ⟨(i, n, v), List.mem_of_getElem? hk, rfl⟩)
theorem gh_sub {nL : Nat} {lv lv' : List (Nat × Nat × Value)} (h : gh_L ls nL lv) (ks : List Nat) (hl : ks.filterMap (fun k => lv[k]?) = lv') : gh_L ls nL lv' := by
  subst hl
  have hm : ∀ q ∈ ks.filterMap (fun k => lv[k]?), q ∈ lv := by
    intro q hq
    obtain ⟨k, -, hk⟩ := List.mem_filterMap.mp hq
    exact List.mem_of_getElem? hk
  refine ⟨⟨h.1.1, h.1.2.1, fun q hq => ?_⟩, fun q hq => h.2 q (hm q hq)⟩
  obtain ⟨x, hx, rfl⟩ := List.mem_map.mp hq
  exact h.1.2.2 _ (List.mem_map.mpr ⟨x, hm x hx, rfl⟩)
theorem gh_st1 {nL i : Nat} {v : Value} {lv lv' : List (Nat × Nat × Value)} {ls' : Array Slot} (h : gh_L ls nL lv) (hc : v.category = 1) (h1 : lv_has ls' nL ((i, v) :: (lv.map fun q => (q.1, q.2.2)).filter (fun q => !(q.1 == i) && !(q.1 + 1 == i && q.2.category == 2)))) (hl : (i, 1, v) :: lv.filter (fun q => !(q.1 == i) && !(q.1 + 1 == i && q.2.1 == 2)) = lv') : gh_L ls' nL lv' := by
  subst hl
  refine ⟨⟨h1.1, h1.2.1, fun q hq => h1.2.2 q ?_⟩, fun q hq => ?_⟩
  · rw [List.map_cons] at hq
    rcases List.mem_cons.mp hq with e | e
    · rw [e]
      exact List.mem_cons_self
    · obtain ⟨x, hx, rfl⟩ := List.mem_map.mp e
      obtain ⟨hx1, hx2⟩ := List.mem_filter.mp hx
      refine List.mem_cons_of_mem _ (List.mem_filter.mpr ⟨List.mem_map.mpr ⟨x, hx1, rfl⟩, ?_⟩)
      have := h.2 x hx1
      dsimp only
      rw [this]
      exact hx2
  · rcases List.mem_cons.mp hq with e | e
    · rw [e]
      exact hc
    · exact h.2 q (List.mem_filter.mp e).1
theorem gh_aload_n (hexec : p.tables.exec = Jvm.exec) (hb : c.code = cc) {k : Fin 4} {i : Nat} {r : Option Nat} (hdg : decode cc pc = .ok (.aload_n k, 1)) (hi : (k : Nat) = i) (hl : ls[i]? = some (.val (va_rf r)))
    (kk : W p l e R s m args below meth c H locs cells slots Q (F0 m (pc + 1) ls (va_rf r :: rest))) : W p l e R s m args below meth c H locs cells slots Q (F0 m pc ls rest) := by
  cases r with
  | none => exact lv_aload_nN hexec hb hdg hi hl kk
  | some x => exact lv_aload_n hexec hb hdg hi hl kk
theorem gh_aload (hexec : p.tables.exec = Jvm.exec) (hb : c.code = cc) {i : Nat} {r : Option Nat} (hdg : decode cc pc = .ok (.aload i, 2)) (hl : ls[i]? = some (.val (va_rf r)))
    (kk : W p l e R s m args below meth c H locs cells slots Q (F0 m (pc + 2) ls (va_rf r :: rest))) : W p l e R s m args below meth c H locs cells slots Q (F0 m pc ls rest) := by
  cases r with
  | none => exact lv_aloadN hexec hb hdg hl kk
  | some x => exact lv_aload hexec hb hdg hl kk
theorem gh_istore_n (hexec : p.tables.exec = Jvm.exec) (hb : c.code = cc) {k : Fin 4} {i nL : Nat} {x : Int32} {lv lv' : List (Nat × Nat × Value)} (hdg : decode cc pc = .ok (.istore_n k, 1)) (hi : (k : Nat) = i) (h : gh_L ls nL lv) (hn : i < nL) (hl : (i, 1, Value.int x) :: lv.filter (fun q => !(q.1 == i) && !(q.1 + 1 == i && q.2.1 == 2)) = lv')
    (kk : ∀ ls' : Array Slot, gh_L ls' nL lv' → W p l e R s m args below meth c H locs cells slots Q (F0 m (pc + 1) ls' rest)) : W p l e R s m args below meth c H locs cells slots Q (F0 m pc ls (.int x :: rest)) :=
  lv_istore_n hexec hb hdg hi h.1 hn rfl fun ls' h' => kk ls' (gh_st1 h rfl h' hl)
theorem gh_istore (hexec : p.tables.exec = Jvm.exec) (hb : c.code = cc) {i nL : Nat} {x : Int32} {lv lv' : List (Nat × Nat × Value)} (hdg : decode cc pc = .ok (.istore i, 2)) (h : gh_L ls nL lv) (hn : i < nL) (hl : (i, 1, Value.int x) :: lv.filter (fun q => !(q.1 == i) && !(q.1 + 1 == i && q.2.1 == 2)) = lv')
    (kk : ∀ ls' : Array Slot, gh_L ls' nL lv' → W p l e R s m args below meth c H locs cells slots Q (F0 m (pc + 2) ls' rest)) : W p l e R s m args below meth c H locs cells slots Q (F0 m pc ls (.int x :: rest)) :=
  lv_istore hexec hb hdg h.1 hn rfl fun ls' h' => kk ls' (gh_st1 h rfl h' hl)
theorem gh_astore_n (hexec : p.tables.exec = Jvm.exec) (hb : c.code = cc) {k : Fin 4} {i nL : Nat} {r : Option Nat} {lv lv' : List (Nat × Nat × Value)} (hdg : decode cc pc = .ok (.astore_n k, 1)) (hi : (k : Nat) = i) (h : gh_L ls nL lv) (hn : i < nL) (hl : (i, 1, va_rf r) :: lv.filter (fun q => !(q.1 == i) && !(q.1 + 1 == i && q.2.1 == 2)) = lv')
    (kk : ∀ ls' : Array Slot, gh_L ls' nL lv' → W p l e R s m args below meth c H locs cells slots Q (F0 m (pc + 1) ls' rest)) : W p l e R s m args below meth c H locs cells slots Q (F0 m pc ls (va_rf r :: rest)) := by
  cases r with
  | none => exact lv_astore_nN hexec hb hdg hi h.1 hn rfl fun ls' h' => kk ls' (gh_st1 h rfl h' hl)
  | some x => exact lv_astore_n hexec hb hdg hi h.1 hn rfl fun ls' h' => kk ls' (gh_st1 h rfl h' hl)
theorem gh_astore (hexec : p.tables.exec = Jvm.exec) (hb : c.code = cc) {i nL : Nat} {r : Option Nat} {lv lv' : List (Nat × Nat × Value)} (hdg : decode cc pc = .ok (.astore i, 2)) (h : gh_L ls nL lv) (hn : i < nL) (hl : (i, 1, va_rf r) :: lv.filter (fun q => !(q.1 == i) && !(q.1 + 1 == i && q.2.1 == 2)) = lv')
    (kk : ∀ ls' : Array Slot, gh_L ls' nL lv' → W p l e R s m args below meth c H locs cells slots Q (F0 m (pc + 2) ls' rest)) : W p l e R s m args below meth c H locs cells slots Q (F0 m pc ls (va_rf r :: rest)) := by
  cases r with
  | none => exact lv_astoreN hexec hb hdg h.1 hn rfl fun ls' h' => kk ls' (gh_st1 h rfl h' hl)
  | some x => exact lv_astore hexec hb hdg h.1 hn rfl fun ls' h' => kk ls' (gh_st1 h rfl h' hl)
theorem gh_fstore (hexec : p.tables.exec = Jvm.exec) (hb : c.code = cc) {i nL : Nat} {x : UInt32} {lv lv' : List (Nat × Nat × Value)} (hdg : decode cc pc = .ok (.fstore i, 2)) (h : gh_L ls nL lv) (hn : i < nL) (hl : (i, 1, Value.float x) :: lv.filter (fun q => !(q.1 == i) && !(q.1 + 1 == i && q.2.1 == 2)) = lv')
    (kk : ∀ ls' : Array Slot, gh_L ls' nL lv' → W p l e R s m args below meth c H locs cells slots Q (F0 m (pc + 2) ls' rest)) : W p l e R s m args below meth c H locs cells slots Q (F0 m pc ls (.float x :: rest)) :=
  lv_fstore hexec hb hdg h.1 hn rfl fun ls' h' => kk ls' (gh_st1 h rfl h' hl)
theorem gh_iinc (hexec : p.tables.exec = Jvm.exec) (hb : c.code = cc) {i nL k : Nat} {n : Int} {x v : Int32} {lv lv' : List (Nat × Nat × Value)} (hdg : decode cc pc = .ok (.iinc i n, 3)) (h : gh_L ls nL lv) (hk : lv[k]? = some (i, 1, .int x)) (hv : x + Int32.ofInt n = v) (hn : i < nL) (hl : (i, 1, Value.int v) :: lv.filter (fun q => !(q.1 == i) && !(q.1 + 1 == i && q.2.1 == 2)) = lv')
    (kk : ∀ ls' : Array Slot, gh_L ls' nL lv' → W p l e R s m args below meth c H locs cells slots Q (F0 m (pc + 3) ls' rest)) : W p l e R s m args below meth c H locs cells slots Q (F0 m pc ls rest) :=
  lv_iinc (k := k) hexec hb hdg h.1 (by rw [List.getElem?_map, hk]; rfl) hv hn rfl fun ls' h' => kk ls' (gh_st1 h rfl h' hl)
theorem gh_ifnull (hexec : p.tables.exec = Jvm.exec) (hb : c.code = cc) {r : Option Nat} {off : Int} {tgt : Nat} (hdg : decode cc pc = .ok (.ifnull off, 3)) (ht : (pc : Int) + off = (tgt : Int))
    (kt : r = none → W p l e R s m args below meth c H locs cells slots Q (F0 m tgt ls rest)) (kf : ¬ r = none → W p l e R s m args below meth c H locs cells slots Q (F0 m (pc + 3) ls rest)) : W p l e R s m args below meth c H locs cells slots Q (F0 m pc ls (va_rf r :: rest)) := by
  cases r with
  | none => exact lv_ifnullN hexec hb hdg ht (kt rfl)
  | some x => exact lv_ifnull hexec hb hdg (kf (fun z => by cases z))
theorem gh_ifnonnull (hexec : p.tables.exec = Jvm.exec) (hb : c.code = cc) {r : Option Nat} {off : Int} {tgt : Nat} (hdg : decode cc pc = .ok (.ifnonnull off, 3)) (ht : (pc : Int) + off = (tgt : Int))
    (kt : ¬ r = none → W p l e R s m args below meth c H locs cells slots Q (F0 m tgt ls rest)) (kf : r = none → W p l e R s m args below meth c H locs cells slots Q (F0 m (pc + 3) ls rest)) : W p l e R s m args below meth c H locs cells slots Q (F0 m pc ls (va_rf r :: rest)) := by
  cases r with
  | none => exact lv_ifnonnullN hexec hb hdg (kf rfl)
  | some x => exact lv_ifnonnull hexec hb hdg ht (kt (fun z => by cases z))
theorem gh_null (hexec : p.tables.exec = Jvm.exec) (hb : c.code = cc) (hdg : decode cc pc = .ok (.aconst_null, 1)) (k : W p l e R s m args below meth c H locs cells slots Q (F0 m (pc + 1) ls (va_rf none :: rest))) : W p l e R s m args below meth c H locs cells slots Q (F0 m pc ls rest) := lv_null hexec hb hdg k
end GHL
section GHE
variable {D : gh_D} {p : Program} {l : Launch} {e : Env} {R : Room} {s : State} {m : MethodId} {args : Array Value} {below : List Frame} {meth : Method} {c : Code} {H : Heap} {locs : List Loc} {cells slots : Nat}
variable {own : String} {cc : ByteArray} {nL : Nat} {h0 h : gh_H} {pc : Nat} {ls : Array Slot} {rest st0 : List Value} {X : String → gh_H → Prop} {mc ms : Nat}
theorem gh_Rep.grow {h : gh_H} {U : State} {H H1 : Heap} (hR : gh_Rep D h U H) (hq : ∀ q : Nat, q < H.size → H1[q]? = H[q]?) : gh_Rep D h U H1 := fun a lb e he => ⟨fun z => ((hR a lb e he).1 z).kept (hq a (hR.lt he)), fun z => ((hR a lb e he).2 z).kept (hq a (hR.lt he))⟩
theorem gh_end (G : gh_Inv D h0 (gh_A h0 s.heap.size) s.heap s H locs h) {t : State} (ht : t.heap = H) (hW : s.WarmedH t.vm) : gh_B D h0 s.heap.size h t := ⟨by rw [ht]; exact G.1.moved hW.alike, G.2.1, fun a e he => (G.2.2.1 a e he).1⟩
theorem gh_iret (M : gh_M D p l s m args meth c own cc nL (gh_A h0 s.heap.size)) (G : gh_Inv D h0 (gh_A h0 s.heap.size) s.heap s H locs h) {ty : FieldType} {v : Int32} {Q : Int32 → gh_H → Prop} (hr : meth.sig.returnType = some ty) (hn : narrow ty (.int v) = .int v) (hq : Q v h) (hc : cells ≤ mc) (hs : slots ≤ ms) (hdg : decode cc pc = .ok (.ireturn, 1)) : W p l e R s m args below meth c H locs cells slots (vx_MQ below (gh_Qi Q D h0 s.heap.size) (gh_X X D h0 s.heap.size) args s mc ms (gh_A h0 s.heap.size)) (F0 m pc ls [.int v]) :=
  W.widen hc hs (vx_ret (W.zret M.1.1 M.1.2.1 hr hn (fun t ht hW => ⟨⟨v, h, rfl, hq, gh_end G ht hW⟩, G.2.2.2.1.F ht⟩) G.2.2.2.1.2.2 hdg M.2.2.2.2.1))
theorem gh_lret (M : gh_M D p l s m args meth c own cc nL (gh_A h0 s.heap.size)) (G : gh_Inv D h0 (gh_A h0 s.heap.size) s.heap s H locs h) {v : Int64} {Q : Int64 → gh_H → Prop} (hr : meth.sig.returnType = some .long) (hq : Q v h) (hc : cells ≤ mc) (hs : slots ≤ ms) (hdg : decode cc pc = .ok (.lreturn, 1)) : W p l e R s m args below meth c H locs cells slots (vx_MQ below (gh_Ql Q D h0 s.heap.size) (gh_X X D h0 s.heap.size) args s mc ms (gh_A h0 s.heap.size)) (F0 m pc ls [.long v]) :=
  W.widen hc hs (vx_ret (W.lret M.1.1 M.1.2.1 hr (fun t ht hW => ⟨⟨v, h, rfl, hq, gh_end G ht hW⟩, G.2.2.2.1.F ht⟩) G.2.2.2.1.2.2 hdg M.2.2.2.2.1))
theorem gh_fret (M : gh_M D p l s m args meth c own cc nL (gh_A h0 s.heap.size)) (G : gh_Inv D h0 (gh_A h0 s.heap.size) s.heap s H locs h) {v : UInt32} {Q : UInt32 → gh_H → Prop} (hr : meth.sig.returnType = some .float) (hq : Q v h) (hc : cells ≤ mc) (hs : slots ≤ ms) (hdg : decode cc pc = .ok (.freturn, 1)) : W p l e R s m args below meth c H locs cells slots (vx_MQ below (gh_Qf Q D h0 s.heap.size) (gh_X X D h0 s.heap.size) args s mc ms (gh_A h0 s.heap.size)) (F0 m pc ls [.float v]) :=
  W.widen hc hs (vx_ret (W.fret M.1.1 M.1.2.1 hr (fun t ht hW => ⟨⟨v, h, rfl, hq, gh_end G ht hW⟩, G.2.2.2.1.F ht⟩) G.2.2.2.1.2.2 hdg M.2.2.2.2.1))
theorem gh_dret (M : gh_M D p l s m args meth c own cc nL (gh_A h0 s.heap.size)) (G : gh_Inv D h0 (gh_A h0 s.heap.size) s.heap s H locs h) {v : UInt64} {Q : UInt64 → gh_H → Prop} (hr : meth.sig.returnType = some .double) (hq : Q v h) (hc : cells ≤ mc) (hs : slots ≤ ms) (hdg : decode cc pc = .ok (.dreturn, 1)) : W p l e R s m args below meth c H locs cells slots (vx_MQ below (gh_Qd Q D h0 s.heap.size) (gh_X X D h0 s.heap.size) args s mc ms (gh_A h0 s.heap.size)) (F0 m pc ls [.double v]) :=
  W.widen hc hs (vx_ret (W.dret M.1.1 M.1.2.1 hr (fun t ht hW => ⟨⟨v, h, rfl, hq, gh_end G ht hW⟩, G.2.2.2.1.F ht⟩) G.2.2.2.1.2.2 hdg M.2.2.2.2.1))
theorem gh_vret (M : gh_M D p l s m args meth c own cc nL (gh_A h0 s.heap.size)) (G : gh_Inv D h0 (gh_A h0 s.heap.size) s.heap s H locs h) {Q : gh_H → Prop} (hr : meth.sig.returnType = none) (hq : Q h) (hc : cells ≤ mc) (hs : slots ≤ ms) (hdg : decode cc pc = .ok (.return_, 1)) : W p l e R s m args below meth c H locs cells slots (vx_MQ below (gh_Qv Q D h0 s.heap.size) (gh_X X D h0 s.heap.size) args s mc ms (gh_A h0 s.heap.size)) (F0 m pc ls []) :=
  W.widen hc hs (vx_ret (W.vret M.1.1 M.1.2.1 hr (fun t ht hW => ⟨⟨h, rfl, hq, gh_end G ht hW⟩, G.2.2.2.1.F ht⟩) G.2.2.2.1.2.2 hdg M.2.2.2.2.1))
theorem gh_aret (M : gh_M D p l s m args meth c own cc nL (gh_A h0 s.heap.size)) (G : gh_Inv D h0 (gh_A h0 s.heap.size) s.heap s H locs h) {rt : FieldType} {v : Option Nat} {Q : Option Nat → gh_H → Prop} (hr : meth.sig.returnType = some rt) (hrt : (∃ n, rt = .object n) ∨ ∃ t, rt = .array t) (hq : Q v h) (hc : cells ≤ mc) (hs : slots ≤ ms) (hdg : decode cc pc = .ok (.areturn, 1)) : W p l e R s m args below meth c H locs cells slots (vx_MQ below (gh_Qq Q D h0 s.heap.size) (gh_X X D h0 s.heap.size) args s mc ms (gh_A h0 s.heap.size)) (F0 m pc ls [va_rf v]) :=
  W.widen hc hs (vx_ret (W.aret M.1.1 M.1.2.1 hr hrt (va_rf_or v) (fun t ht hW => ⟨⟨v, h, rfl, hq, gh_end G ht hW⟩, G.2.2.2.1.F ht⟩) G.2.2.2.1.2.2 hdg M.2.2.2.2.1))
/-- what a callee throws goes on to the caller -/
theorem gh_out (M : gh_M D p l s m args meth c own cc nL (gh_A h0 s.heap.size)) (hex : ∀ x ∈ c.exceptionTable.toList, False) {Qc : Array Value → State → Outcome → State → Prop} (hc : cells ≤ mc) (hs : slots ≤ ms) : ∀ (E : String) (ce : Cell) (q9 : Addr) (h' : gh_H) (H1 : Heap) (locs1 : List Loc), X E h' → gh_Inv D h0 (gh_A h0 s.heap.size) s.heap s H1 locs1 h' → H1[q9]? = some ce → ce.vm = .none → s.vm.findClass E = some ce.cls → vx_W p l e R s m args below meth c H1 locs1 cells slots (vx_MQ below Qc (gh_X X D h0 s.heap.size) args s mc ms (gh_A h0 s.heap.size)) (F0 m pc ls rest) q9 := by
  intro E ce q9 h' H1 locs1 hX G hce hcv hcl
  exact vx_out (fun x hx => (hex x hx).elim) M.2.2.2.2.1 hce hcv hcl (fun t ht hvm => ⟨h', trivial, ⟨hX, ⟨by rw [ht]; exact G.1.moved hvm, G.2.1, fun a e he => (G.2.2.1 a e he).1⟩⟩, G.2.2.2.1.F ht⟩) G.2.2.2.1.2.2 hc hs
/-- throw new X() -/
theorem gh_throw (M : gh_M D p l s m args meth c own cc nL (gh_A h0 s.heap.size)) (G : gh_Inv D h0 (gh_A h0 s.heap.size) s.heap s H locs h) (hex : ∀ x ∈ c.exceptionTable.toList, False) {cls : String} {names : List String} {ik ic : Nat} {Qc : Array Value → State → Outcome → State → Prop} (hw : X cls h)
    (hcls : Bundle.fit cls = true) (hnames : ∀ n ∈ names, Bundle.fit n = true) (hk : Cond.classLink own ik cls ∈ lw_all) (hini : Cond.initialized cls ∈ lw_all) (hat : ∀ w ∈ vx_at0 own ic cls names, w.before args s = true) (hgood : ∀ w ∈ Cond.classLink own ik cls :: Cond.initialized cls :: vx_at0 own ic cls names, vx_ot w = true)
    (hsize : ls.size = nL) (d0 : decode cc pc = .ok (.new ik, 3)) (d3 : decode cc (pc + 3) = .ok (.dup, 1)) (d4 : decode cc (pc + 4) = .ok (.invokespecial ic, 3)) (d7 : decode cc (pc + 7) = .ok (.athrow, 1))
    (hRframes : names.length + 3 < R.frames) (hRlocals : (rest.map fun v => v.category).sum + (13 * (names.length + 1) + 42) ≤ R.locals) (hRcells : cells + 1 ≤ R.cells) (hRslots : slots + 6 ≤ R.slots) (hc : cells + 1 ≤ mc) (hs : slots + 6 ≤ ms) :
    W p l e R s m args below meth c H locs cells slots (vx_MQ below Qc (gh_X X D h0 s.heap.size) args s mc ms (gh_A h0 s.heap.size)) (F0 m pc ls rest) := by
  have hE := M.2.2.2.1
  refine vx_throw0 (A := gh_A h0 s.heap.size) M.1.1 M.1.2.1 M.2.2.2.2.2 M.1.2.2.2.1 hcls hnames (gh_Mts M _ hk) (gh_Mts M _ hini) hat hgood hE.2.2.2.2.2.2.1 hE.2.2.2.2.2.2.2.1 G.2.2.2.1 (hsize.trans M.1.2.2.1.symm) d0 d3 d4 d7 (fun x hx => (hex x hx).elim) hRframes hRlocals hRcells hRslots M.2.2.2.2.1 (fun t hvm hz hq => ?_) G.2.2.2.1.2.2 hc hs
  exact ⟨h, trivial, ⟨hw, ⟨(G.1.moved hvm).grow hq, G.2.1, fun a e he => (G.2.2.1 a e he).1⟩⟩, Nat.le_trans G.2.2.2.1.1 hz, fun q h1 h2 => (hq q (Nat.lt_of_lt_of_le h1 G.2.2.2.1.1)).trans (G.2.2.2.1.2.1 q h1 h2)⟩
end GHE
/-- a body's start -/
theorem gh_start {D : gh_D} {h : gh_H} {sz : Nat} {av : List Value} {args : Array Value} {s : State} (hP : gh_Pc D h sz av args s) : args = av.toArray ∧ sz = s.heap.size ∧ gh_K D s ∧ gh_Tb s ∧ gh_Env D (gh_A h s.heap.size) s s.heap ∧ gh_Inv D h (gh_A h s.heap.size) s.heap s s.heap [] h := by
  obtain ⟨q0, q1, q2, q3, q4, q5⟩ := hP
  subst q1
  exact ⟨q0, rfl, q2, q3, q4, gh_Inv.start q5⟩
section GHI
variable {D : gh_D} {p : Program} {l : Launch} {e : Env} {R : Room} {s : State} {m : MethodId} {args : Array Value} {below : List Frame} {meth : Method} {c : Code} {H : Heap} {locs : List Loc} {cells slots : Nat} {Q : State → Prop}
variable {own : String} {cc : ByteArray} {nL : Nat} {A : Nat → Prop} {h0 h : gh_H} {pc : Nat} {ls : Array Slot} {rest st0 : List Value}
/-- a call through an interface I of a method that J declares, on a receiver of class C -/
theorem gh_runIU (M : gh_M D p l s m args meth c own cc nL A) {x y : MethodName} {bytes : ByteArray} {maxL mc ms n index count : Nat} {ret : Option FieldType} {ws ws' : List Cond} {rm : Room} {Pc : Array Value → State → Prop} {Qc : Array Value → State → Outcome → State → Prop} {XC : String → State → State → Prop} {free : Addr → Prop} {C J : String} {b : Addr} {As : List Value}
    (hM : vx_Met l y ws rm Pc Qc XC mc ms free) (hG : GoodIn lw_all ws) (hw : ws = Cond.code y bytes maxL ret :: ws') (hrc : rm.cells = mc) (hrs : rm.slots = ms) (hR : rm.frames + 1 ≤ R.frames ∧ 8 + (maxL + 11) + rm.locals ≤ R.locals)
    (hlink : Cond.methodLink own index x ∈ gh_ml) (hif : (x.cls, J, x.name, x.desc) ∈ gh_if) (hdecl : Cond.declares ⟨J, x.name, x.desc⟩ ∈ gh_tw) (hpubO : Cond.publicMethod ⟨J, x.name, x.desc⟩ ∈ gh_tw)
    (hsel : Cond.selects C ⟨J, x.name, x.desc⟩ y ∈ lw_all) (hJ : J ≠ "java/lang/invoke/MethodHandle" ∧ J ≠ "java/lang/invoke/VarHandle") (hinst : Cond.instanceMethod y ∈ lw_all) (hini : Cond.initialized y.cls ∈ lw_all) (hpub : Cond.publicMethod y ∈ gh_tw) (hunh : Cond.unhidden C x.name x.desc ∈ gh_tw) (hcast : Cond.castable C x.cls ∈ gh_tw)
    (hd : (parseMethodDescriptor x.desc).map (fun d => d.parameters.length) = some n) (hp : PreV s H C b Pc As) (hn : As.length = n) (hsize : ls.size = nL) (hstack : st0 = As.reverse ++ .ref b :: rest) (hW : (rest.map fun v => v.category).sum ≤ 8) (hdg : decode cc pc = .ok (.invokeinterface index count, 5)) (hf : cells + mc ≤ R.cells ∧ slots + ms ≤ R.slots) :
    vx_Run5 p l e R s m args below meth c H locs cells slots mc ms (F0 m pc ls st0) rest (Qc (Value.ref b :: As).toArray) XC free := by
  have hts := gh_Mts M
  have tb := M.2.2.1
  have hcw : Cond.code y bytes maxL ret ∈ ws := by rw [hw]; exact List.mem_cons_self
  have hK : vx_Back l R p e below s args y 5 8 (PreOf R mc ms Pc) (PostOf Qc mc ms free) (vx_Post XC mc ms free) := vx_back (bytes := bytes) (maxL := maxL) (ret := ret) hM hp.1 hrc hrs hR.1 hR.2 (pay_in hts hG) hcw (fun a' U hW => word_at hW (Or.inl (by first | rfl | simp [Cond.onTables, Cond.keeps, Cond.steady])) (hts _ hini))
  obtain ⟨-, ⟨cellB, hcB, hoB, hclB⟩, hPc⟩ := hp
  have hdecl' := va_Nw.use (A := args) rfl (tb.1 _ hdecl)
  have hface' : (Cond.interfaceMethod x.cls J x.name x.desc).before args s = true := va_any rfl (tb.2.2.2.2.1 _ hif)
  obtain ⟨r0, r, hn0, hrm, hstR, hsigR⟩ := Cond.declares_spec hdecl'
  obtain ⟨cL, kL, r1, hcL, hkL, hiL, hfoundL, hn1⟩ := Cond.interfaceMethod_spec hface'
  cases hn0.symm.trans hn1
  obtain ⟨hnameR, hdescR⟩ := name_of_methodNamed hn0 hrm
  obtain ⟨mk, methM, hnamed, hmethM, -, habM⟩ := Cond.instanceMethod_spec (hts _ hinst)
  obtain ⟨c2, r2, m2, q1, q2, q3, q4, -⟩ := Cond.selects_spec (hts _ hsel)
  cases hclB.symm.trans q1
  cases (State.methodFound?_of_named hn0 hJ).symm.trans q2
  cases hnamed.symm.trans q3
  obtain ⟨kB, hkB, -⟩ := Vm.findClass_spec hclB
  have hpubM : hasFlag methM.accessFlags Acc.public_ = true := Cond.publicMethod_spec hnamed hmethM (va_Nw.use (A := args) rfl (tb.1 _ hpub))
  have hway : ((cellB.cls :: s.vm.superclasses cellB.cls).any fun k => (declaredIn s.vm r.name r.desc k).any fun (_, z) => z.isPrivate || z.isStatic) = false := by
    rw [hnameR, hdescR]; exact Cond.unhidden_spec hclB (va_Nw.use (A := args) rfl (tb.1 _ hunh))
  obtain ⟨c3, t3, w1, w2, w3⟩ := Cond.castable_spec (va_Nw.use (A := args) rfl (tb.1 _ hcast))
  cases hclB.symm.trans w1
  cases hcL.symm.trans w2
  have hlen : As.length = r.sig.parameters.length := by
    have h3 := hsigR
    rw [h3] at hd
    exact hn.trans (Option.some.inj hd).symm
  intro T hT X
  have hselP : selectMethod e.platform s.vm cellB.cls r0 = .method mk := by rw [Launch.admits_selectMethod X.admits]; exact q4
  have hifo := gh_if_ok _ hif
  obtain ⟨vm₁, X₁, hstep₁⟩ := X.invokeinterfaceUp M.1.1 (J := J) M.1.2.2.2.1 (va_any (gh_ml_ok2 _ hlink) (tb.2.2.2.2.2.1 _ hlink)) hface' hdecl' (va_Nw.use (A := args) rfl (tb.1 _ hpubO)) hifo.2 hifo.1 hcL (a := b) (cell := cellB) (kcell := kB) (by rw [hT]; exact hcB)
    (fun z h => by rw [h] at hoB; cases hoB) hkB w3 hn0 hrm hselP hmethM hway hpubM habM (g := F0 m pc ls st0) rfl (argsL := As) (rest := rest) hlen hstack (by rw [M.1.2.1]; exact hdg)
  have hWr : 2 * (F0 m pc ls rest).monitorRoom + (rest.map fun v => v.category).sum ≤ 8 := lv_room hW
  rcases hK m meth c ⟨T.setVm vm₁, locs, cells, slots⟩ { (F0 m pc ls st0) with stack := rest } (.invokeinterface index count) mk (Value.ref b :: As).toArray X₁ rfl (hsize.trans M.1.2.2.1.symm) (by rw [M.1.2.1]; exact hdg) hWr (X₁.named hnamed) ⟨hf.1, hf.2, hPc (T.setVm vm₁) hT X₁.warmed⟩ with ⟨v, ⟨U', l2, c2, s2⟩, X', ⟨g', mk, t, L, e1, e2, hq, h1, hL, h2, h3⟩, st⟩ | ⟨q, ⟨U', l2, c2, s2⟩, X', ⟨g', mk, t, L, E, ce, e1, e2, hq, hce, hcv, hcl, h1, hL, h2, h3⟩, st⟩
  · dsimp only [Pt.U, Pt.locs, Pt.cells, Pt.slots] at X' e1 e2 h1 h2 h3 st
    subst h1; subst h2; subst h3
    exact Or.inl ⟨v, (T.setVm vm₁).calling g' mk (Value.ref b :: As).toArray, t, U', L, hT, X', hL, e1, e2, hq, fun target hh => hstep₁ _ fun acts => by rw [doInvoke_state]; exact st.trans hh⟩
  · dsimp only [Pt.U, Pt.locs, Pt.cells, Pt.slots] at X' e1 e2 h1 h2 h3 st hcl
    subst h1; subst h2; subst h3
    exact Or.inr ⟨q, (T.setVm vm₁).calling g' mk (Value.ref b :: As).toArray, t, U', L, E, ce, hT, X', hL, e1, e2, hq, hce, hcv, vx_cls X₁.warmed hcl, hstep₁ _ fun acts => by rw [doInvoke_state]; exact st⟩
end GHI
/-! a method's first locals -/
def gh_args : Nat → List (Nat × Value) → List (Nat × Nat × Value)
  | _, [] => []
  | i, (w, v) :: r => (i, w, v) :: gh_args (i + w) r
def gh_Wd (wv : List (Nat × Value)) : Prop := ∀ q ∈ wv, q.2.category = q.1 ∧ (q.1 = 1 ∨ q.1 = 2)
theorem gh_wn : gh_Wd [] := fun q h => by cases h
theorem gh_w1 {v : Value} {r : List (Nat × Value)} (h : v.category = 1) (hr : gh_Wd r) : gh_Wd ((1, v) :: r) := fun q hq => (List.mem_cons.mp hq).elim (fun e => by rw [e]; exact ⟨h, Or.inl rfl⟩) (hr q)
theorem gh_w2 {v : Value} {r : List (Nat × Value)} (h : v.category = 2) (hr : gh_Wd r) : gh_Wd ((2, v) :: r) := fun q hq => (List.mem_cons.mp hq).elim (fun e => by rw [e]; exact ⟨h, Or.inr rfl⟩) (hr q)
theorem gh_args_lv : ∀ (wv : List (Nat × Value)) (i : Nat), gh_Wd wv → (gh_args i wv).map (fun q => (q.1, q.2.2)) = lv_args i (wv.map (·.2))
  | [], i, _ => rfl
  | (w, v) :: r, i, h => by
    obtain ⟨h1, h2⟩ := h (w, v) List.mem_cons_self
    have ih := gh_args_lv r (i + w) (fun q hq => h q (List.mem_cons_of_mem _ hq))
    have h1' : v.category = w := h1
    show (i, v) :: (gh_args (i + w) r).map _ = (i, v) :: lv_args (if v.category = 2 then i + 2 else i + 1) (r.map (·.2))
    rw [ih, h1']
    rcases h2 with h2 | h2
    · have : w = 1 := h2
      subst this
      rfl
    · have : w = 2 := h2
      subst this
      rfl
theorem gh_args_cat : ∀ (wv : List (Nat × Value)) (i : Nat), gh_Wd wv → ∀ q ∈ gh_args i wv, q.2.2.category = q.2.1
  | [], i, _, q, hq => by cases hq
  | (w, v) :: r, i, h, q, hq => by
    rcases List.mem_cons.mp hq with e | e
    · rw [e]
      exact (h (w, v) List.mem_cons_self).1
    · exact gh_args_cat r (i + w) (fun x hx => h x (List.mem_cons_of_mem _ hx)) q e
theorem gh_sl_len : ∀ (wv : List (Nat × Value)), gh_Wd wv → (lg_sl (wv.map (·.2))).length = (wv.map (·.1)).sum
  | [], _ => rfl
  | (w, v) :: r, h => by
    obtain ⟨h1, h2⟩ := h (w, v) List.mem_cons_self
    have ih := gh_sl_len r (fun q hq => h q (List.mem_cons_of_mem _ hq))
    have h1' : v.category = w := h1
    have e : lg_sl (((w, v) :: r).map (·.2)) = (if v.category = 2 then [Slot.val v, .second] else [Slot.val v]) ++ lg_sl (r.map (·.2)) := by
      simp [lg_sl]
    rw [e, List.length_append, ih, h1']
    rcases h2 with h2 | h2
    · have : w = 1 := h2
      subst this
      simp
    · have : w = 2 := h2
      subst this
      simp
theorem gh_entry (wv : List (Nat × Value)) {n : Nat} (h : gh_Wd wv) (hn : (wv.map (·.1)).sum ≤ n) : gh_L ((lg_sl (wv.map (·.2)) ++ List.replicate (n - (lg_sl (wv.map (·.2))).length) Slot.unset).toArray) n (gh_args 0 wv) :=
  ⟨by rw [gh_args_lv wv 0 h]; exact lv_entry _ (by rw [gh_sl_len wv h]; exact hn), gh_args_cat wv 0 h⟩
section GHJ
variable {D : gh_D} {p : Program} {l : Launch} {e : Env} {R : Room} {s : State} {m : MethodId} {args : Array Value} {below : List Frame} {meth : Method} {c : Code} {H : Heap} {locs : List Loc} {cells slots : Nat} {Q : State → Prop}
variable {own : String} {cc : ByteArray} {nL : Nat} {A : Nat → Prop} {h0 h : gh_H} {pc : Nat} {ls : Array Slot} {rest st0 : List Value}
/-- the body's frame, its locals as a list -/
theorem gh_enter {vs : List (Nat × Value)} {n : Nat} (hv : gh_Wd vs) (hn : (vs.map (·.1)).sum ≤ n) (k : ∀ ls : Array Slot, gh_L ls n (gh_args 0 vs) → W p l e R s m args below meth c H locs cells slots Q (F0 m 0 ls [])) : W p l e R s m args below meth c H locs cells slots Q (entryFrame m (vs.map (·.2)).toArray n) := by
  rw [lg_entry_eq]
  exact k _ (gh_entry vs hv hn)
theorem gh_narR (C : String) (r : Option Nat) : narrow (.object C) (va_rf r) = va_rf r := by cases r <;> rfl
theorem gh_fitR (C : String) (r : Option Nat) : fits (.object C) (va_rf r) = true := by cases r <;> rfl
theorem gh_narA (t : FieldType) (r : Option Nat) : narrow (.array t) (va_rf r) = va_rf r := by cases r <;> rfl
theorem gh_fitA (t : FieldType) (r : Option Nat) : fits (.array t) (va_rf r) = true := by cases r <;> rfl
theorem gh_newI (M : gh_M D p l s m args meth c own cc nL A) (G : gh_Inv D h0 A s.heap s H locs h) {lim : Nat} {n : Int32} {K : Nat → gh_H → Prop} (hw : gh_NA h 0 n lim (.inl (fun _ => 0)) K) (harr : Cond.arrayClass .int ∈ lw_all) (hlim : lim * 8 ≤ 536870912) (hcells : cells + 1 ≤ R.cells) (hslots : slots + lim ≤ R.slots) (hdg : decode cc pc = .ok (.newarray .int, 2))
    (kk : ∀ (q : Nat) (h1 : gh_H) (H1 : Heap), K q h1 → gh_Inv D h0 A s.heap s H1 locs h1 → W p l e R s m args below meth c H1 locs (cells + 1) (slots + lim) Q (F0 m (pc + 2) ls (va_rf (some q) :: rest))) : W p l e R s m args below meth c H locs cells slots Q (F0 m pc ls (.int n :: rest)) :=
  gh_newa (atype := .int) M G hw harr (by decide) rfl (fun U cA h => h) (fun cA N => rfl) hlim (by decide) hcells hslots hdg kk
theorem gh_newJ (M : gh_M D p l s m args meth c own cc nL A) (G : gh_Inv D h0 A s.heap s H locs h) {lim : Nat} {n : Int32} {K : Nat → gh_H → Prop} (hw : gh_NA h 1 n lim (.inr (.inl (fun _ => 0))) K) (harr : Cond.arrayClass .long ∈ lw_all) (hlim : lim * 8 ≤ 536870912) (hcells : cells + 1 ≤ R.cells) (hslots : slots + lim ≤ R.slots) (hdg : decode cc pc = .ok (.newarray .long, 2))
    (kk : ∀ (q : Nat) (h1 : gh_H) (H1 : Heap), K q h1 → gh_Inv D h0 A s.heap s H1 locs h1 → W p l e R s m args below meth c H1 locs (cells + 1) (slots + lim) Q (F0 m (pc + 2) ls (va_rf (some q) :: rest))) : W p l e R s m args below meth c H locs cells slots Q (F0 m pc ls (.int n :: rest)) :=
  gh_newa (atype := .long) M G hw harr (by decide) rfl (fun U cA h => h) (fun cA N => rfl) hlim (by decide) hcells hslots hdg kk
theorem gh_newD (M : gh_M D p l s m args meth c own cc nL A) (G : gh_Inv D h0 A s.heap s H locs h) {lim : Nat} {n : Int32} {K : Nat → gh_H → Prop} (hw : gh_NA h 2 n lim (.inr (.inr (.inr (.inl (fun _ => 0))))) K) (harr : Cond.arrayClass .double ∈ lw_all) (hlim : lim * 8 ≤ 536870912) (hcells : cells + 1 ≤ R.cells) (hslots : slots + lim ≤ R.slots) (hdg : decode cc pc = .ok (.newarray .double, 2))
    (kk : ∀ (q : Nat) (h1 : gh_H) (H1 : Heap), K q h1 → gh_Inv D h0 A s.heap s H1 locs h1 → W p l e R s m args below meth c H1 locs (cells + 1) (slots + lim) Q (F0 m (pc + 2) ls (va_rf (some q) :: rest))) : W p l e R s m args below meth c H locs cells slots Q (F0 m pc ls (.int n :: rest)) :=
  gh_newa (atype := .double) M G hw harr (by decide) rfl (fun U cA h => h) (fun cA N => rfl) hlim (by decide) hcells hslots hdg kk
theorem gh_newZ (M : gh_M D p l s m args meth c own cc nL A) (G : gh_Inv D h0 A s.heap s H locs h) {lim : Nat} {n : Int32} {K : Nat → gh_H → Prop} (hw : gh_NA h 3 n lim (.inl (fun _ => 0)) K) (harr : Cond.arrayClass .boolean ∈ lw_all) (hlim : lim * 8 ≤ 536870912) (hcells : cells + 1 ≤ R.cells) (hslots : slots + lim ≤ R.slots) (hdg : decode cc pc = .ok (.newarray .boolean, 2))
    (kk : ∀ (q : Nat) (h1 : gh_H) (H1 : Heap), K q h1 → gh_Inv D h0 A s.heap s H1 locs h1 → W p l e R s m args below meth c H1 locs (cells + 1) (slots + lim) Q (F0 m (pc + 2) ls (va_rf (some q) :: rest))) : W p l e R s m args below meth c H locs cells slots Q (F0 m pc ls (.int n :: rest)) :=
  gh_newa (atype := .boolean) M G hw harr (by decide) rfl (fun U cA h => h) (fun cA N => rfl) hlim (by decide) hcells hslots hdg kk
/-- a super call of a method that the superclass's superclass declares -/
theorem gh_runSP (M : gh_M D p l s m args meth c own cc nL A) {x y : MethodName} {bytes : ByteArray} {maxL mc ms n index : Nat} {ret : Option FieldType} {ws ws' : List Cond} {rm : Room} {Pc : Array Value → State → Prop} {Qc : Array Value → State → Outcome → State → Prop} {XC : String → State → State → Prop} {free : Addr → Prop} {C : String} {b : Addr} {As : List Value}
    (hM : vx_Met l y ws rm Pc Qc XC mc ms free) (hG : GoodIn lw_all ws) (hw : ws = Cond.code y bytes maxL ret :: ws') (hrc : rm.cells = mc) (hrs : rm.slots = ms) (hR : rm.frames + 1 ≤ R.frames ∧ 8 + (maxL + 11) + rm.locals ≤ R.locals)
    (hlink : Cond.methodLink own index x ∈ lw_all) (hsame : Cond.sameMethod x.cls y.cls x.name x.desc ∈ lw_all) (hsup : Cond.superclass own x.cls ∈ lw_all) (hsup2 : Cond.superclass x.cls y.cls ∈ lw_all) (hxy : (⟨y.cls, x.name, x.desc⟩ : MethodName) = y) (hinst : Cond.instanceMethod y ∈ lw_all) (hini : Cond.initialized y.cls ∈ lw_all) (hno : x.name ≠ "<init>")
    (hd : (parseMethodDescriptor y.desc).map (fun d => d.parameters.length) = some n) (hp : PreV s H C b Pc As) (hn : As.length = n) (hsize : ls.size = nL) (hstack : st0 = As.reverse ++ .ref b :: rest) (hW : (rest.map fun v => v.category).sum ≤ 8) (hdg : decode cc pc = .ok (.invokespecial index, 3)) (hf : cells + mc ≤ R.cells ∧ slots + ms ≤ R.slots) :
    vx_Run p l e R s m args below meth c H locs cells slots mc ms (F0 m pc ls st0) rest (Qc (Value.ref b :: As).toArray) XC free := by
  have hts := gh_Mts M
  have hcw : Cond.code y bytes maxL ret ∈ ws := by rw [hw]; exact List.mem_cons_self
  have hK : vx_Back l R p e below s args y 3 8 (PreOf R mc ms Pc) (PostOf Qc mc ms free) (vx_Post XC mc ms free) := vx_back (bytes := bytes) (maxL := maxL) (ret := ret) hM hp.1 hrc hrs hR.1 hR.2 (pay_in hts hG) hcw (fun a' U hW => word_at hW (Or.inl (by first | rfl | simp [Cond.onTables, Cond.keeps, Cond.steady])) (hts _ hini))
  obtain ⟨-, ⟨cellB, hcB, hoB, hclB⟩, hPc⟩ := hp
  obtain ⟨mk, methM, hnamed, hmethM, hstM, habM⟩ := Cond.instanceMethod_spec (hts _ hinst)
  obtain ⟨methM', cM, hmethM', -, -, -, -, -, -, hsigM⟩ := Cond.code_spec hnamed (hts _ (hG _ hcw).1)
  cases hmethM.symm.trans hmethM'
  obtain ⟨ps, dk, kp, hps, hdk, hkp, hsuper, -, -, hnid⟩ := Cond.superclass_spec M.1.2.2.2.1 (hts _ hsup)
  obtain ⟨pt, dk2, kp2, hpt, hdk2, hkp2, hsuper2, -, -, -⟩ := Cond.superclass_spec hps (hts _ hsup2)
  have hpm : pt = mk.cls := Option.some.inj (hpt.symm.trans (findClass_of_methodNamed hnamed))
  have hsub : s.vm.isSubclass ps mk.cls = true := by
    rw [← hpm]
    have hz : 0 < s.vm.classes.size := Nat.lt_of_le_of_lt (Nat.zero_le _) (Array.getElem?_eq_some_iff.mp hdk2).1
    obtain ⟨j, hj⟩ : ∃ j, s.vm.classes.size = j + 1 := ⟨s.vm.classes.size - 1, by omega⟩
    unfold Vm.isSubclass
    rw [hj]
    simp [Vm.isSubclassAux, hdk2, hsuper2]
  have hn0 : s.methodNamed? ⟨y.cls, x.name, x.desc⟩ = some mk := by rw [hxy]; exact hnamed
  obtain ⟨kB, hkB, -⟩ := Vm.findClass_spec hclB
  have hlen : As.length = methM.sig.parameters.length := by
    rw [hsigM] at hd
    exact hn.trans (Option.some.inj hd).symm
  intro T hT X
  obtain ⟨vm₁, X₁, hstep₁⟩ := X.invokespecialUp M.1.1 M.1.2.2.2.1 (hts _ hlink) (hts _ hsame) hn0 hmethM hstM habM hno hdk hnid hps hsuper hsub (a := b) (cell := cellB) (by rw [hT]; exact hcB)
    (fun z h => by rw [h] at hoB; cases hoB) hkB (g := F0 m pc ls st0) rfl (argsL := As) (rest := rest) hlen hstack (by rw [M.1.2.1]; exact hdg)
  have hWr : 2 * (F0 m pc ls rest).monitorRoom + (rest.map fun v => v.category).sum ≤ 8 := lv_room hW
  rcases hK m meth c ⟨T.setVm vm₁, locs, cells, slots⟩ { (F0 m pc ls st0) with stack := rest } (.invokespecial index) mk (Value.ref b :: As).toArray X₁ rfl (hsize.trans M.1.2.2.1.symm) (by rw [M.1.2.1]; exact hdg) hWr (X₁.named hnamed) ⟨hf.1, hf.2, hPc (T.setVm vm₁) hT X₁.warmed⟩ with ⟨v, ⟨U', l2, c2, s2⟩, X', ⟨g', mk, t, L, e1, e2, hq, h1, hL, h2, h3⟩, st⟩ | ⟨q, ⟨U', l2, c2, s2⟩, X', ⟨g', mk, t, L, E, ce, e1, e2, hq, hce, hcv, hcl, h1, hL, h2, h3⟩, st⟩
  · dsimp only [Pt.U, Pt.locs, Pt.cells, Pt.slots] at X' e1 e2 h1 h2 h3 st
    subst h1; subst h2; subst h3
    exact Or.inl ⟨v, (T.setVm vm₁).calling g' mk (Value.ref b :: As).toArray, t, U', L, hT, X', hL, e1, e2, hq, fun target hh => hstep₁ _ (by rw [doInvoke_state]; exact st.trans hh)⟩
  · dsimp only [Pt.U, Pt.locs, Pt.cells, Pt.slots] at X' e1 e2 h1 h2 h3 st hcl
    subst h1; subst h2; subst h3
    exact Or.inr ⟨q, (T.setVm vm₁).calling g' mk (Value.ref b :: As).toArray, t, U', L, E, ce, hT, X', hL, e1, e2, hq, hce, hcv, vx_cls X₁.warmed hcl, hstep₁ _ (by rw [doInvoke_state]; exact st)⟩
theorem gh_st2 {nL i : Nat} {v : Value} {lv lv' : List (Nat × Nat × Value)} {ls' : Array Slot} (h : gh_L ls nL lv) (hc : v.category = 2) (h1 : lv_has ls' nL ((i, v) :: (lv.map fun q => (q.1, q.2.2)).filter (fun q => !(q.1 == i) && (!(q.1 == i + 1) && !(q.1 + 1 == i && q.2.category == 2))))) (hl : (i, 2, v) :: lv.filter (fun q => !(q.1 == i) && (!(q.1 == i + 1) && !(q.1 + 1 == i && q.2.1 == 2))) = lv') : gh_L ls' nL lv' := by
  subst hl
  refine ⟨⟨h1.1, h1.2.1, fun q hq => h1.2.2 q ?_⟩, fun q hq => ?_⟩
  · rw [List.map_cons] at hq
    rcases List.mem_cons.mp hq with e | e
    · rw [e]
      exact List.mem_cons_self
    · obtain ⟨x, hx, rfl⟩ := List.mem_map.mp e
      obtain ⟨hx1, hx2⟩ := List.mem_filter.mp hx
      refine List.mem_cons_of_mem _ (List.mem_filter.mpr ⟨List.mem_map.mpr ⟨x, hx1, rfl⟩, ?_⟩)
      have := h.2 x hx1
      dsimp only
      rw [this]
      exact hx2
  · rcases List.mem_cons.mp hq with e | e
    · rw [e]
      exact hc
    · exact h.2 q (List.mem_filter.mp e).1
theorem gh_dstore (hexec : p.tables.exec = Jvm.exec) (hb : c.code = cc) {i nL : Nat} {x : UInt64} {lv lv' : List (Nat × Nat × Value)} (hdg : decode cc pc = .ok (.dstore i, 2)) (h : gh_L ls nL lv) (hn : i + 1 < nL) (hl : (i, 2, Value.double x) :: lv.filter (fun q => !(q.1 == i) && (!(q.1 == i + 1) && !(q.1 + 1 == i && q.2.1 == 2))) = lv')
    (kk : ∀ ls' : Array Slot, gh_L ls' nL lv' → W p l e R s m args below meth c H locs cells slots Q (F0 m (pc + 2) ls' rest)) : W p l e R s m args below meth c H locs cells slots Q (F0 m pc ls (.double x :: rest)) :=
  lv_dstore hexec hb hdg h.1 hn rfl fun ls' h' => kk ls' (gh_st2 h rfl h' hl)
end GHJ
