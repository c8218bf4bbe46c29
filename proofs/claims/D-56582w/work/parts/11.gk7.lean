/-! helpers of the walks by program -/
theorem gh_gU {own : String} {idx : Nat} {C owner : String} {x y : MethodName} {b : ByteArray} {L : Nat} {r : Option FieldType} (h1 : Cond.methodLink own idx x ∈ lw_all) (h2 : Cond.sameMethod x.cls owner x.name x.desc ∈ lw_all) (h3 : Cond.selects C x y ∈ lw_all) (h4 : Cond.instanceMethod y ∈ lw_all) (h5 : Cond.initialized y.cls ∈ lw_all) (h6 : Cond.code y b L r ∈ lw_all) : GoodIn lw_all (va_wsU own idx C owner x y (ws_ y b L r)) := by
  refine lw_app ?_ (lw_meth h6)
  intro w hw
  simp only [List.mem_cons, List.not_mem_nil, or_false] at hw
  rcases hw with e | e | e | e | e
  · rw [e]; exact h1
  · rw [e]; exact h2
  · rw [e]; exact h3
  · rw [e]; exact h4
  · rw [e]; exact h5
theorem gh_gO {own : String} {idx : Nat} {C owner : String} {x y : MethodName} {b : ByteArray} {L : Nat} {r : Option FieldType} (h1 : Cond.methodLink own idx x ∈ lw_all) (h2 : Cond.sameMethod x.cls owner x.name x.desc ∈ lw_all) (h0 : Cond.instanceMethod ⟨owner, x.name, x.desc⟩ ∈ lw_all) (h3 : Cond.selects C x y ∈ lw_all) (h4 : Cond.instanceMethod y ∈ lw_all) (h5 : Cond.initialized y.cls ∈ lw_all) (h6 : Cond.code y b L r ∈ lw_all) : GoodIn lw_all (va_wsO own idx C owner x y (ws_ y b L r)) := by
  refine lw_app ?_ (lw_meth h6)
  intro w hw
  simp only [List.mem_cons, List.not_mem_nil, or_false] at hw
  rcases hw with e | e | e | e | e | e
  · rw [e]; exact h1
  · rw [e]; exact h2
  · rw [e]; exact h0
  · rw [e]; exact h3
  · rw [e]; exact h4
  · rw [e]; exact h5
theorem gh_gF {own : String} {idx : Nat} {C : String} {x y : MethodName} {b : ByteArray} {L : Nat} {r : Option FieldType} (h1 : Cond.methodLink own idx x ∈ lw_all) (h3 : Cond.selects C x y ∈ lw_all) (h4 : Cond.instanceMethod y ∈ lw_all) (h5 : Cond.initialized y.cls ∈ lw_all) (h6 : Cond.code y b L r ∈ lw_all) : GoodIn lw_all (va_wsF own idx C x y (ws_ y b L r)) := by
  refine lw_app ?_ (lw_meth h6)
  intro w hw
  simp only [List.mem_cons, List.not_mem_nil, or_false] at hw
  rcases hw with e | e | e | e
  · rw [e]; exact h1
  · rw [e]; exact h3
  · rw [e]; exact h4
  · rw [e]; exact h5
theorem gh_r0 : (([] : List Value).map fun v => v.category).sum ≤ 0 := Nat.le_refl 0
theorem gh_r1 {v : Value} {r : List Value} {n : Nat} (h : v.category = 1) (hr : (r.map fun v => v.category).sum ≤ n) : ((v :: r).map fun v => v.category).sum ≤ n + 1 := by
  rw [List.map_cons, List.sum_cons, h]
  omega
theorem gh_r2 {v : Value} {r : List Value} {n : Nat} (h : v.category = 2) (hr : (r.map fun v => v.category).sum ≤ n) : ((v :: r).map fun v => v.category).sum ≤ n + 2 := by
  rw [List.map_cons, List.sum_cons, h]
  omega
/-! rows for native methods and for arrays of arrays -/
def gh_CP (h : gh_H) (src : Option Nat) (sp : Int32) (dst : Option Nat) (dp n : Int32) (K : gh_H → Prop) : Prop := ∃ (a la na b lb nb : Nat) (f g : Nat → Option Nat), src = some a ∧ dst = some b ∧ h a = some (la, .inl (4, na, .inr (.inr (.inr (.inr f))))) ∧ la ≠ 0 ∧ h b = some (lb, .inl (4, nb, .inr (.inr (.inr (.inr g))))) ∧ lb ≠ 0 ∧ ¬ sp < 0 ∧ ¬ dp < 0 ∧ ¬ n < 0 ∧ sp.toNatClampNeg + n.toNatClampNeg ≤ na ∧ dp.toNatClampNeg + n.toNatClampNeg ≤ nb ∧
  (∀ i : Nat, i < n.toNatClampNeg → ∀ y : Nat, f (sp.toNatClampNeg + i) = some y → ∃ (l2 ci : Nat) (fs : List Value), h y = some (l2, .inr (ci, fs)) ∧ ci ∈ gh_os) ∧ K (gh_up h b (lb, .inl (4, nb, .inr (.inr (.inr (.inr (va_cpy f g sp.toNatClampNeg dp.toNatClampNeg n.toNatClampNeg)))))))
/-- getClass of an object array -/
def gh_GA (h : gh_H) (r : Option Nat) (K : Prop) : Prop := ∃ (a la : Nat) (x : vp_A), r = some a ∧ h a = some (la, .inl (4, x)) ∧ la ≠ 0 ∧ K
/-- getClass of a list -/
def gh_GB (h : gh_H) (r : Option Nat) (K : Prop) : Prop := ∃ (a la : Nat) (fs : List Value), r = some a ∧ h a = some (la, .inr (8, fs)) ∧ K
def gh_CL (h : gh_H) (r : Option Nat) (lim : Nat) (K : Nat → gh_H → Prop) : Prop := ∃ (a la n : Nat) (f : Nat → Option Nat), r = some a ∧ h a = some (la, .inl (6, n, .inr (.inr (.inr (.inr f))))) ∧ n ≤ lim ∧ ∃ lb : Nat, lb ≠ 0 ∧ ∀ q : Nat, h q = none → K q (gh_up h q (lb, .inl (6, n, .inr (.inr (.inr (.inr f))))))
def gh_CA (h : gh_H) (r : Option Nat) (K : Prop) : Prop := ∃ (a la : Nat) (x : vp_A), r = some a ∧ h a = some (la, .inl (6, x)) ∧ la ≠ 0 ∧ K
/-- an array of n int arrays of k ints, at q .. -/
def gh_up2 (h : gh_H) (q n k lb : Nat) : gh_H := fun a => if a = q then some (lb, .inl (5, n, .inr (.inr (.inr (.inr (fun j => some (q + 1 + j))))))) else if q < a ∧ a ≤ q + n then some (lb, .inl (0, k, .inl (fun _ => 0))) else h a
def gh_NM (h : gh_H) (n k : Int32) (N K : Nat) (C : Nat → gh_H → Prop) : Prop := ¬ n < 0 ∧ ¬ k < 0 ∧ n.toNatClampNeg ≤ N ∧ k.toNatClampNeg ≤ K ∧ ∃ lb : Nat, lb ≠ 0 ∧ ∀ q : Nat, (∀ j : Nat, j ≤ n.toNatClampNeg → h (q + j) = none) → C q (gh_up2 h q n.toNatClampNeg k.toNatClampNeg lb)
section GHN
variable {D : gh_D} {p : Program} {l : Launch} {e : Env} {R : Room} {s : State} {m : MethodId} {args : Array Value} {below : List Frame} {meth : Method} {c : Code} {H : Heap} {locs : List Loc} {cells slots : Nat} {Q : State → Prop}
variable {own : String} {cc : ByteArray} {nL : Nat} {A : Nat → Prop} {h0 h : gh_H} {pc : Nat} {ls : Array Slot} {rest st0 : List Value} {H0 : Heap}
/-- a cell is written at several places -/
theorem gh_Inv.setL {a lb : Nat} {e0 e : gh_C} {H1 : Heap} {L : List Loc} (G : gh_Inv D h0 A H0 s H locs h) (he : h a = some (lb, e0)) (hz : lb ≠ 0) (hat : gh_At D e a H1) (z : H1.size = H.size) (oq : ∀ q : Nat, q ≠ a → H1[q]? = H[q]?) (hL : ∀ x ∈ L, x.base = a) : gh_Inv D h0 A H0 s H1 (locs ++ L) (gh_up h a (lb, e)) := by
  have G1 := G.set (k := 0) he hz hat z oq
  obtain ⟨g1, g2, g3, g4, g5⟩ := G1
  refine ⟨g1, g2, g3, ⟨g4.1, g4.2.1, fun x hx => ?_⟩, g5⟩
  rcases List.mem_append.mp hx with h | h
  · exact g4.2.2 x (List.mem_append_left _ h)
  · rw [hL x h]
    exact G.2.1 a lb e0 he hz
theorem gh_nn {z : Int32} (hz : ¬ z < 0) : z.toInt = (z.toNatClampNeg : Int) := by
  have hz0 : (0 : Int) ≤ z.toInt := by
    have := Int32.not_lt.mp hz
    simpa using Int32.le_iff_toInt_le.mp this
  show z.toInt = ((z.toInt.toNat : Nat) : Int)
  omega
theorem gh_copy (M : gh_M D p l s m args meth c own cc nL A) (G : gh_Inv D h0 A s.heap s H locs h) {index : Nat} {src dst : Option Nat} {sp dp n : Int32} {K : gh_H → Prop} (hw : gh_CP h src sp dst dp n K)
    (hlink : Cond.methodLink own index ⟨"java/lang/System", "arraycopy", "(Ljava/lang/Object;ILjava/lang/Object;II)V"⟩ ∈ lw_all) (hstat : Cond.static ⟨"java/lang/System", "arraycopy", "(Ljava/lang/Object;ILjava/lang/Object;II)V"⟩ ∈ lw_all) (hini : Cond.initialized "java/lang/System" ∈ lw_all) (hnat : Cond.native ⟨"java/lang/System", "arraycopy", "(Ljava/lang/Object;ILjava/lang/Object;II)V"⟩ ∈ lw_all)
    (hsize : ls.size = nL) (hW : (rest.map fun v => v.category).sum ≤ 8) (hdg : decode cc pc = .ok (.invokestatic index, 3)) (hframes : 1 ≤ R.frames) (hlocals : 8 + (nativeFrameWords "java/lang/System" "arraycopy" 5 + 11) ≤ R.locals)
    (kk : ∀ (h1 : gh_H) (H1 : Heap) (locs1 : List Loc), K h1 → gh_Inv D h0 A s.heap s H1 locs1 h1 → W p l e R s m args below meth c H1 locs1 cells slots Q (F0 m (pc + 3) ls rest)) : W p l e R s m args below meth c H locs cells slots Q (F0 m pc ls (.int n :: .int dp :: va_rf dst :: .int sp :: va_rf src :: rest)) := by
  obtain ⟨a, la, na, b, lb, nb, f, g, rfl, rfl, ha, hla, hb, hlb, h1, h2, h3, h4, h5, hel, hk⟩ := hw
  have hts := gh_Mts M
  have hP0 := ((G.1 a la _ ha).2 hla).2
  have hP1 := ((G.1 b lb _ hb).2 hlb).2
  obtain ⟨kA, comp, r1, r2, r3, r4⟩ := (M.2.1.2 4 (by decide)).2
  intro T hT X
  obtain ⟨vm', X', step⟩ := X.arraycopy M.1.1 M.1.2.2.2.1 (hts _ hlink) (hts _ hnat) (hts _ hstat) (hts _ hini) (src := a) (dst := b) (cs := vp_cell (D.2.1 4) (na, .inr (.inr (.inr (.inr f))))) (cd := vp_cell (D.2.1 4) (nb, .inr (.inr (.inr (.inr g))))) (srcPos := sp) (destPos := dp) (n := n) (by rw [hT]; exact hP0) (by rw [hT]; exact hP1)
    (fun _ h => by cases h) (fun _ h => by cases h) (fun h => by cases h) (fun h => by cases h) r1 r1 r2 r2 rfl h1 h2 h3
    (by rw [gh_nn h1, gh_nn h3, gh_vals]; show ¬ _ > ((na : Nat) : Int); omega)
    (by rw [gh_nn h2, gh_nn h3, gh_vals]; show ¬ _ > ((nb : Nat) : Int); omega)
    (fun vm₁ hal i hi => by
      have e : (vp_cell (D.2.1 4) (na, .inr (.inr (.inr (.inr f))))).slots.getD (sp.toNatClampNeg + i) .null = va_rf (f (sp.toNatClampNeg + i)) := by
        rw [Array.getD_eq_getD_getElem?, gh_valr _ _ (show sp.toNatClampNeg + i < na by omega)]
        rfl
      rw [e]
      cases hy : f (sp.toNatClampNeg + i) with
      | none => exact ⟨rfl, trivial⟩
      | some y =>
        obtain ⟨l2, ci, fs, hy2, hci⟩ := hel i hi y hy
        obtain ⟨q, hq, hcast⟩ := gh_os_at hci
        obtain ⟨cellV, g1, g2, g3⟩ := gh_rec M G hy2 hq
        obtain ⟨c0, t1, f1, f2, f3⟩ := Cond.castable_spec (va_Nw.use (A := args) rfl (M.2.2.1.1 _ hcast))
        cases g3.symm.trans f1
        cases r3.symm.trans f2
        obtain ⟨kC, hkC, -⟩ := Vm.findClass_spec g3
        obtain ⟨kE, hkE, -⟩ := Vm.findClass_spec r3
        obtain ⟨kC', hkC', -⟩ := hal.2.2 _ _ hkC
        obtain ⟨kE', hkE', -⟩ := hal.2.2 _ _ hkE
        refine ⟨rfl, cellV, (show T.heap[y]? = some cellV by rw [hT]; exact g1), (fun q h => by rw [h] at g2; cases g2), ⟨kC', hkC'⟩, ⟨kE', hkE'⟩, ?_⟩
        show vm₁.assignable _ _ = true
        rw [hal.assignable]
        exact f3)
    (g := F0 m pc ls (.int n :: .int dp :: .ref b :: .int sp :: .ref a :: rest)) rfl (hsize.trans M.1.2.2.1.symm) (rest := rest) rfl (by rw [M.1.2.1]; exact hdg) hframes (by show 2 * 0 + _ + _ ≤ _; omega)
  have e1 : copied (vp_cell (D.2.1 4) (na, .inr (.inr (.inr (.inr f))))) (vp_cell (D.2.1 4) (nb, .inr (.inr (.inr (.inr g))))) sp dp n = vp_cell (D.2.1 4) (nb, .inr (.inr (.inr (.inr (va_cpy f g sp.toNatClampNeg dp.toNatClampNeg n.toNatClampNeg))))) := by
    rw [vp_cell_q, vp_cell_q, vp_cell_q]
    exact va_copied (fun z => va_rf z) _ _ f g h4
  rw [e1] at X' step
  have hl : b < H.size := (Array.getElem?_eq_some_iff.mp hP1).1
  obtain ⟨t, a1, b1⟩ := kk _ (H.setIfInBounds b (vp_cell (D.2.1 4) (nb, .inr (.inr (.inr (.inr (va_cpy f g sp.toNatClampNeg dp.toNatClampNeg n.toNatClampNeg))))))) _ hk (G.setL hb hlb ⟨Nat.le_of_ble_eq_true rfl, by simp [Array.getElem?_setIfInBounds, hl]⟩ (by simp) (fun q hq => by simp [Array.getElem?_setIfInBounds, Ne.symm hq]) (fun x hx => by
      obtain ⟨z, -, hz⟩ := List.mem_map.mp hx
      rw [← hz])) _ (by rw [← hT]; rfl) X'
  exact ⟨t, step t a1, b1⟩
theorem gh_notFace {C : String} {x y : MethodName} (h : (Cond.selects C x y).before args s = true) : NotFace s y := by
  obtain ⟨c, r, m1, -, -, h3, -, mk, hk, hi⟩ := Cond.selects_spec h
  intro r0 hr0
  cases h3.symm.trans hr0
  exact ⟨mk, hk, hi⟩
theorem gh_getA (M : gh_M D p l s m args meth c own cc nL A) (G : gh_Inv D h0 A s.heap s H locs h) {index : Nat} {r : Option Nat} {K : Prop} (hw : gh_GA h r K)
    (hlink : Cond.methodLink own index ⟨"java/lang/Object", "getClass", "()Ljava/lang/Class;"⟩ ∈ lw_all) (hdecl : Cond.declares ⟨"java/lang/Object", "getClass", "()Ljava/lang/Class;"⟩ ∈ gh_tw) (hsel : Cond.selects "[Ljava/lang/Object;" ⟨"java/lang/Object", "getClass", "()Ljava/lang/Class;"⟩ ⟨"java/lang/Object", "getClass", "()Ljava/lang/Class;"⟩ ∈ lw_all) (hinst : Cond.instanceMethod ⟨"java/lang/Object", "getClass", "()Ljava/lang/Class;"⟩ ∈ lw_all) (hnat : Cond.native ⟨"java/lang/Object", "getClass", "()Ljava/lang/Class;"⟩ ∈ lw_all)
    (hsize : ls.size = nL) (hW : (rest.map fun v => v.category).sum ≤ 8) (hdg : decode cc pc = .ok (.invokevirtual index, 3)) (hframes : 1 ≤ R.frames) (hlocals : 8 + (nativeFrameWords "java/lang/Object" "getClass" 1 + 11) ≤ R.locals)
    (kk : K → W p l e R s m args below meth c H locs cells slots Q (F0 m (pc + 3) ls (va_rf (some (D.2.2 6)) :: rest))) : W p l e R s m args below meth c H locs cells slots Q (F0 m pc ls (va_rf r :: rest)) := by
  obtain ⟨a, la, x, rfl, ha, hla, hk⟩ := hw
  have hts := gh_Mts M
  have hP := ((G.1 a la _ ha).2 hla).2
  obtain ⟨kA, comp, r1, r2, r3, r4⟩ := (M.2.1.2 4 (by decide)).2
  obtain ⟨c9, k9, m1, m2, m3⟩ : va_Mi "[Ljava/lang/Object;" (D.2.2 6) s := M.2.2.2.1.2.2.2.2.2.2.2.2.2
  cases m1.symm.trans r4
  intro T hT X
  obtain ⟨vm', X', step⟩ := X.getClassOf M.1.1 M.1.2.2.2.1 (hts _ hlink) (va_Nw.use rfl (M.2.2.1.1 _ hdecl)) (gh_notFace (hts _ hsel)) (hts _ hsel) (hts _ hinst) (hts _ hnat) m1 (b := a) ⟨_, by rw [hT]; exact hP, by obtain ⟨n, y⟩ := x; rcases y with f | f | f | f | f <;> rfl, by obtain ⟨n, y⟩ := x; rcases y with f | f | f | f | f <;> rfl⟩ m2 m3
    (g := F0 m pc ls (.ref a :: rest)) rfl (hsize.trans M.1.2.2.1.symm) (rest := rest) rfl (by rw [M.1.2.1]; exact hdg) hframes (by show 2 * 0 + _ + _ ≤ _; omega)
  obtain ⟨t, a1, b1⟩ := kk hk (T.setVm vm') hT X'
  exact ⟨t, step t a1, b1⟩
theorem gh_selI {u : State} {B : Array Value} {C I n d : String} {y : MethodName} (hx : I ≠ "java/lang/invoke/MethodHandle" ∧ I ≠ "java/lang/invoke/VarHandle") (h1 : (Cond.interfaceMethod I "java/lang/Object" n d).before B u = true) (h2 : (Cond.selects C ⟨"java/lang/Object", n, d⟩ y).before B u = true) : (Cond.selects C ⟨I, n, d⟩ y).before B u = true := by
  obtain ⟨ci, k, mm, hc, hk, hi, hfd, hn⟩ := Cond.interfaceMethod_spec h1
  obtain ⟨c, r, m1, g1, g2, g3, g4, mk, g5, g6⟩ := Cond.selects_spec h2
  have e : u.methodFound? "java/lang/Object" n d = some mm := State.methodFound?_of_named hn ⟨(by decide : "java/lang/Object" ≠ "java/lang/invoke/MethodHandle"), (by decide : "java/lang/Object" ≠ "java/lang/invoke/VarHandle")⟩
  cases e.symm.trans g2
  simp [Cond.before, Cond.holds, Cond.value, g1, hfd, g3, g4, g5, g6]
theorem gh_getB (M : gh_M D p l s m args meth c own cc nL A) (G : gh_Inv D h0 A s.heap s H locs h) {index count : Nat} {r : Option Nat} {K : Prop} (hw : gh_GB h r K)
    (hlink : Cond.methodLink own index ⟨"java/util/Collection", "getClass", "()Ljava/lang/Class;"⟩ ∈ lw_all) (hdecl : Cond.declares ⟨"java/lang/Object", "getClass", "()Ljava/lang/Class;"⟩ ∈ gh_tw) (hif : ("java/util/Collection", "java/lang/Object", "getClass", "()Ljava/lang/Class;") ∈ gh_if) (hsel : Cond.selects "java/util/ArrayList" ⟨"java/lang/Object", "getClass", "()Ljava/lang/Class;"⟩ ⟨"java/lang/Object", "getClass", "()Ljava/lang/Class;"⟩ ∈ lw_all) (hinst : Cond.instanceMethod ⟨"java/lang/Object", "getClass", "()Ljava/lang/Class;"⟩ ∈ lw_all) (hnat : Cond.native ⟨"java/lang/Object", "getClass", "()Ljava/lang/Class;"⟩ ∈ lw_all)
    (hpub : Cond.publicMethod ⟨"java/lang/Object", "getClass", "()Ljava/lang/Class;"⟩ ∈ gh_tw) (hunh : Cond.unhidden "java/util/ArrayList" "getClass" "()Ljava/lang/Class;" ∈ gh_tw) (hcast : Cond.castable "java/util/ArrayList" "java/util/Collection" ∈ gh_tw)
    (hsize : ls.size = nL) (hW : (rest.map fun v => v.category).sum ≤ 8) (hdg : decode cc pc = .ok (.invokeinterface index count, 5)) (hframes : 1 ≤ R.frames) (hlocals : 8 + (nativeFrameWords "java/lang/Object" "getClass" 1 + 11) ≤ R.locals)
    (kk : K → W p l e R s m args below meth c H locs cells slots Q (F0 m (pc + 5) ls (va_rf (some (D.2.2 5)) :: rest))) : W p l e R s m args below meth c H locs cells slots Q (F0 m pc ls (va_rf r :: rest)) := by
  obtain ⟨a, la, fs, rfl, ha, hk⟩ := hw
  have hts := gh_Mts M
  obtain ⟨cellB, hcB, hoB, hclB⟩ := gh_rec M G ha (r := (RJ2, TJ2, 3)) rfl
  obtain ⟨c9, k9, m1, m2, m3⟩ : va_Mi "java/util/ArrayList" (D.2.2 5) s := M.2.2.2.1.2.2.2.2.2.2.2.2.1
  have hcl2 : c9 = cellB.cls := Option.some.inj (m1.symm.trans hclB)
  have hface : (Cond.interfaceMethod "java/util/Collection" "java/lang/Object" "getClass" "()Ljava/lang/Class;").before args s = true := gh_ifm_moved (A := #[]) (Vm.Alike.refl s.vm) (by decide) (by decide) (M.2.2.1.2.2.2.2.1 _ hif)
  intro T hT X
  obtain ⟨vm', X', step⟩ := X.getClassOfI M.1.1 M.1.2.2.2.1 (hts _ hlink) (va_Nw.use rfl (M.2.2.1.1 _ hdecl)) hface (gh_selI (by decide) hface (hts _ hsel)) (hts _ hinst) (va_Nw.use rfl (M.2.2.1.1 _ hpub)) (va_Nw.use rfl (M.2.2.1.1 _ hunh)) (va_Nw.use rfl (M.2.2.1.1 _ hcast)) (hts _ hnat) (by decide) (by decide) rfl rfl m1 m2 (b := a) ⟨cellB, by rw [hT]; exact hcB, hcl2.symm, hoB⟩ m3
    (g := F0 m pc ls (.ref a :: rest)) rfl (hsize.trans M.1.2.2.1.symm) (rest := rest) rfl (by rw [M.1.2.1]; exact hdg) hframes (by show 2 * 0 + _ + _ ≤ _; omega)
  obtain ⟨t, a1, b1⟩ := kk hk (T.setVm vm') hT X'
  exact ⟨t, step t a1, b1⟩
theorem gh_castA (M : gh_M D p l s m args meth c own cc nL A) (G : gh_Inv D h0 A s.heap s H locs h) {index : Nat} {r : Option Nat} {K : Prop} (hw : gh_CA h r K) (hcl : Cond.classLink own index "[LBinderyDesk$Binding;" ∈ lw_all) (hdg : decode cc pc = .ok (.checkcast index, 3))
    (kk : K → W p l e R s m args below meth c H locs cells slots Q (F0 m (pc + 3) ls (va_rf r :: rest))) : W p l e R s m args below meth c H locs cells slots Q (F0 m pc ls (va_rf r :: rest)) := by
  obtain ⟨a, la, x, rfl, ha, hla, hk⟩ := hw
  have hP := ((G.1 a la _ ha).2 hla).2
  obtain ⟨kA, comp, r1, r2, r3, r4⟩ := (M.2.1.2 6 (by decide)).2
  exact va_castA (D := D.1) (cl := gh_clm) (ws := [(a, .inl (D.2.1 6, x))]) M.1.1 M.1.2.1 M.1.2.2.2.1 (gh_Mts M _ hcl) (fun k q hq => by
    have hz : k < 1 := (List.getElem?_eq_some_iff.mp hq).1
    rw [show k = 0 by omega] at hq
    cases hq
    exact hP) 0 rfl r4 hdg (kk hk)
theorem gh_clone (M : gh_M D p l s m args meth c own cc nL A) (G : gh_Inv D h0 A s.heap s H locs h) {index lim : Nat} {r : Option Nat} {K : Nat → gh_H → Prop} (hw : gh_CL h r lim K)
    (hlink : Cond.methodLink own index ⟨"[LBinderyDesk$Binding;", "clone", "()Ljava/lang/Object;"⟩ ∈ lw_all) (hsame : Cond.sameMethod "[LBinderyDesk$Binding;" "java/lang/Object" "clone" "()Ljava/lang/Object;" ∈ lw_all) (hnat : Cond.native ⟨"java/lang/Object", "clone", "()Ljava/lang/Object;"⟩ ∈ lw_all) (hinst : Cond.instanceMethod ⟨"java/lang/Object", "clone", "()Ljava/lang/Object;"⟩ ∈ lw_all) (hsel : Cond.selects "[LBinderyDesk$Binding;" ⟨"[LBinderyDesk$Binding;", "clone", "()Ljava/lang/Object;"⟩ ⟨"java/lang/Object", "clone", "()Ljava/lang/Object;"⟩ ∈ lw_all) (hcl : Cond.castable "[LBinderyDesk$Binding;" "java/lang/Cloneable" ∈ gh_tw)
    (hsize : ls.size = nL) (hW : (rest.map fun v => v.category).sum ≤ 8) (hdg : decode cc pc = .ok (.invokevirtual index, 3)) (hframes : 1 ≤ R.frames) (hlocals : 8 + 14 ≤ R.locals) (hcells : cells + 1 ≤ R.cells) (hslots : slots + lim ≤ R.slots)
    (kk : ∀ (q : Nat) (h1 : gh_H) (H1 : Heap), K q h1 → gh_Inv D h0 A s.heap s H1 locs h1 → W p l e R s m args below meth c H1 locs (cells + 1) (slots + lim) Q (F0 m (pc + 3) ls (va_rf (some q) :: rest))) : W p l e R s m args below meth c H locs cells slots Q (F0 m pc ls (va_rf r :: rest)) := by
  obtain ⟨a, la, n, f, rfl, ha, hn, lb, hz, hk⟩ := hw
  have hts := gh_Mts M
  obtain ⟨cell, g1, g2, g3, g4, g5, g6⟩ := gh_arr M G ha
  have g7 := g6 "BinderyDesk$Binding" rfl (by decide)
  obtain ⟨kA, comp, r1, r2, r3, r4⟩ := (M.2.1.2 6 (by decide)).2
  have hcA : D.2.1 6 = cell.cls := Option.some.inj (r4.symm.trans g7)
  obtain ⟨c0, t0', f1, f2, f3⟩ := Cond.castable_spec (va_Nw.use (A := args) rfl (M.2.2.1.1 _ hcl))
  cases g7.symm.trans f1
  obtain ⟨hst, kS, hkS, compS, hkindS⟩ := g2
  have hcell : ({ cls := cell.cls, slots := cell.slots } : Cell) = vp_cell (D.2.1 6) (n, .inr (.inr (.inr (.inr f)))) := by
    have hs : cell.slots = (vp_cell (D.2.1 6) (n, .inr (.inr (.inr (.inr f))))).slots := by
      apply Array.ext_getElem?
      intro i
      by_cases hi : i < n
      · rw [g5 i hi, gh_valr _ _ hi]
      · rw [Array.getElem?_eq_none (by rw [g4]; exact Nat.not_lt.mp hi), Array.getElem?_eq_none (by rw [gh_vals]; exact Nat.not_lt.mp hi)]
    rw [hs, ← hcA]
    rfl
  intro T hT X
  obtain ⟨-, kT, hkT, compT, hkindT⟩ := State.isArrayOf_alike X.warmed.alike ⟨hst, kS, hkS, compS, hkindS⟩
  obtain ⟨vm', X', st⟩ := X.cloneArray M.1.1 M.1.2.2.2.1 (hts _ hlink) (hts _ hsame) (hts _ hnat) (hts _ hinst) (hts _ hsel) (a := a) (cell := cell) (by rw [hT]; exact g1) hst g3 g7 f2 f3
    (fun i v hv => by
      have hk' : T.vm.classes[cell.cls]? = some kT := hkT
      have hi : i < n := by
        have := (Array.getElem?_eq_some_iff.mp hv).1
        rw [g4] at this
        exact this
      cases (g5 i hi).symm.trans hv
      have : fits (gh_ty 6) (gh_val (n, .inr (.inr (.inr (.inr f)))) i) = true := gh_fitR "BinderyDesk$Binding" (f i)
      simpa [State.fitsSlot, State.slotType?, hk', hkindT] using this)
    (g := F0 m pc ls (.ref a :: rest)) rfl (hsize.trans M.1.2.2.1.symm) rfl (by rw [M.1.2.1]; exact hdg) hframes (by show 2 * 0 + _ + 14 ≤ _; omega) hcells (by rw [g4]; show slots + n ≤ _; omega) (hloader := Vm.clonesLoader_of_array hkS hkindS)
  rw [hcell] at X' st
  have X2 := stand_widen X' (Nat.le_refl _) (show slots + cell.slots.size ≤ slots + lim by rw [g4]; show slots + n ≤ _; omega)
  obtain ⟨t, b1, b2⟩ := kk H.size _ (H.push (vp_cell (D.2.1 6) (n, .inr (.inr (.inr (.inr f)))))) (hk H.size G.1.fresh) (G.new hz ⟨Nat.le_of_ble_eq_true rfl, by rw [Array.getElem?_push_size]⟩ (by simp) (fun q hq => by rw [Array.getElem?_push, if_neg (Nat.ne_of_lt hq)])) _ (by rw [← hT]; rfl) X2
  rw [hT] at st
  exact ⟨t, st t b1, b2⟩
end GHN
theorem gh_outer (c : ClassId) (N h0 : Nat) : ∀ i, Jvm.Free.Multi.outerC c N h0 i = arrV c N (fun j => if j < i then .ref (h0 + 1 + j) else .null)
  | 0 => by
    show ({ cls := c, slots := Array.replicate N .null, vm := .none } : Cell) = _
    rw [arrV_new]
    rfl
  | i + 1 => by
    show (Jvm.Free.Multi.outerC c N h0 i).setSlot i (.ref (h0 + 1 + i)) = _
    rw [gh_outer c N h0 i, arrV_store]
    congr 1
    funext j
    unfold updV
    by_cases hj : j = i
    · subst hj
      simp
    · by_cases h1 : j < i
      · simp [hj, h1, Nat.lt_succ_of_lt h1]
      · have h2 : ¬ j < i + 1 := by omega
        simp [hj, h1, h2]
theorem gh_arrX (c : ClassId) (N : Nat) (F G : Nat → Value) (h : ∀ j, j < N → F j = G j) : arrV c N F = arrV c N G := by
  show ({ cls := c, slots := Array.ofFn (n := N) fun j => F j.val, vm := .none } : Cell) = { cls := c, slots := Array.ofFn (n := N) fun j => G j.val, vm := .none }
  have e : (fun j : Fin N => F j.val) = fun j : Fin N => G j.val := funext fun j => h j.val j.isLt
  rw [e]
section GHM
variable {D : gh_D} {p : Program} {l : Launch} {e : Env} {R : Room} {s : State} {m : MethodId} {args : Array Value} {below : List Frame} {meth : Method} {c : Code} {H : Heap} {locs : List Loc} {cells slots : Nat} {Q : State → Prop}
variable {own : String} {cc : ByteArray} {nL : Nat} {A : Nat → Prop} {h0 h : gh_H} {pc : Nat} {ls : Array Slot} {rest st0 : List Value} {H0 : Heap} {U : State}
theorem gh_Inv.new2 {H1 : Heap} {lb n k : Nat} (G : gh_Inv D h0 A H0 U H locs h) (hz : lb ≠ 0) (hat : gh_At D (.inl (5, n, .inr (.inr (.inr (.inr (fun j => some (H.size + 1 + j))))))) H.size H1) (hin : ∀ j : Nat, j < n → gh_At D (.inl (0, k, .inl (fun _ => 0))) (H.size + 1 + j) H1) (z : H1.size = H.size + 1 + n) (oq : ∀ q : Nat, q < H.size → H1[q]? = H[q]?) : gh_Inv D h0 A H0 U H1 locs (gh_up2 h H.size n k lb) := by
  obtain ⟨g1, g2, g3, g4, g5⟩ := G
  have key : ∀ (b l : Nat) (x : gh_C), gh_up2 h H.size n k lb b = some (l, x) → (l = lb ∧ gh_At D x b H1 ∧ H.size ≤ b) ∨ h b = some (l, x) := by
    intro b l x hb
    unfold gh_up2 at hb
    split at hb
    · rename_i e
      cases hb
      subst e
      exact Or.inl ⟨rfl, hat, Nat.le_refl _⟩
    · split at hb
      · rename_i e1 e2
        cases hb
        obtain ⟨j, rfl⟩ : ∃ j, b = H.size + 1 + j := ⟨b - (H.size + 1), by omega⟩
        exact Or.inl ⟨rfl, hin j (by omega), by omega⟩
      · exact Or.inr hb
  refine ⟨fun b l x hb => ?_, fun b l x hb hl => ?_, fun b x hb => ?_, ⟨Nat.le_trans g4.1 (by omega), fun q h1 h2 => (oq q (Nat.lt_of_lt_of_le h1 g4.1)).trans (g4.2.1 q h1 h2), g4.2.2⟩, g5⟩
  · rcases key b l x hb with ⟨e, h1, -⟩ | h1
    · exact ⟨fun q => absurd (e.symm.trans q) hz, fun _ => h1⟩
    · exact ⟨fun q => ((g1 b l x h1).1 q).kept (oq b (g1.lt h1)), fun q => ((g1 b l x h1).2 q).kept (oq b (g1.lt h1))⟩
  · rcases key b l x hb with ⟨e, h1, h2⟩ | h1
    · exact g5 _ (Nat.le_trans g4.1 h2)
    · exact g2 b l x h1 hl
  · rcases key b 0 x hb with ⟨e, h1, h2⟩ | h1
    · exact absurd e.symm hz
    · exact g3 b x h1
theorem gh_newm (M : gh_M D p l s m args meth c own cc nL A) (G : gh_Inv D h0 A s.heap s H locs h) {index lim lik : Nat} {n k : Int32} {K : Nat → gh_H → Prop} (hw : gh_NM h n k lim lik K) (hcl : Cond.classLink own index "[[I" ∈ lw_all) (harr : Cond.arrayClass .int ∈ lw_all) (hl1 : lim * 4 ≤ 536870912) (hl2 : lik * 4 ≤ 536870912) (hcells : cells + (1 + lim) ≤ R.cells) (hslots : slots + (lim + lim * lik) ≤ R.slots) (hdg : decode cc pc = .ok (.multianewarray index 2, 4))
    (kk : ∀ (q : Nat) (h1 : gh_H) (H1 : Heap), K q h1 → gh_Inv D h0 A s.heap s H1 locs h1 → W p l e R s m args below meth c H1 locs (cells + (1 + lim)) (slots + (lim + lim * lik)) Q (F0 m (pc + 4) ls (va_rf (some q) :: rest))) : W p l e R s m args below meth c H locs cells slots Q (F0 m pc ls (.int k :: .int n :: rest)) := by
  obtain ⟨hn, hk0, hnN, hkK, lb, hz, hk⟩ := hw
  have hts := gh_Mts M
  have hmul : n.toNatClampNeg * k.toNatClampNeg ≤ lim * lik := Nat.mul_le_mul hnN hkK
  have hover : (Cond.arrayOver (.array .int)).before args s = true := M.2.2.1.2.2.2.2.2.2
  intro T hT X
  obtain ⟨vm₁, cA, comp, hW1, hfA, hfC, -, -, X1, step⟩ := X.multianewarray2F M.1.1 (own := own) (index := index) (ty := .int) M.1.2.2.2.1 (hts _ hcl) hover (hts _ harr)
    (g := F0 m pc ls (.int k :: .int n :: rest)) rfl (by rw [M.1.2.1]; exact hdg) (n := n) (k := k) (rest := rest) rfl hn hk0
    (by omega) (by show k.toNatClampNeg * 4 ≤ _; omega) (by omega) rfl rfl (by omega) (by omega)
  have hcA : cA = D.2.1 5 := Option.some.inj (hfA.symm.trans (M.2.1.2 5 (by decide)).2)
  have hcI : comp = D.2.1 0 := Option.some.inj (hfC.symm.trans (M.2.1.2 0 (by decide)).2)
  subst hcA
  subst hcI
  have hH : (T.setVm vm₁).heap = H := hT
  obtain ⟨f1, f2, f3, f4⟩ := Jvm.Free.Multi.fill_facts (T.setVm vm₁) (D.2.1 5) (D.2.1 0) n.toNatClampNeg k.toNatClampNeg (defaultValue .int) n.toNatClampNeg
  have f5 := fun j hj => Jvm.Free.Multi.fill_inner (T.setVm vm₁) (D.2.1 5) (D.2.1 0) n.toNatClampNeg k.toNatClampNeg (defaultValue .int) n.toNatClampNeg j hj
  have f6 : ∀ q : Nat, q < (T.setVm vm₁).heap.size → (Jvm.Free.Multi.fill (T.setVm vm₁) (D.2.1 5) (D.2.1 0) n.toNatClampNeg k.toNatClampNeg (defaultValue .int) n.toNatClampNeg).heap[q]? = (T.setVm vm₁).heap[q]? := fun q hq => Jvm.Free.Multi.fill_old (T.setVm vm₁) (D.2.1 5) (D.2.1 0) n.toNatClampNeg k.toNatClampNeg (defaultValue .int) hq n.toNatClampNeg
  rw [hH] at f1 f2 f5 f6
  generalize hF : Jvm.Free.Multi.fill (T.setVm vm₁) (D.2.1 5) (D.2.1 0) n.toNatClampNeg k.toNatClampNeg (defaultValue .int) n.toNatClampNeg = F at X1 step f1 f2 f5 f6
  have X2 := stand_widen X1 (show cells + 1 + n.toNatClampNeg ≤ cells + (1 + lim) by omega) (show slots + n.toNatClampNeg + n.toNatClampNeg * k.toNatClampNeg ≤ slots + (lim + lim * lik) by omega)
  obtain ⟨t, b1, b2⟩ := kk H.size _ F.heap (hk H.size fun j _ => by
      cases he : h (H.size + j) with
      | none => rfl
      | some e => exact absurd (G.1.lt he) (by omega)) (G.new2 hz ⟨Nat.le_of_ble_eq_true rfl, by
        rw [f2, gh_outer, vp_cell_q]
        exact congrArg some (gh_arrX _ _ _ _ fun j hj => if_pos hj)⟩ (fun j hj => ⟨Nat.le_of_ble_eq_true rfl, by
        rw [f5 j hj, vp_cell_i]
        exact congrArg some (arrV_new _ _ _)⟩) f1 f6) F rfl X2
  refine ⟨t, step t ?_, b2⟩
  rw [hT]
  exact b1
end GHM
/-! a callee whose class's init the tables don't say (an enum constant's own class): the contract without it. gh_call0, gh_back0, gh_ofW0, gh_runU0 follow Steps.callFree, vx_back, MetFree.of_bodySF with vx_ofW, vx_runU. -/
def gh_Met0 (l : Launch) (y : MethodName) (ws : List Cond) (rm : Room) (Pc : Array Value → State → Prop) (Qc : Array Value → State → Outcome → State → Prop) (XC : String → State → State → Prop) (mc ms : Nat) (free : Addr → Prop) : Prop :=
  ∀ (p : Program) (e : Env), l.admits e → FairCas e.choices → FairClock e.choices → ∀ (s : State) (m : MethodId) (args : Array Value) (below : List Frame), s.frames = .invoking m args :: below → s.status = .running → s.curStatus? = some .runnable → s.alone = true → s.methodNamed? y = some m → s.hears m below = true → s.hasRoom e.platform (headSpec ws rm).room = true → (∀ w ∈ ws, w.before args s = true) → Pc args s →
    ∃ n o, (∀ k, k < n → Within (stepsAlone p.tables e k s) below) ∧ (stepsAlone p.tables e n s).status = .running ∧ Ended (stepsAlone p.tables e n s) below o ∧ vx_Q Qc XC mc ms free args s o (stepsAlone p.tables e n s)
section
variable {l : Launch} {R : Room} {p : Program} {e : Env} {below : List Frame} {s : State} {sargs : Array Value} {y : MethodName} {len W9 : Nat}
theorem gh_call0 {ws : List Cond} {rm : Room} {Pc : Array Value → State → Prop} {Qc : Array Value → State → Outcome → State → Prop} {XC : String → State → State → Prop} {mc ms : Nat} {free : Addr → Prop} (hM : gh_Met0 l y ws rm Pc Qc XC mc ms free) (p : Program) {e : Env} (ha : l.admits e) (hc : FairCas e.choices) (hk : FairClock e.choices)
    {s : State} {m : MethodId} {args : Array Value} {acts : List Action} {mid below : List Frame} (hfr : s.frames = mid ++ below) (h1 : (s.pushFrame (.invoking m args)).status = .running) (h2 : (s.pushFrame (.invoking m args)).curStatus? = some .runnable) (h3 : (s.pushFrame (.invoking m args)).alone = true) (h4 : (s.pushFrame (.invoking m args)).methodNamed? y = some m) (h5 : (s.pushFrame (.invoking m args)).hears m s.frames = true) (h6 : (s.pushFrame (.invoking m args)).hasRoom e.platform (headSpec ws rm).room = true) (h7 : ∀ w ∈ ws, w.before args (s.pushFrame (.invoking m args)) = true) (hP : Pc args (s.pushFrame (.invoking m args))) :
    ∃ o s₂, Steps p.tables e below (doInvoke e s acts m args).1 s₂ ∧ s₂.status = .running ∧ Ended s₂ s.frames o ∧ vx_Q Qc XC mc ms free args (s.pushFrame (.invoking m args)) o s₂ := by
  obtain ⟨t, ht⟩ : ∃ t, s.threads[s.cur]? = some t := by
    cases h : s.threads[s.cur]? with
    | some t => exact ⟨t, rfl⟩
    | none =>
      have : (s.pushFrame (.invoking m args)).curStatus? = none := by
        simp [State.curStatus?, State.pushFrame, State.setFrames, Array.getElem?_modify, h]
      rw [this] at h2
      cases h2
  have hlt : s.cur < s.threads.size := (Array.getElem?_eq_some_iff.mp ht).1
  have hf' : (s.pushFrame (.invoking m args)).frames = .invoking m args :: s.frames := State.frames_setFrames _ hlt
  have hgo : (s.pushFrame (.invoking m args)).goesOn := ⟨h1, h2, h3⟩
  obtain ⟨n, o, hw, hr, he, hp⟩ := hM p e ha hc hk (s.pushFrame (.invoking m args)) m args s.frames hf' h1 h2 h3 h4 h5 h6 h7 hP
  have hstep : (stepThread p.tables e (s.pushFrame (.invoking m args))).1 = (doInvoke e s acts m args).1 := by
    rw [stepThread_invoking hf', doInvoke_state e s acts, State.pushFrame, State.setFrames_setFrames, State.setFrames_self ht]
  cases n with
  | zero => exact absurd ⟨[.invoking m args], hf', by simp, by simp⟩ he.not_within
  | succ k =>
    rw [stepsAlone_succ _ hgo, hstep] at hr he hp
    refine ⟨o, _, ⟨k, rfl, fun j hj => ?_⟩, hr, he, hp⟩
    have := hw (j + 1) (by omega)
    rw [stepsAlone_succ _ hgo, hstep, hfr] at this
    exact this.weaken
theorem gh_back0 {ws : List Cond} {rm : Room} {Pc : Array Value → State → Prop} {Qc : Array Value → State → Outcome → State → Prop} {XC : String → State → State → Prop} {mc ms : Nat} {free : Addr → Prop} {bytes : ByteArray} {maxL : Nat} {ret : Option FieldType}
    (hM : gh_Met0 l y ws rm Pc Qc XC mc ms free) (hblind : FrameBlind Pc) (hrc : rm.cells = mc) (hrs : rm.slots = ms)
    (hframes : rm.frames + 1 ≤ R.frames) (hlocals : W9 + (maxL + 11) + rm.locals ≤ R.locals)
    (hws : ∀ w ∈ ws, ∀ a' U, s.WarmedH U.vm → w.before a' U = true) (hcode : Cond.code y bytes maxL ret ∈ ws) :
    vx_Back l R p e below s sargs y len W9 (PreOf R mc ms Pc) (PostOf Qc mc ms free) (vx_Post XC mc ms free) := by
  intro m meth c A g ig mk a X hg hsize hdg hW hn hp
  have h1 : ∀ w ∈ ws, w.before a A.U = true := fun w hw => hws w hw _ _ X.warmed
  have h2 : (Cond.code y bytes maxL ret).before a A.U = true := hws _ hcode _ _ X.warmed
  have h4 : A.cells + (headSpec ws rm).room.cells ≤ R.cells := by rw [show (headSpec ws rm).room.cells = mc from hrc]; exact hp.1
  have h5 : A.slots + (headSpec ws rm).room.slots ≤ R.slots := by rw [show (headSpec ws rm).room.slots = ms from hrs]; exact hp.2.1
  have hPc : Pc a (A.U.calling g mk a) := hblind _ _ _ _ hp.2.2
  obtain ⟨U, Ls, c0, s0⟩ := A
  dsimp only [Pt.U, Pt.locs, Pt.cells, Pt.slots] at h1 h2 h4 h5 X hn hPc ⊢
  obtain ⟨methY, cY, hmY, hcY, -, hlY, -, -, -, -⟩ := Cond.code_spec hn h2
  have h : At U g.method c below := by rw [hg]; exact X.here
  have hlocals9 : W9 + (maxL + 11) + (headSpec ws rm).room.locals ≤ R.locals := hlocals
  have hroom := X.room_calling (g := g) (m' := mk) (args' := a) (R' := (headSpec ws rm).room) hsize hmY hcY hframes (by rw [hlY]; omega) h4 h5
  have hcodeC : (U.calling g mk a).code? g.method = some c := by
    have := h.code
    rw [State.code?_eq] at this ⊢
    simpa [State.calling, State.pushFrame, State.setFrames] using this
  obtain ⟨mid, hmid⟩ := h.above
  have hfr : (U.setTop g).frames = (.java g :: mid) ++ below := by rw [State.frames_setTop' g h.top, hmid]; rfl
  obtain ⟨o, s₂, hsteps, -, hend, hq⟩ := gh_call0 hM p X.admits X.cas X.clock (acts := []) hfr h.running (by simpa [State.calling] using h.runnable) (by simpa [State.calling] using h.alone) hn (by show (U.calling g mk a).hears mk (U.setTop g).frames = true; rw [State.frames_setTop' g h.top]; simp [State.hears, hcodeC, hdg, Except.toOption]) hroom (fun w hw => by
    have q := h1 w hw
    show w.before a (U.calling g mk a) = true
    rw [State.calling_eq h.top, Cond.before_setFrames]
    exact q) hPc
  have hq' : vx_Q Qc XC mc ms free a (U.calling g mk a) o s₂ := hq
  rw [State.frames_setTop' g h.top] at hend
  obtain ⟨g₀, hg0⟩ := Option.isSome_iff_exists.mp h.top
  obtain ⟨r, hr⟩ := State.topJava?_eq_some.mp hg0
  have hr' : (({ U with heap := s₂.heap, slotsUsed := s₂.slotsUsed } : State).setVm s₂.vm).frames = .java g₀ :: r := hr
  rcases hq' with ⟨hqc, L, hfe, hL⟩ | ⟨q, rfl, E, ce, L, hx, hce, hcv, hcl, hW₂, hsm, hL⟩
  · obtain ⟨⟨v, rfl⟩, hW₂, e2, q2, q3, q4, q5, q6⟩ := id hfe
    have e3 : s₂ = ({ (U.calling g mk a).setFrames s₂.frames with heap := s₂.heap, slotsUsed := s₂.slotsUsed } : State).setVm s₂.vm := by
      have : s₂ = ({ s₂ with vm := (U.calling g mk a).vm } : State).setVm s₂.vm := rfl
      rw [e2] at this
      exact this
    obtain ⟨c₂, i₂, len₂, hc₂, hd₂, hf₂⟩ := hend
    have hW' : U.WarmedH s₂.vm := hW₂
    have hcc : c₂ = c := by
      have h1 : s₂.code? g.method = U.code? g.method := by
        rw [State.code?_eq, State.code?_eq, hW'.alike.method?]
      exact Option.some.inj (hc₂.symm.trans (h1.trans h.code))
    subst hcc
    have hlen : len₂ = len := by rw [hdg] at hd₂; cases hd₂; rfl
    subst hlen
    have hs₂ : s₂ = (({ U with heap := s₂.heap, slotsUsed := s₂.slotsUsed } : State).setVm s₂.vm).setTop { g with pc := g.pc + len₂, stack := v.toList ++ g.stack } := by
      refine e3.trans ?_
      rw [hf₂, State.calling_eq h.top, State.setFrames_setFrames, State.setTop_of_frames _ hr', hr]
      rfl
    have hsame : U.sameButNew ({ U with heap := s₂.heap, slotsUsed := s₂.slotsUsed } : State) L mc ms := by
      refine ⟨?_, q2, q3, q4, q5, q6⟩
      obtain ⟨t, ht, -⟩ := State.frames_cons hr
      show ({ U with heap := s₂.heap, slotsUsed := s₂.slotsUsed } : State) = { U.setFrames U.frames with heap := s₂.heap, slotsUsed := s₂.slotsUsed }
      rw [State.setFrames_self ht]
    subst hg
    refine Or.inl ⟨v, ⟨(({ U with heap := s₂.heap, slotsUsed := s₂.slotsUsed } : State).setVm s₂.vm), Ls ++ L, c0 + mc, s0 + ms⟩,
      ⟨X.admits, X.cas, X.clock, X.frames, X.room, X.hears, X.method, X.code, (X.here.setHeapUsed s₂.heap s₂.slotsUsed).setVm hW'.alike, X.tail, State.WarmedH.trans X.warmed hW', X.limits, X.bytes, X.same.trans (hsame.setVm s.vm)⟩,
      ⟨g, mk, s₂, L, rfl, rfl, hqc, rfl, hL, rfl, rfl⟩, ?_⟩
    show Steps p.tables e below _ ((({ U with heap := s₂.heap, slotsUsed := s₂.slotsUsed } : State).setVm s₂.vm).setTop { g with pc := g.pc + len₂, stack := v.toList ++ g.stack })
    rw [← hs₂]
    exact hsteps
  · obtain ⟨e2, q2, q3, q4, q5, q6⟩ := id hsm
    have e3 : s₂ = ({ (U.calling g mk a).setFrames s₂.frames with heap := s₂.heap, slotsUsed := s₂.slotsUsed } : State).setVm s₂.vm := by
      have : s₂ = ({ s₂ with vm := (U.calling g mk a).vm } : State).setVm s₂.vm := rfl
      rw [e2] at this
      exact this
    have hf₂ : s₂.frames = .throwing q :: .java g :: U.frames.tail := hend
    have hW' : U.WarmedH s₂.vm := hW₂
    have hs₂ : s₂ = ((({ U with heap := s₂.heap, slotsUsed := s₂.slotsUsed } : State).setVm s₂.vm).setTop g).pushFrame (.throwing q) := by
      refine e3.trans ?_
      rw [hf₂, State.calling_eq h.top, State.setFrames_setFrames, State.pushFrame, State.frames_setTop _ hr', State.setTop_of_frames _ hr', State.setFrames_setFrames, hr]
      rfl
    have hsame : U.sameButNew ({ U with heap := s₂.heap, slotsUsed := s₂.slotsUsed } : State) L mc ms := by
      refine ⟨?_, q2, q3, q4, q5, q6⟩
      obtain ⟨t, ht, -⟩ := State.frames_cons hr
      show ({ U with heap := s₂.heap, slotsUsed := s₂.slotsUsed } : State) = { U.setFrames U.frames with heap := s₂.heap, slotsUsed := s₂.slotsUsed }
      rw [State.setFrames_self ht]
    subst hg
    refine Or.inr ⟨q, ⟨(({ U with heap := s₂.heap, slotsUsed := s₂.slotsUsed } : State).setVm s₂.vm), Ls ++ L, c0 + mc, s0 + ms⟩,
      ⟨X.admits, X.cas, X.clock, X.frames, X.room, X.hears, X.method, X.code, (X.here.setHeapUsed s₂.heap s₂.slotsUsed).setVm hW'.alike, X.tail, State.WarmedH.trans X.warmed hW', X.limits, X.bytes, X.same.trans (hsame.setVm s.vm)⟩,
      ⟨g, mk, s₂, L, E, ce, rfl, rfl, hx, hce, hcv, hcl, rfl, hL, rfl, rfl⟩, ?_⟩
    show Steps p.tables e below _ (((({ U with heap := s₂.heap, slotsUsed := s₂.slotsUsed } : State).setVm s₂.vm).setTop g).pushFrame (.throwing q))
    rw [← hs₂]
    exact hsteps
theorem gh_ofWF {y : MethodName} {ws ws' : List Cond} {rm : Room} {Pc : Array Value → State → Prop} {Qc : Array Value → State → Outcome → State → Prop} {XC : String → State → State → Prop} {mc ms : Nat} {free : Addr → Prop} {cc : ByteArray} {maxL : Nat} {ret : Option FieldType}
    (hy : plainFor y = true) (hw : ws = Cond.code y cc maxL ret :: ws')
    (body : ∀ p e s m args below meth c s₁, BodyLoose p l y (headSpec ws rm) cc maxL ret e s m args below meth c s₁ → c.maxLocals = maxL → (∀ x ∈ c.exceptionTable.toList, False) → Pc args s →
      W p l e (headSpec ws rm).room s m args below meth c s.heap [] 0 0 (vx_MQ below Qc XC args s mc ms free) (entryFrame m args maxL)) : vx_Met l y ws rm Pc Qc XC mc ms free := by
  refine MetFree.of_bodySF (code := cc) (maxLocals := maxL) (ret := ret) hy ?_ ?_
  · intro args s m h hn
    obtain ⟨meth, c, h1, h2, h3, h4, h5, h6, -, -⟩ := Cond.code_spec hn (atoms_spec (ws := ws) h _ (by rw [hw]; exact List.mem_cons_self))
    exact ⟨meth, c, h1, h2, h3, h4, h5, h6⟩
  · intro p e s m args below meth c s₁ B hml hP _
    have hh0 : s₁.heap = s.heap := by rw [B.state]; rfl
    have ht : ∀ x ∈ c.exceptionTable.toList, False := by
      obtain ⟨meth9, c9, h1, h2, -, -, -, -, h7, -⟩ := Cond.code_spec B.named (atoms_spec (ws := ws) B.pre _ (by rw [hw]; exact List.mem_cons_self))
      cases Option.some.inj (h1.symm.trans B.method)
      cases Option.some.inj (h2.symm.trans (Stand.of_body B).code)
      intro x hx
      rw [Array.isEmpty_iff.mp h7] at hx
      cases hx
    obtain ⟨t, a1, o, b1, b2, b3⟩ := body p e s m args below meth c s₁ B hml ht hP s₁ hh0 (Stand.of_body B)
    exact ⟨t, o, a1, b1, b2, b3⟩
theorem gh_ofW0 {ws ws' : List Cond} {rm : Room} {Pc : Array Value → State → Prop} {Qc : Array Value → State → Outcome → State → Prop} {XC : String → State → State → Prop} {mc ms : Nat} {free : Addr → Prop} {cc : ByteArray} {maxL : Nat} {ret : Option FieldType} (hy : plainName y.cls = true) (hw : ws = Cond.code y cc maxL ret :: ws')
    (body : ∀ (p : Program) (e : Env) (s : State) (m : MethodId) (args : Array Value) (below : List Frame) (meth : Method) (c : Code), p.tables.exec = Jvm.exec → s.methodNamed? y = some m → meth.sig.returnType = ret → meth.locks = false → c.code = cc → c.maxLocals = maxL → (∀ w ∈ ws, w.before args s = true) → (∀ x ∈ c.exceptionTable.toList, False) → Pc args s →
      W p l e (headSpec ws rm).room s m args below meth c s.heap [] 0 0 (vx_MQ below Qc XC args s mc ms free) (entryFrame m args maxL)) : gh_Met0 l y ws rm Pc Qc XC mc ms free := by
  intro p e ha hc hk s m args below hf hrun hable halone hname hhears hroom hpre hP
  obtain ⟨meth, c, hmeth, hcode, hbytes, hlocals, hret, hlocks, h7, -⟩ := Cond.code_spec hname (hpre _ (by rw [hw]; exact List.mem_cons_self))
  have hcur := State.cur_lt_of_frames hf
  have hf1 : (s.setFrames (.java (entryFrame m args maxL) :: below)).frames = .java (entryFrame m args maxL) :: below := State.frames_setFrames _ hcur
  have ht1 := State.topJava?_of_frames hf1
  have hplain : (s.setFrames (.java (entryFrame m args maxL) :: below)).plainMethod m := State.plainMethod.of_named (s := s) (plainFor_of_name hy) hname hmeth
  have hAt : At (s.setFrames (.java (entryFrame m args maxL) :: below)) m c below :=
    ⟨by rw [ht1]; rfl, ⟨[], by rw [hf1]; rfl⟩, hrun, by simpa using hable, by simpa using halone,
      by rw [State.code?_eq]; simp [State.setFrames, hmeth, hcode], hplain⟩
  have hstep : (stepThread p.tables e s).1 = (s.setFrames (.java (entryFrame m args maxL) :: below)).setTop (entryFrame m args maxL) := by
    have hfull : e.platform.stackFull (s.setFrames below).me (s.setFrames below).frames c.maxLocals = false := by
      obtain ⟨-, h1, -, h2⟩ := State.hasRoom_stack hroom
      rw [hf, List.length_cons] at h1
      rw [State.localsInUse_invoking hf hmeth hcode] at h2
      have hw := stackUse_le_stackWeight below
      rw [State.frames_setFrames _ hcur]
      exact Platform.stackFull_eq_false (by rw [State.stackLimits_setFrames]; omega) (by rw [State.stackLimits_setFrames]; omega)
    rw [stepThread_invoking hf, (doInvoke_java (s := s.setFrames below) (e := e) (meth := meth) (code := c) hmeth hcode hlocks hfull).1, State.setTop_self ht1]
    simp only [State.pushFrame, State.frames_setFrames _ hcur, State.setFrames_setFrames, hlocals, entryFrame]
  have htb : ∀ x ∈ c.exceptionTable.toList, False := by
    intro x hx
    rw [Array.isEmpty_iff.mp h7] at hx
    cases hx
  obtain ⟨t0, ht0, -⟩ := State.frames_cons hf
  have hX : Stand p l e (headSpec ws rm).room s m args below meth c (s.setFrames (.java (entryFrame m args maxL) :: below)) [] 0 0 :=
    ⟨ha, hc, hk, hf, hroom, hhears, hmeth, hcode, hAt, by rw [hf1]; rfl, State.WarmedH.refl s, by rw [State.stackLimits_setFrames], by rw [State.stackBytes_setFrames], (State.sameButNew.refl s ht0).setFrames (.java (entryFrame m args maxL) :: below) hcur⟩
  obtain ⟨s₂, hs, o, hr, he, hp⟩ := body p e s m args below meth c (by cases p <;> rfl) hname hret hlocks hbytes hlocals hpre htb hP (s.setFrames (.java (entryFrame m args maxL) :: below)) rfl hX
  obtain ⟨n, hn, hw⟩ := Steps.head (tb := p.tables) (e := e) ⟨hrun, hable, halone⟩ ⟨[.invoking m args], hf, by simp, by simp⟩ (hstep ▸ hs)
  exact ⟨n, o, hw, hn ▸ hr, hn ▸ he, hn ▸ hp⟩
end
section
variable {D : gh_D} {p : Program} {l : Launch} {e : Env} {R : Room} {s : State} {m : MethodId} {args : Array Value} {below : List Frame} {meth : Method} {c : Code} {H : Heap} {locs : List Loc} {cells slots : Nat} {Q : State → Prop}
variable {own : String} {cc : ByteArray} {nL : Nat} {A : Nat → Prop} {h0 h : gh_H} {pc : Nat} {ls : Array Slot} {rest st0 : List Value}
theorem gh_runU0 (M : gh_M D p l s m args meth c own cc nL A) {x y : MethodName} {bytes : ByteArray} {maxL mc ms n index : Nat} {ret : Option FieldType} {ws ws' : List Cond} {rm : Room} {Pc : Array Value → State → Prop} {Qc : Array Value → State → Outcome → State → Prop} {XC : String → State → State → Prop} {free : Addr → Prop} {C owner : String} {b : Addr} {As : List Value}
    (hM : gh_Met0 l y ws rm Pc Qc XC mc ms free) (hG : GoodIn lw_all ws) (hw : ws = Cond.code y bytes maxL ret :: ws') (hrc : rm.cells = mc) (hrs : rm.slots = ms) (hR : rm.frames + 1 ≤ R.frames ∧ 8 + (maxL + 11) + rm.locals ≤ R.locals)
    (hlink : Cond.methodLink own index x ∈ lw_all) (hsame : Cond.sameMethod x.cls owner x.name x.desc ∈ lw_all) (hdecl : Cond.declares ⟨owner, x.name, x.desc⟩ ∈ gh_tw) (hsel : Cond.selects C x y ∈ lw_all) (hinst : Cond.instanceMethod y ∈ lw_all)
    (hd : owner ≠ "java/lang/invoke/MethodHandle" ∧ owner ≠ "java/lang/invoke/VarHandle" ∧ (parseMethodDescriptor x.desc).map (fun d => d.parameters.length) = some n) (hp : PreV s H C b Pc As) (hn : As.length = n) (hsize : ls.size = nL) (hstack : st0 = As.reverse ++ .ref b :: rest) (hW : (rest.map fun v => v.category).sum ≤ 8) (hdg : decode cc pc = .ok (.invokevirtual index, 3)) (hf : cells + mc ≤ R.cells ∧ slots + ms ≤ R.slots) :
    vx_Run p l e R s m args below meth c H locs cells slots mc ms (F0 m pc ls st0) rest (Qc (Value.ref b :: As).toArray) XC free := by
  have hts := gh_Mts M
  have hcw : Cond.code y bytes maxL ret ∈ ws := by rw [hw]; exact List.mem_cons_self
  have hK : vx_Back l R p e below s args y 3 8 (PreOf R mc ms Pc) (PostOf Qc mc ms free) (vx_Post XC mc ms free) := gh_back0 (bytes := bytes) (maxL := maxL) (ret := ret) hM hp.1 hrc hrs hR.1 hR.2 (pay_in hts hG) hcw
  obtain ⟨-, ⟨cellB, hcB, hoB, hclB⟩, hPc⟩ := hp
  intro T hT X
  rcases vx_callVU X M.1.1 (C := C) (owner := owner) (bytes := bytes) (maxL := maxL) (ret := ret) M.1.2.2.2.1 (hts _ hlink) (hts _ hsame) (va_Decl.abs (M.2.2.1.1 _ hdecl)) ⟨hd.1, hd.2.1⟩ (hts _ hsel) (hts _ hinst) (hts _ (hG _ hcw).1) hK (by rw [hT]; exact hcB) hoB hclB (g := F0 m pc ls st0) rfl (hsize.trans M.1.2.2.1.symm) (argsL := As) (rest := rest) (fun sig h => by
      have h2 := hd.2.2
      rw [h] at h2
      exact hn.trans (Option.some.inj h2).symm) hstack (lv_room hW) (by rw [M.1.2.1]; exact hdg)
    (fun vm₁ hW₁ => ⟨hf.1, hf.2, hPc (T.setVm vm₁) hT hW₁⟩) with ⟨v, vm₁, ⟨U', l2, c2, s2⟩, hW₁, X', ⟨g', mk, t, L, e1, e2, hq, h1, hL, h2, h3⟩, st⟩ | ⟨q, vm₁, ⟨U', l2, c2, s2⟩, hW₁, X', ⟨g', mk, t, L, E, ce, e1, e2, hq, hce, hcv, hcl, h1, hL, h2, h3⟩, st⟩
  · dsimp only [Pt.U, Pt.locs, Pt.cells, Pt.slots] at X' e1 e2 h1 h2 h3 st
    subst h1; subst h2; subst h3
    exact Or.inl ⟨v, (T.setVm vm₁).calling g' mk (Value.ref b :: As).toArray, t, U', L, hT, X', hL, e1, e2, hq, st⟩
  · dsimp only [Pt.U, Pt.locs, Pt.cells, Pt.slots] at X' e1 e2 h1 h2 h3 st hcl
    subst h1; subst h2; subst h3
    exact Or.inr ⟨q, (T.setVm vm₁).calling g' mk (Value.ref b :: As).toArray, t, U', L, E, ce, hT, X', hL, e1, e2, hq, hce, hcv, vx_cls hW₁ hcl, st⟩
end
