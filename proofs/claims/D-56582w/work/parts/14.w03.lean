set_option maxRecDepth 100000
/-! BinderyDeskModel.voids (II)I -/
theorem fl_X3_97 : gh_FL RX3 97 [(1, 10)] := by
  intro args s hts tb q hq
  simp only [List.mem_cons, List.not_mem_nil, or_false] at hq
  subst hq
  exact ⟨_, "BinderyDeskModel", rfl, by decide, Or.inl (hts _ q1579), (fun x h => h)⟩
theorem fp_X3_97 : gh_FP RX3 97 [(1, 10)] (.long) false := by
  refine ⟨fl_X3_97, fun q hq => ?_⟩
  simp only [List.mem_cons, List.not_mem_nil, or_false] at hq
  subst hq
  exact ⟨_, rfl, rfl, by decide +kernel, fun h => by cases h⟩
def rm_X3_voids : Room := { frames := 1, cells := 0, slots := 0, locals := 40 }
def wp_X3_voids (κ : Nat → Nat) (v0 : Nat) (v1 : Int32) (v2 : Int32) (Q : Int32 → gh_H → Prop) (X : String → gh_H → Prop) (h : gh_H) : Prop := (gh_GR h (some v0) [(1, 16)] (fun x1 => (gh_LI h x1 (((8 : Int32) * v1) + v2) (fun x2 => (gh_GR h (some v0) [(1, 16)] (fun x3 => (gh_SI h x3 (((8 : Int32) * v1) + v2) (0 : Int32) (fun h4 => (gh_GJ h4 (some v0) [(1, 10)] (fun x5 => (gh_PV h4 (some v0) [(1, 10)] (.long (x5 + (x2.toInt64))) (fun h6 => (Q x2 h6)))))))))))))
set_option maxHeartbeats 4000000 in
theorem met_X3_voids (l : Launch) (D : gh_D) (v0 : Nat) (v1 : Int32) (v2 : Int32) (Q : Int32 → gh_H → Prop) (X : String → gh_H → Prop) (h : gh_H) (sz : Nat) (hw : wp_X3_voids D.2.2 v0 v1 v2 Q X h) (hst : l.stackTraces = false) : vx_Met l yX3_voids (ws_ yX3_voids cX3_voids 4 (some .int)) rm_X3_voids (gh_Pc D h sz [.ref v0, .int v1, .int v2]) (gh_Qi Q D h sz) (gh_X X D h sz) 0 0 (gh_A h sz) := by
  refine vx_ofW (by decide) rfl (fun p e s m args below meth c s₁ B hml hex hP => ?_)
  obtain ⟨rfl, rfl, hK, hT, hE, G⟩ := gh_start hP
  have M : gh_M D p l s m _ meth c RX3 cX3_voids 4 (gh_A h s.heap.size) := ⟨⟨B.exec, B.bytes, hml, findClass_of_methodNamed B.named, fun w hw => atoms_spec (ws := ws_ yX3_voids cX3_voids 4 (some .int)) B.pre w (List.mem_cons_of_mem _ hw)⟩, hK, hT, hE, B.notSynchronized, hst⟩
  have hr := B.returns
  have hx := M.1.1
  have hb := M.1.2.1
  refine gh_enter (vs := [(1, .ref v0), (1, .int v1), (1, .int v2)]) (gh_w1 rfl (gh_w1 rfl (gh_w1 rfl gh_wn))) (Nat.le_of_ble_eq_true rfl) (fun ls hl => ?_)
  replace hl : gh_L ls 4 [(0, 1, va_rf (some v0)), (1, 1, .int v1), (2, 1, .int v2)] := hl
  unfold wp_X3_voids at hw
  refine gh_aload_n hx hb dX3_voids_0 rfl (gh_at hl 0 rfl) ?_
  refine gh_getR M G hw fl_X3_22 dX3_voids_1 (fun x1 hw => ?_)
  refine lv_bipush (v := (8 : Int32)) hx hb dX3_voids_4 (by decide) ?_
  refine lv_iload_n hx hb dX3_voids_6 rfl (gh_at hl 1 rfl) ?_
  refine lv_imul hx hb dX3_voids_7 ?_
  refine lv_iload_n hx hb dX3_voids_8 rfl (gh_at hl 2 rfl) ?_
  refine lv_iadd hx hb dX3_voids_9 ?_
  refine gh_ial M G hw dX3_voids_10 (fun x2 hw => ?_)
  refine gh_istore_n (lv' := [(3, 1, .int x2), (0, 1, va_rf (some v0)), (1, 1, .int v1), (2, 1, .int v2)]) hx hb dX3_voids_11 rfl hl (by decide) rfl (fun ls hl => ?_)
  refine gh_aload_n hx hb dX3_voids_12 rfl (gh_at hl 1 rfl) ?_
  refine gh_getR M G hw fl_X3_22 dX3_voids_13 (fun x3 hw => ?_)
  refine lv_bipush (v := (8 : Int32)) hx hb dX3_voids_16 (by decide) ?_
  refine lv_iload_n hx hb dX3_voids_18 rfl (gh_at hl 2 rfl) ?_
  refine lv_imul hx hb dX3_voids_19 ?_
  refine lv_iload_n hx hb dX3_voids_20 rfl (gh_at hl 3 rfl) ?_
  refine lv_iadd hx hb dX3_voids_21 ?_
  refine lv_iconst (v := (0 : Int32)) hx hb dX3_voids_22 (by decide) ?_
  refine gh_ias M G hw dX3_voids_23 (fun h4 H locs hw G => ?_)
  refine gh_aload_n hx hb dX3_voids_24 rfl (gh_at hl 1 rfl) ?_
  refine lv_dup hx hb dX3_voids_25 (gh_cat _) ?_
  refine gh_getJ M G hw fl_X3_97 dX3_voids_26 (fun x5 hw => ?_)
  refine lv_iload_n hx hb dX3_voids_29 rfl (gh_at hl 0 rfl) ?_
  refine lv_i2l (v := (x2.toInt64)) hx hb dX3_voids_30 rfl ?_
  refine lv_ladd hx hb dX3_voids_31 ?_
  refine gh_put M G hw fp_X3_97 rfl rfl dX3_voids_32 (fun h6 H locs hw G => ?_)
  refine lv_iload_n hx hb dX3_voids_35 rfl (gh_at hl 0 rfl) ?_
  exact gh_iret M G hr rfl hw (by exact Nat.le_of_ble_eq_true rfl) (by exact Nat.le_of_ble_eq_true rfl) dX3_voids_36
/-! BinderyDeskModel.correct (I)I -/
theorem fl_X3_68 : gh_FL RX3 68 [(1, 2)] := by
  intro args s hts tb q hq
  simp only [List.mem_cons, List.not_mem_nil, or_false] at hq
  subst hq
  exact ⟨_, "BinderyDeskModel", rfl, by decide, Or.inl (hts _ q1571), (fun x h => h)⟩
def rm_X3_correct : Room := { frames := 4, cells := 0, slots := 0, locals := 111 }
def wb_X3_correct_108 (κ : Nat → Nat) (K48 : Nat → Int32 → Int32 → Int32 → gh_H → Prop) (Q : Int32 → gh_H → Prop) (X : String → gh_H → Prop) (v0 : Nat) (v1 : Int32) (v2 : Int32) (v3 : Int32) (h : gh_H) : Prop := K48 v0 v1 v2 (v3 + (1 : Int32)) h
def wb_X3_correct_100 (κ : Nat → Nat) (K48 : Nat → Int32 → Int32 → Int32 → gh_H → Prop) (K59 : Nat → Int32 → Int32 → Int32 → Int32 → gh_H → Prop) (Q : Int32 → gh_H → Prop) (X : String → gh_H → Prop) (v0 : Nat) (v1 : Int32) (v3 : Int32) (v4 : Int32) (t0 : Int32) (t1 : Int32) (h : gh_H) : Prop := K59 v0 v1 (t0 + t1) v3 (v4 + (1 : Int32)) h
def wb_X3_correct_59 (κ : Nat → Nat) (K48 : Nat → Int32 → Int32 → Int32 → gh_H → Prop) (K59 : Nat → Int32 → Int32 → Int32 → Int32 → gh_H → Prop) (Q : Int32 → gh_H → Prop) (X : String → gh_H → Prop) (v0 : Nat) (v1 : Int32) (v2 : Int32) (v3 : Int32) (v4 : Int32) (h : gh_H) : Prop := (gh_RC h (some v0) 1 (fun _ => (wp_X3_isWhole κ v0 v3 (fun r2 h3 => ((r2 = 0 → wb_X3_correct_108 κ K48 Q X v0 v1 v2 v3 h3) ∧ (¬ r2 = 0 → (gh_RC h3 (some v0) 1 (fun _ => (wp_X3_count κ v0 v3 (fun r5 h6 => ((r5 ≤ v4 → wb_X3_correct_108 κ K48 Q X v0 v1 v2 v3 h6) ∧ (¬ r5 ≤ v4 → (gh_RC h6 (some v0) 1 (fun _ => (wp_X3_isShown κ v0 v3 v4 v1 (fun r8 h9 => ((r8 = 0 → wb_X3_correct_100 κ K48 K59 Q X v0 v1 v3 v4 v2 (0 : Int32) h9) ∧ (¬ r8 = 0 → (gh_RC h9 (some v0) 1 (fun _ => (wp_X3_voids κ v0 v3 v4 (fun r11 h12 => wb_X3_correct_100 κ K48 K59 Q X v0 v1 v3 v4 v2 r11 h12) X h9)))))) X h6)))))) X h3)))))) X h)))
def wl_X3_correct_59 (κ : Nat → Nat) (K48 : Nat → Int32 → Int32 → Int32 → gh_H → Prop) (Q : Int32 → gh_H → Prop) (X : String → gh_H → Prop) : Nat → Nat → Int32 → Int32 → Int32 → Int32 → gh_H → Prop
  | 0 => fun _ _ _ _ _ _ => False
  | n + 1 => fun v0 v1 v2 v3 v4 h => wb_X3_correct_59 κ K48 (wl_X3_correct_59 κ K48 Q X n) Q X v0 v1 v2 v3 v4 h
def wb_X3_correct_48 (κ : Nat → Nat) (K48 : Nat → Int32 → Int32 → Int32 → gh_H → Prop) (Q : Int32 → gh_H → Prop) (X : String → gh_H → Prop) (v0 : Nat) (v1 : Int32) (v2 : Int32) (v3 : Int32) (h : gh_H) : Prop := (gh_GI h (some v0) [(1, 2)] (fun x1 => ((x1 ≤ v3 → (Q v2 h)) ∧ (¬ x1 ≤ v3 → (∃ n : Nat, wl_X3_correct_59 κ K48 Q X n v0 v1 v2 v3 (0 : Int32) h)))))
def wl_X3_correct_48 (κ : Nat → Nat)  (Q : Int32 → gh_H → Prop) (X : String → gh_H → Prop) : Nat → Nat → Int32 → Int32 → Int32 → gh_H → Prop
  | 0 => fun _ _ _ _ _ => False
  | n + 1 => fun v0 v1 v2 v3 h => wb_X3_correct_48 κ (wl_X3_correct_48 κ Q X n) Q X v0 v1 v2 v3 h
def wp_X3_correct (κ : Nat → Nat) (v0 : Nat) (v1 : Int32) (Q : Int32 → gh_H → Prop) (X : String → gh_H → Prop) (h : gh_H) : Prop := (gh_RC h (some v0) 1 (fun _ => (wp_X3_isContent κ v0 v1 (fun r2 h3 => ((r2 = 0 → (Q (0 : Int32) h3)) ∧ (¬ r2 = 0 → (gh_GR h3 (some v0) [(1, 12)] (fun x4 => (gh_LI h3 x4 v1 (fun x5 => ((x5 = (99 : Int32) → (gh_RC h3 (some v0) 1 (fun _ => (wp_X3_fails κ v0 (2 : Int32) (fun r12 h13 => (Q r12 h13)) X h3)))) ∧ (¬ x5 = (99 : Int32) → (gh_GR h3 (some v0) [(1, 12)] (fun x6 => (gh_LI h3 x6 v1 (fun x7 => (gh_SI h3 x6 v1 (x7 + (1 : Int32)) (fun h8 => (gh_GR h8 (some v0) [(1, 17)] (fun x9 => (gh_SZ h8 x9 v1 (0 : Int32) (fun h10 => (∃ n : Nat, wl_X3_correct_48 κ Q X n v0 v1 (0 : Int32) (0 : Int32) h10)))))))))))))))))))) X h)))
set_option maxHeartbeats 4000000 in
theorem wk_X3_correct_108 {D : gh_D} {p : Program} {l : Launch} {e : Env} {s : State} {m : MethodId} {args : Array Value} {below : List Frame} {meth : Method} {c : Code} {h0 : gh_H} (M : gh_M D p l s m args meth c RX3 cX3_correct 5 (gh_A h0 s.heap.size)) (hr : meth.sig.returnType = (some .int)) (hex : ∀ x ∈ c.exceptionTable.toList, False) {K48 : Nat → Int32 → Int32 → Int32 → gh_H → Prop}  {Q : Int32 → gh_H → Prop} {X : String → gh_H → Prop} (k48 : ∀ (v0 : Nat) (v1 : Int32) (v2 : Int32) (v3 : Int32) (H : Heap) (locs : List Loc) (ls : Array Slot) (h : gh_H) (_ : gh_Inv D h0 (gh_A h0 s.heap.size) s.heap s H locs h) (_ : gh_L ls 5 [(0, 1, va_rf (some v0)), (1, 1, .int v1), (2, 1, .int v2), (3, 1, .int v3)]) (_ : K48 v0 v1 v2 v3 h), W p l e rm_X3_correct s m args below meth c H locs 0 0 (vx_MQ below (gh_Qi Q D h0 s.heap.size) (gh_X X D h0 s.heap.size) args s 0 0 (gh_A h0 s.heap.size)) (F0 m 48 ls []))  (v0 : Nat) (v1 : Int32) (v2 : Int32) (v3 : Int32) (H : Heap) (locs : List Loc) (ls : Array Slot) (h : gh_H) (G : gh_Inv D h0 (gh_A h0 s.heap.size) s.heap s H locs h) (hl : gh_L ls 5 [(0, 1, va_rf (some v0)), (1, 1, .int v1), (2, 1, .int v2), (3, 1, .int v3)]) (hw : wb_X3_correct_108 D.2.2 K48 Q X v0 v1 v2 v3 h) : W p l e rm_X3_correct s m args below meth c H locs 0 0 (vx_MQ below (gh_Qi Q D h0 s.heap.size) (gh_X X D h0 s.heap.size) args s 0 0 (gh_A h0 s.heap.size)) (F0 m 108 ls []) := by
  unfold wb_X3_correct_108 at hw
  have hx := M.1.1
  have hb := M.1.2.1
  refine gh_iinc (k := 3) (v := (v3 + (1 : Int32))) (lv' := [(3, 1, .int (v3 + (1 : Int32))), (0, 1, va_rf (some v0)), (1, 1, .int v1), (2, 1, .int v2)]) hx hb dX3_correct_108 hl rfl rfl (by decide) rfl (fun ls hl => ?_)
  refine lv_goto (tgt := 48) hx hb dX3_correct_111 (by decide) ?_
  exact k48 v0 v1 v2 (v3 + (1 : Int32)) _ _ _ _ G (gh_sub hl [1, 2, 3, 0] rfl) hw
set_option maxHeartbeats 4000000 in
theorem wk_X3_correct_100 {D : gh_D} {p : Program} {l : Launch} {e : Env} {s : State} {m : MethodId} {args : Array Value} {below : List Frame} {meth : Method} {c : Code} {h0 : gh_H} (M : gh_M D p l s m args meth c RX3 cX3_correct 5 (gh_A h0 s.heap.size)) (hr : meth.sig.returnType = (some .int)) (hex : ∀ x ∈ c.exceptionTable.toList, False) {K48 : Nat → Int32 → Int32 → Int32 → gh_H → Prop} {K59 : Nat → Int32 → Int32 → Int32 → Int32 → gh_H → Prop}  {Q : Int32 → gh_H → Prop} {X : String → gh_H → Prop} (k48 : ∀ (v0 : Nat) (v1 : Int32) (v2 : Int32) (v3 : Int32) (H : Heap) (locs : List Loc) (ls : Array Slot) (h : gh_H) (_ : gh_Inv D h0 (gh_A h0 s.heap.size) s.heap s H locs h) (_ : gh_L ls 5 [(0, 1, va_rf (some v0)), (1, 1, .int v1), (2, 1, .int v2), (3, 1, .int v3)]) (_ : K48 v0 v1 v2 v3 h), W p l e rm_X3_correct s m args below meth c H locs 0 0 (vx_MQ below (gh_Qi Q D h0 s.heap.size) (gh_X X D h0 s.heap.size) args s 0 0 (gh_A h0 s.heap.size)) (F0 m 48 ls [])) (k59 : ∀ (v0 : Nat) (v1 : Int32) (v2 : Int32) (v3 : Int32) (v4 : Int32) (H : Heap) (locs : List Loc) (ls : Array Slot) (h : gh_H) (_ : gh_Inv D h0 (gh_A h0 s.heap.size) s.heap s H locs h) (_ : gh_L ls 5 [(0, 1, va_rf (some v0)), (1, 1, .int v1), (2, 1, .int v2), (3, 1, .int v3), (4, 1, .int v4)]) (_ : K59 v0 v1 v2 v3 v4 h), W p l e rm_X3_correct s m args below meth c H locs 0 0 (vx_MQ below (gh_Qi Q D h0 s.heap.size) (gh_X X D h0 s.heap.size) args s 0 0 (gh_A h0 s.heap.size)) (F0 m 59 ls []))  (v0 : Nat) (v1 : Int32) (v3 : Int32) (v4 : Int32) (t0 : Int32) (t1 : Int32) (H : Heap) (locs : List Loc) (ls : Array Slot) (h : gh_H) (G : gh_Inv D h0 (gh_A h0 s.heap.size) s.heap s H locs h) (hl : gh_L ls 5 [(0, 1, va_rf (some v0)), (1, 1, .int v1), (3, 1, .int v3), (4, 1, .int v4)]) (hw : wb_X3_correct_100 D.2.2 K48 K59 Q X v0 v1 v3 v4 t0 t1 h) : W p l e rm_X3_correct s m args below meth c H locs 0 0 (vx_MQ below (gh_Qi Q D h0 s.heap.size) (gh_X X D h0 s.heap.size) args s 0 0 (gh_A h0 s.heap.size)) (F0 m 100 ls [.int t1, .int t0]) := by
  unfold wb_X3_correct_100 at hw
  have hx := M.1.1
  have hb := M.1.2.1
  refine lv_iadd hx hb dX3_correct_100 ?_
  refine gh_istore_n (lv' := [(2, 1, .int (t0 + t1)), (0, 1, va_rf (some v0)), (1, 1, .int v1), (3, 1, .int v3), (4, 1, .int v4)]) hx hb dX3_correct_101 rfl hl (by decide) rfl (fun ls hl => ?_)
  refine gh_iinc (k := 4) (v := (v4 + (1 : Int32))) (lv' := [(4, 1, .int (v4 + (1 : Int32))), (2, 1, .int (t0 + t1)), (0, 1, va_rf (some v0)), (1, 1, .int v1), (3, 1, .int v3)]) hx hb dX3_correct_102 hl rfl rfl (by decide) rfl (fun ls hl => ?_)
  refine lv_goto (tgt := 59) hx hb dX3_correct_105 (by decide) ?_
  exact k59 v0 v1 (t0 + t1) v3 (v4 + (1 : Int32)) _ _ _ _ G (gh_sub hl [2, 3, 1, 4, 0] rfl) hw
set_option maxHeartbeats 4000000 in
theorem wk1_X3_correct_59 {D : gh_D} {p : Program} {l : Launch} {e : Env} {s : State} {m : MethodId} {args : Array Value} {below : List Frame} {meth : Method} {c : Code} {h0 : gh_H} (M : gh_M D p l s m args meth c RX3 cX3_correct 5 (gh_A h0 s.heap.size)) (hr : meth.sig.returnType = (some .int)) (hex : ∀ x ∈ c.exceptionTable.toList, False) {K48 : Nat → Int32 → Int32 → Int32 → gh_H → Prop} {K59 : Nat → Int32 → Int32 → Int32 → Int32 → gh_H → Prop}  {Q : Int32 → gh_H → Prop} {X : String → gh_H → Prop} (k48 : ∀ (v0 : Nat) (v1 : Int32) (v2 : Int32) (v3 : Int32) (H : Heap) (locs : List Loc) (ls : Array Slot) (h : gh_H) (_ : gh_Inv D h0 (gh_A h0 s.heap.size) s.heap s H locs h) (_ : gh_L ls 5 [(0, 1, va_rf (some v0)), (1, 1, .int v1), (2, 1, .int v2), (3, 1, .int v3)]) (_ : K48 v0 v1 v2 v3 h), W p l e rm_X3_correct s m args below meth c H locs 0 0 (vx_MQ below (gh_Qi Q D h0 s.heap.size) (gh_X X D h0 s.heap.size) args s 0 0 (gh_A h0 s.heap.size)) (F0 m 48 ls [])) (k59 : ∀ (v0 : Nat) (v1 : Int32) (v2 : Int32) (v3 : Int32) (v4 : Int32) (H : Heap) (locs : List Loc) (ls : Array Slot) (h : gh_H) (_ : gh_Inv D h0 (gh_A h0 s.heap.size) s.heap s H locs h) (_ : gh_L ls 5 [(0, 1, va_rf (some v0)), (1, 1, .int v1), (2, 1, .int v2), (3, 1, .int v3), (4, 1, .int v4)]) (_ : K59 v0 v1 v2 v3 v4 h), W p l e rm_X3_correct s m args below meth c H locs 0 0 (vx_MQ below (gh_Qi Q D h0 s.heap.size) (gh_X X D h0 s.heap.size) args s 0 0 (gh_A h0 s.heap.size)) (F0 m 59 ls []))  (v0 : Nat) (v1 : Int32) (v2 : Int32) (v3 : Int32) (v4 : Int32) (H : Heap) (locs : List Loc) (ls : Array Slot) (h : gh_H) (G : gh_Inv D h0 (gh_A h0 s.heap.size) s.heap s H locs h) (hl : gh_L ls 5 [(0, 1, va_rf (some v0)), (1, 1, .int v1), (2, 1, .int v2), (3, 1, .int v3), (4, 1, .int v4)]) (hw : wb_X3_correct_59 D.2.2 K48 K59 Q X v0 v1 v2 v3 v4 h) : W p l e rm_X3_correct s m args below meth c H locs 0 0 (vx_MQ below (gh_Qi Q D h0 s.heap.size) (gh_X X D h0 s.heap.size) args s 0 0 (gh_A h0 s.heap.size)) (F0 m 59 ls []) := by
  unfold wb_X3_correct_59 at hw
  have hx := M.1.1
  have hb := M.1.2.1
  refine gh_aload_n hx hb dX3_correct_59 rfl (gh_at hl 0 rfl) ?_
  refine lv_iload_n hx hb dX3_correct_60 rfl (gh_at hl 3 rfl) ?_
  obtain ⟨a1, lba1, fsa1, hra1, haa1, hw⟩ := hw
  rw [← Option.some.inj hra1] at haa1
  refine gh_ki G (vx_runV M.1 (met_X3_isWhole l D _ _ _ _ _ _ hw M.2.2.2.2.2) (cwV 1 (gh_Mts M) (lw_V q1676 q1678 qs23 q50 q1679) rfl rfl rfl ⟨rfl, by decide, by decide, rfl⟩ ⟨Nat.le_of_ble_eq_true rfl, Nat.le_of_ble_eq_true rfl⟩) (gh_preV (As := [.int v3]) M G (gh_rec M G haa1 rfl)) rfl rfl hl.1.1 rfl (lv_room (Nat.le_of_ble_eq_true rfl)) dX3_correct_61 ⟨(Nat.le_of_ble_eq_true rfl), (Nat.le_of_ble_eq_true rfl)⟩) (gh_out M hex (by exact Nat.le_of_ble_eq_true rfl) (by exact Nat.le_of_ble_eq_true rfl)) (fun r2 h3 H locs hw G => ?_)
  refine lv_if_eq (tgt := 108) hx hb dX3_correct_64 (by decide) (fun hc => ?_) (fun hc => ?_)
  · replace hw := hw.1 hc
    exact wk_X3_correct_108 M hr hex k48 v0 v1 v2 v3 _ _ _ _ G (gh_sub hl [0, 1, 2, 3] rfl) hw
  · replace hw := hw.2 hc
    refine lv_iload hx hb dX3_correct_67 (gh_at hl 4 rfl) ?_
    refine gh_aload_n hx hb dX3_correct_69 rfl (gh_at hl 0 rfl) ?_
    refine lv_iload_n hx hb dX3_correct_70 rfl (gh_at hl 3 rfl) ?_
    obtain ⟨a4, lba4, fsa4, hra4, haa4, hw⟩ := hw
    rw [← Option.some.inj hra4] at haa4
    refine gh_ki G (vx_runV M.1 (met_X3_count l D _ _ _ _ _ _ hw M.2.2.2.2.2) (cwV 1 (gh_Mts M) (lw_V q1684 q1686 qs25 q50 q1687) rfl rfl rfl ⟨rfl, by decide, by decide, rfl⟩ ⟨Nat.le_of_ble_eq_true rfl, Nat.le_of_ble_eq_true rfl⟩) (gh_preV (As := [.int v3]) M G (gh_rec M G haa4 rfl)) rfl rfl hl.1.1 rfl (lv_room (Nat.le_of_ble_eq_true rfl)) dX3_correct_71 ⟨(Nat.le_of_ble_eq_true rfl), (Nat.le_of_ble_eq_true rfl)⟩) (gh_out M hex (by exact Nat.le_of_ble_eq_true rfl) (by exact Nat.le_of_ble_eq_true rfl)) (fun r5 h6 H locs hw G => ?_)
    refine lv_icmp_ge (tgt := 108) hx hb dX3_correct_74 (by decide) (fun hc => ?_) (fun hc => ?_)
    · replace hw := hw.1 hc
      exact wk_X3_correct_108 M hr hex k48 v0 v1 v2 v3 _ _ _ _ G (gh_sub hl [0, 1, 2, 3] rfl) hw
    · replace hw := hw.2 hc
      refine lv_iload_n hx hb dX3_correct_77 rfl (gh_at hl 2 rfl) ?_
      refine gh_aload_n hx hb dX3_correct_78 rfl (gh_at hl 0 rfl) ?_
      refine lv_iload_n hx hb dX3_correct_79 rfl (gh_at hl 3 rfl) ?_
      refine lv_iload hx hb dX3_correct_80 (gh_at hl 4 rfl) ?_
      refine lv_iload_n hx hb dX3_correct_82 rfl (gh_at hl 1 rfl) ?_
      obtain ⟨a7, lba7, fsa7, hra7, haa7, hw⟩ := hw
      rw [← Option.some.inj hra7] at haa7
      refine gh_ki G (vx_runV M.1 (met_X3_isShown l D _ _ _ _ _ _ _ _ hw M.2.2.2.2.2) (cwV 3 (gh_Mts M) (lw_V q1688 q1690 qs26 q50 q1691) rfl rfl rfl ⟨rfl, by decide, by decide, rfl⟩ ⟨Nat.le_of_ble_eq_true rfl, Nat.le_of_ble_eq_true rfl⟩) (gh_preV (As := [.int v3, .int v4, .int v1]) M G (gh_rec M G haa7 rfl)) rfl rfl hl.1.1 rfl (lv_room (Nat.le_of_ble_eq_true rfl)) dX3_correct_83 ⟨(Nat.le_of_ble_eq_true rfl), (Nat.le_of_ble_eq_true rfl)⟩) (gh_out M hex (by exact Nat.le_of_ble_eq_true rfl) (by exact Nat.le_of_ble_eq_true rfl)) (fun r8 h9 H locs hw G => ?_)
      refine lv_if_eq (tgt := 99) hx hb dX3_correct_86 (by decide) (fun hc => ?_) (fun hc => ?_)
      · replace hw := hw.1 hc
        refine lv_iconst (v := (0 : Int32)) hx hb dX3_correct_99 (by decide) ?_
        exact wk_X3_correct_100 M hr hex k48 k59 v0 v1 v3 v4 v2 (0 : Int32) _ _ _ _ G (gh_sub hl [0, 1, 3, 4] rfl) hw
      · replace hw := hw.2 hc
        refine gh_aload_n hx hb dX3_correct_89 rfl (gh_at hl 0 rfl) ?_
        refine lv_iload_n hx hb dX3_correct_90 rfl (gh_at hl 3 rfl) ?_
        refine lv_iload hx hb dX3_correct_91 (gh_at hl 4 rfl) ?_
        obtain ⟨a10, lba10, fsa10, hra10, haa10, hw⟩ := hw
        rw [← Option.some.inj hra10] at haa10
        refine gh_ki G (vx_runV M.1 (met_X3_voids l D _ _ _ _ _ _ _ hw M.2.2.2.2.2) (cwV 2 (gh_Mts M) (lw_V q1700 q1702 qs29 q50 q1703) rfl rfl rfl ⟨rfl, by decide, by decide, rfl⟩ ⟨Nat.le_of_ble_eq_true rfl, Nat.le_of_ble_eq_true rfl⟩) (gh_preV (As := [.int v3, .int v4]) M G (gh_rec M G haa10 rfl)) rfl rfl hl.1.1 rfl (lv_room (Nat.le_of_ble_eq_true rfl)) dX3_correct_93 ⟨(Nat.le_of_ble_eq_true rfl), (Nat.le_of_ble_eq_true rfl)⟩) (gh_out M hex (by exact Nat.le_of_ble_eq_true rfl) (by exact Nat.le_of_ble_eq_true rfl)) (fun r11 h12 H locs hw G => ?_)
        refine lv_goto (tgt := 100) hx hb dX3_correct_96 (by decide) ?_
        exact wk_X3_correct_100 M hr hex k48 k59 v0 v1 v3 v4 v2 r11 _ _ _ _ G (gh_sub hl [0, 1, 3, 4] rfl) hw
theorem wk_X3_correct_59 {D : gh_D} {p : Program} {l : Launch} {e : Env} {s : State} {m : MethodId} {args : Array Value} {below : List Frame} {meth : Method} {c : Code} {h0 : gh_H} (M : gh_M D p l s m args meth c RX3 cX3_correct 5 (gh_A h0 s.heap.size)) (hr : meth.sig.returnType = (some .int)) (hex : ∀ x ∈ c.exceptionTable.toList, False) {K48 : Nat → Int32 → Int32 → Int32 → gh_H → Prop}  {Q : Int32 → gh_H → Prop} {X : String → gh_H → Prop} (k48 : ∀ (v0 : Nat) (v1 : Int32) (v2 : Int32) (v3 : Int32) (H : Heap) (locs : List Loc) (ls : Array Slot) (h : gh_H) (_ : gh_Inv D h0 (gh_A h0 s.heap.size) s.heap s H locs h) (_ : gh_L ls 5 [(0, 1, va_rf (some v0)), (1, 1, .int v1), (2, 1, .int v2), (3, 1, .int v3)]) (_ : K48 v0 v1 v2 v3 h), W p l e rm_X3_correct s m args below meth c H locs 0 0 (vx_MQ below (gh_Qi Q D h0 s.heap.size) (gh_X X D h0 s.heap.size) args s 0 0 (gh_A h0 s.heap.size)) (F0 m 48 ls []))  : ∀ (n : Nat) (v0 : Nat) (v1 : Int32) (v2 : Int32) (v3 : Int32) (v4 : Int32) (H : Heap) (locs : List Loc) (ls : Array Slot) (h : gh_H) (_ : gh_Inv D h0 (gh_A h0 s.heap.size) s.heap s H locs h) (_ : gh_L ls 5 [(0, 1, va_rf (some v0)), (1, 1, .int v1), (2, 1, .int v2), (3, 1, .int v3), (4, 1, .int v4)]) (_ : wl_X3_correct_59 D.2.2 K48 Q X n v0 v1 v2 v3 v4 h), W p l e rm_X3_correct s m args below meth c H locs 0 0 (vx_MQ below (gh_Qi Q D h0 s.heap.size) (gh_X X D h0 s.heap.size) args s 0 0 (gh_A h0 s.heap.size)) (F0 m 59 ls []) := by
  intro fu
  induction fu with
  | zero => intro v0 v1 v2 v3 v4 H locs ls h G hl hw; exact False.elim hw
  | succ n1 ih =>
    intro v0 v1 v2 v3 v4 H locs ls h G hl hw
    exact wk1_X3_correct_59 M hr hex k48 ih  v0 v1 v2 v3 v4 _ _ _ _ G hl hw
set_option maxHeartbeats 4000000 in
theorem wk1_X3_correct_48 {D : gh_D} {p : Program} {l : Launch} {e : Env} {s : State} {m : MethodId} {args : Array Value} {below : List Frame} {meth : Method} {c : Code} {h0 : gh_H} (M : gh_M D p l s m args meth c RX3 cX3_correct 5 (gh_A h0 s.heap.size)) (hr : meth.sig.returnType = (some .int)) (hex : ∀ x ∈ c.exceptionTable.toList, False) {K48 : Nat → Int32 → Int32 → Int32 → gh_H → Prop}  {Q : Int32 → gh_H → Prop} {X : String → gh_H → Prop} (k48 : ∀ (v0 : Nat) (v1 : Int32) (v2 : Int32) (v3 : Int32) (H : Heap) (locs : List Loc) (ls : Array Slot) (h : gh_H) (_ : gh_Inv D h0 (gh_A h0 s.heap.size) s.heap s H locs h) (_ : gh_L ls 5 [(0, 1, va_rf (some v0)), (1, 1, .int v1), (2, 1, .int v2), (3, 1, .int v3)]) (_ : K48 v0 v1 v2 v3 h), W p l e rm_X3_correct s m args below meth c H locs 0 0 (vx_MQ below (gh_Qi Q D h0 s.heap.size) (gh_X X D h0 s.heap.size) args s 0 0 (gh_A h0 s.heap.size)) (F0 m 48 ls []))  (v0 : Nat) (v1 : Int32) (v2 : Int32) (v3 : Int32) (H : Heap) (locs : List Loc) (ls : Array Slot) (h : gh_H) (G : gh_Inv D h0 (gh_A h0 s.heap.size) s.heap s H locs h) (hl : gh_L ls 5 [(0, 1, va_rf (some v0)), (1, 1, .int v1), (2, 1, .int v2), (3, 1, .int v3)]) (hw : wb_X3_correct_48 D.2.2 K48 Q X v0 v1 v2 v3 h) : W p l e rm_X3_correct s m args below meth c H locs 0 0 (vx_MQ below (gh_Qi Q D h0 s.heap.size) (gh_X X D h0 s.heap.size) args s 0 0 (gh_A h0 s.heap.size)) (F0 m 48 ls []) := by
  unfold wb_X3_correct_48 at hw
  have hx := M.1.1
  have hb := M.1.2.1
  refine lv_iload_n hx hb dX3_correct_48 rfl (gh_at hl 3 rfl) ?_
  refine gh_aload_n hx hb dX3_correct_49 rfl (gh_at hl 0 rfl) ?_
  refine gh_getI M G hw fl_X3_68 dX3_correct_50 (fun x1 hw => ?_)
  refine lv_icmp_ge (tgt := 114) hx hb dX3_correct_53 (by decide) (fun hc => ?_) (fun hc => ?_)
  · replace hw := hw.1 hc
    refine lv_iload_n hx hb dX3_correct_114 rfl (gh_at hl 2 rfl) ?_
    exact gh_iret M G hr rfl hw (by exact Nat.le_of_ble_eq_true rfl) (by exact Nat.le_of_ble_eq_true rfl) dX3_correct_115
  · replace hw := hw.2 hc
    refine lv_iconst (v := (0 : Int32)) hx hb dX3_correct_56 (by decide) ?_
    refine gh_istore (lv' := [(4, 1, .int (0 : Int32)), (0, 1, va_rf (some v0)), (1, 1, .int v1), (2, 1, .int v2), (3, 1, .int v3)]) hx hb dX3_correct_57 hl (by decide) rfl (fun ls hl => ?_)
    obtain ⟨n, hw⟩ := hw
    exact wk_X3_correct_59 M hr hex k48 n v0 v1 v2 v3 (0 : Int32) _ _ _ _ G (gh_sub hl [1, 2, 3, 4, 0] rfl) hw
theorem wk_X3_correct_48 {D : gh_D} {p : Program} {l : Launch} {e : Env} {s : State} {m : MethodId} {args : Array Value} {below : List Frame} {meth : Method} {c : Code} {h0 : gh_H} (M : gh_M D p l s m args meth c RX3 cX3_correct 5 (gh_A h0 s.heap.size)) (hr : meth.sig.returnType = (some .int)) (hex : ∀ x ∈ c.exceptionTable.toList, False)   {Q : Int32 → gh_H → Prop} {X : String → gh_H → Prop}   : ∀ (n : Nat) (v0 : Nat) (v1 : Int32) (v2 : Int32) (v3 : Int32) (H : Heap) (locs : List Loc) (ls : Array Slot) (h : gh_H) (_ : gh_Inv D h0 (gh_A h0 s.heap.size) s.heap s H locs h) (_ : gh_L ls 5 [(0, 1, va_rf (some v0)), (1, 1, .int v1), (2, 1, .int v2), (3, 1, .int v3)]) (_ : wl_X3_correct_48 D.2.2 Q X n v0 v1 v2 v3 h), W p l e rm_X3_correct s m args below meth c H locs 0 0 (vx_MQ below (gh_Qi Q D h0 s.heap.size) (gh_X X D h0 s.heap.size) args s 0 0 (gh_A h0 s.heap.size)) (F0 m 48 ls []) := by
  intro fu
  induction fu with
  | zero => intro v0 v1 v2 v3 H locs ls h G hl hw; exact False.elim hw
  | succ n1 ih =>
    intro v0 v1 v2 v3 H locs ls h G hl hw
    exact wk1_X3_correct_48 M hr hex ih  v0 v1 v2 v3 _ _ _ _ G hl hw
set_option maxHeartbeats 4000000 in
theorem met_X3_correct (l : Launch) (D : gh_D) (v0 : Nat) (v1 : Int32) (Q : Int32 → gh_H → Prop) (X : String → gh_H → Prop) (h : gh_H) (sz : Nat) (hw : wp_X3_correct D.2.2 v0 v1 Q X h) (hst : l.stackTraces = false) : vx_Met l yX3_correct (ws_ yX3_correct cX3_correct 5 (some .int)) rm_X3_correct (gh_Pc D h sz [.ref v0, .int v1]) (gh_Qi Q D h sz) (gh_X X D h sz) 0 0 (gh_A h sz) := by
  refine vx_ofW (by decide) rfl (fun p e s m args below meth c s₁ B hml hex hP => ?_)
  obtain ⟨rfl, rfl, hK, hT, hE, G⟩ := gh_start hP
  have M : gh_M D p l s m _ meth c RX3 cX3_correct 5 (gh_A h s.heap.size) := ⟨⟨B.exec, B.bytes, hml, findClass_of_methodNamed B.named, fun w hw => atoms_spec (ws := ws_ yX3_correct cX3_correct 5 (some .int)) B.pre w (List.mem_cons_of_mem _ hw)⟩, hK, hT, hE, B.notSynchronized, hst⟩
  have hr := B.returns
  have hx := M.1.1
  have hb := M.1.2.1
  refine gh_enter (vs := [(1, .ref v0), (1, .int v1)]) (gh_w1 rfl (gh_w1 rfl gh_wn)) (Nat.le_of_ble_eq_true rfl) (fun ls hl => ?_)
  replace hl : gh_L ls 5 [(0, 1, va_rf (some v0)), (1, 1, .int v1)] := hl
  unfold wp_X3_correct at hw
  refine gh_aload_n hx hb dX3_correct_0 rfl (gh_at hl 0 rfl) ?_
  refine lv_iload_n hx hb dX3_correct_1 rfl (gh_at hl 1 rfl) ?_
  obtain ⟨a1, lba1, fsa1, hra1, haa1, hw⟩ := hw
  rw [← Option.some.inj hra1] at haa1
  refine gh_ki G (vx_runV M.1 (met_X3_isContent l D _ _ _ _ _ _ hw M.2.2.2.2.2) (cwV 1 (gh_Mts M) (lw_V q1665 q1667 qs22 q50 q1668) rfl rfl rfl ⟨rfl, by decide, by decide, rfl⟩ ⟨Nat.le_of_ble_eq_true rfl, Nat.le_of_ble_eq_true rfl⟩) (gh_preV (As := [.int v1]) M G (gh_rec M G haa1 rfl)) rfl rfl hl.1.1 rfl (lv_room (Nat.le_of_ble_eq_true rfl)) dX3_correct_2 ⟨(Nat.le_of_ble_eq_true rfl), (Nat.le_of_ble_eq_true rfl)⟩) (gh_out M hex (by exact Nat.le_of_ble_eq_true rfl) (by exact Nat.le_of_ble_eq_true rfl)) (fun r2 h3 H locs hw G => ?_)
  refine lv_if_ne (tgt := 10) hx hb dX3_correct_5 (by decide) (fun hc => ?_) (fun hc => ?_)
  · replace hw := hw.2 hc
    refine gh_aload_n hx hb dX3_correct_10 rfl (gh_at hl 0 rfl) ?_
    refine gh_getR M G hw fl_X3_7 dX3_correct_11 (fun x4 hw => ?_)
    refine lv_iload_n hx hb dX3_correct_14 rfl (gh_at hl 1 rfl) ?_
    refine gh_ial M G hw dX3_correct_15 (fun x5 hw => ?_)
    refine lv_bipush (v := (99 : Int32)) hx hb dX3_correct_16 (by decide) ?_
    refine lv_icmp_ne (tgt := 27) hx hb dX3_correct_18 (by decide) (fun hc => ?_) (fun hc => ?_)
    · replace hw := hw.2 hc
      refine gh_aload_n hx hb dX3_correct_27 rfl (gh_at hl 0 rfl) ?_
      refine gh_getR M G hw fl_X3_7 dX3_correct_28 (fun x6 hw => ?_)
      refine lv_iload_n hx hb dX3_correct_31 rfl (gh_at hl 1 rfl) ?_
      refine lv_dup2_11 hx hb dX3_correct_32 rfl (gh_cat _) ?_
      refine gh_ial M G hw dX3_correct_33 (fun x7 hw => ?_)
      refine lv_iconst (v := (1 : Int32)) hx hb dX3_correct_34 (by decide) ?_
      refine lv_iadd hx hb dX3_correct_35 ?_
      refine gh_ias M G hw dX3_correct_36 (fun h8 H locs hw G => ?_)
      refine gh_aload_n hx hb dX3_correct_37 rfl (gh_at hl 0 rfl) ?_
      refine gh_getR M G hw fl_X3_25 dX3_correct_38 (fun x9 hw => ?_)
      refine lv_iload_n hx hb dX3_correct_41 rfl (gh_at hl 1 rfl) ?_
      refine lv_iconst (v := (0 : Int32)) hx hb dX3_correct_42 (by decide) ?_
      refine gh_zas M G hw dX3_correct_43 (fun h10 H locs hw G => ?_)
      refine lv_iconst (v := (0 : Int32)) hx hb dX3_correct_44 (by decide) ?_
      refine gh_istore_n (lv' := [(2, 1, .int (0 : Int32)), (0, 1, va_rf (some v0)), (1, 1, .int v1)]) hx hb dX3_correct_45 rfl hl (by decide) rfl (fun ls hl => ?_)
      refine lv_iconst (v := (0 : Int32)) hx hb dX3_correct_46 (by decide) ?_
      refine gh_istore_n (lv' := [(3, 1, .int (0 : Int32)), (2, 1, .int (0 : Int32)), (0, 1, va_rf (some v0)), (1, 1, .int v1)]) hx hb dX3_correct_47 rfl hl (by decide) rfl (fun ls hl => ?_)
      obtain ⟨n, hw⟩ := hw
      exact wk_X3_correct_48 M hr hex  n v0 v1 (0 : Int32) (0 : Int32) _ _ _ _ G (gh_sub hl [2, 3, 1, 0] rfl) hw
    · replace hw := hw.1 hc
      refine gh_aload_n hx hb dX3_correct_21 rfl (gh_at hl 0 rfl) ?_
      refine lv_iconst (v := (2 : Int32)) hx hb dX3_correct_22 (by decide) ?_
      obtain ⟨a11, lba11, fsa11, hra11, haa11, hw⟩ := hw
      rw [← Option.some.inj hra11] at haa11
      refine gh_ki G (vx_runV M.1 (met_X3_fails l D _ _ _ _ _ _ hw M.2.2.2.2.2) (cwV 1 (gh_Mts M) (lw_V q1657 q1659 qs21 q50 q1660) rfl rfl rfl ⟨rfl, by decide, by decide, rfl⟩ ⟨Nat.le_of_ble_eq_true rfl, Nat.le_of_ble_eq_true rfl⟩) (gh_preV (As := [.int (2 : Int32)]) M G (gh_rec M G haa11 rfl)) rfl rfl hl.1.1 rfl (lv_room (Nat.le_of_ble_eq_true rfl)) dX3_correct_23 ⟨(Nat.le_of_ble_eq_true rfl), (Nat.le_of_ble_eq_true rfl)⟩) (gh_out M hex (by exact Nat.le_of_ble_eq_true rfl) (by exact Nat.le_of_ble_eq_true rfl)) (fun r12 h13 H locs hw G => ?_)
      exact gh_iret M G hr rfl hw (by exact Nat.le_of_ble_eq_true rfl) (by exact Nat.le_of_ble_eq_true rfl) dX3_correct_26
  · replace hw := hw.1 hc
    refine lv_iconst (v := (0 : Int32)) hx hb dX3_correct_8 (by decide) ?_
    exact gh_iret M G hr rfl hw (by exact Nat.le_of_ble_eq_true rfl) (by exact Nat.le_of_ble_eq_true rfl) dX3_correct_9
/-! BinderyDesk.state (I)I -/
def rm_X1_state : Room := { frames := 8, cells := 1, slots := 6, locals := 142 }
def wp_X1_state (κ : Nat → Nat) (v0 : Nat) (v1 : Int32) (Q : Int32 → gh_H → Prop) (X : String → gh_H → Prop) (h : gh_H) : Prop := (gh_RC h (some v0) 0 (fun _ => (wp_X1_contentNumbered κ v0 v1 (fun r2 h3 => (gh_GI h3 r2 [(4, 1)] (fun x4 => (Q x4 h3)))) X h)))
set_option maxHeartbeats 4000000 in
theorem met_X1_state (l : Launch) (D : gh_D) (v0 : Nat) (v1 : Int32) (Q : Int32 → gh_H → Prop) (X : String → gh_H → Prop) (h : gh_H) (sz : Nat) (hw : wp_X1_state D.2.2 v0 v1 Q X h) (hst : l.stackTraces = false) : vx_Met l yX1_state (ws_ yX1_state cX1_state 2 (some .int)) rm_X1_state (gh_Pc D h sz [.ref v0, .int v1]) (gh_Qi Q D h sz) (gh_X X D h sz) 1 6 (gh_A h sz) := by
  refine vx_ofW (by decide) rfl (fun p e s m args below meth c s₁ B hml hex hP => ?_)
  obtain ⟨rfl, rfl, hK, hT, hE, G⟩ := gh_start hP
  have M : gh_M D p l s m _ meth c RX1 cX1_state 2 (gh_A h s.heap.size) := ⟨⟨B.exec, B.bytes, hml, findClass_of_methodNamed B.named, fun w hw => atoms_spec (ws := ws_ yX1_state cX1_state 2 (some .int)) B.pre w (List.mem_cons_of_mem _ hw)⟩, hK, hT, hE, B.notSynchronized, hst⟩
  have hr := B.returns
  have hx := M.1.1
  have hb := M.1.2.1
  refine gh_enter (vs := [(1, .ref v0), (1, .int v1)]) (gh_w1 rfl (gh_w1 rfl gh_wn)) (Nat.le_of_ble_eq_true rfl) (fun ls hl => ?_)
  replace hl : gh_L ls 2 [(0, 1, va_rf (some v0)), (1, 1, .int v1)] := hl
  unfold wp_X1_state at hw
  refine gh_aload_n hx hb dX1_state_0 rfl (gh_at hl 0 rfl) ?_
  refine lv_iload_n hx hb dX1_state_1 rfl (gh_at hl 1 rfl) ?_
  obtain ⟨a1, lba1, fsa1, hra1, haa1, hw⟩ := hw
  rw [← Option.some.inj hra1] at haa1
  refine gh_kq G (vx_runV M.1 (met_X1_contentNumbered l D _ _ _ _ _ _ hw M.2.2.2.2.2) (cwV 1 (gh_Mts M) (lw_V q476 q478 qs4 q41 q479) rfl rfl rfl ⟨rfl, by decide, by decide, rfl⟩ ⟨Nat.le_of_ble_eq_true rfl, Nat.le_of_ble_eq_true rfl⟩) (gh_preV (As := [.int v1]) M G (gh_rec M G haa1 rfl)) rfl rfl hl.1.1 rfl (lv_room (Nat.le_of_ble_eq_true rfl)) dX1_state_2 ⟨(Nat.le_of_ble_eq_true rfl), (Nat.le_of_ble_eq_true rfl)⟩) (gh_out M hex (by exact Nat.le_of_ble_eq_true rfl) (by exact Nat.le_of_ble_eq_true rfl)) (fun r2 h3 H locs hw G => ?_)
  refine gh_getI M G hw fl_X1_115 dX1_state_5 (fun x4 hw => ?_)
  exact gh_iret M G hr rfl hw (by exact Nat.le_of_ble_eq_true rfl) (by exact Nat.le_of_ble_eq_true rfl) dX1_state_8
/-! BinderyDeskLaw.state (LBinderyDesk;I[J)I -/
def rm_X0_state : Room := { frames := 9, cells := 1, slots := 6, locals := 163 }
def wb_X0_state_12 (κ : Nat → Nat)  (Q : Int32 → gh_H → Prop) (X : String → gh_H → Prop) (t0 : Option Nat) (h : gh_H) : Prop := (Q (1 : Int32) h)
def wp_X0_state (κ : Nat → Nat) (v0 : Option Nat) (v1 : Int32) (v2 : Option Nat) (Q : Int32 → gh_H → Prop) (X : String → gh_H → Prop) (h : gh_H) : Prop := (gh_RC h v0 0 (fun a1 => (wp_X1_state κ a1 v1 (fun r2 h3 => (gh_SJ h3 v2 (0 : Int32) (r2.toInt64) (fun h4 => (Q (0 : Int32) h4)))) (fun E h9 => (E = "java/lang/IndexOutOfBoundsException" ∧ ∀ q9 : Nat, wb_X0_state_12 κ Q X (some q9) h9)) h)))
set_option maxHeartbeats 4000000 in
theorem wk_X0_state_12 {D : gh_D} {p : Program} {l : Launch} {e : Env} {s : State} {m : MethodId} {args : Array Value} {below : List Frame} {meth : Method} {c : Code} {h0 : gh_H} (M : gh_M D p l s m args meth c RX0 cX0_state 4 (gh_A h0 s.heap.size)) (hr : meth.sig.returnType = (some .int)) (htab : c.exceptionTable.toList = tableOf [(0, 9, 12, 19)])   {Q : Int32 → gh_H → Prop} {X : String → gh_H → Prop}   (t0 : Option Nat) (H : Heap) (locs : List Loc) (ls : Array Slot) (h : gh_H) (G : gh_Inv D h0 (gh_A h0 s.heap.size) s.heap s H locs h) (hl : gh_L ls 4 []) (hw : wb_X0_state_12 D.2.2 Q X t0 h) : W p l e rm_X0_state s m args below meth c H locs 1 6 (vx_MQ below (gh_Qi Q D h0 s.heap.size) (gh_X X D h0 s.heap.size) args s 1 6 (gh_A h0 s.heap.size)) (F0 m 12 ls [va_rf t0]) := by
  unfold wb_X0_state_12 at hw
  have hx := M.1.1
  have hb := M.1.2.1
  refine gh_astore_n (lv' := [(3, 1, va_rf t0)]) hx hb dX0_state_12 rfl hl (by decide) rfl (fun ls hl => ?_)
  refine lv_iconst (v := (1 : Int32)) hx hb dX0_state_13 (by decide) ?_
  exact gh_iret M G hr rfl hw (by exact Nat.le_of_ble_eq_true rfl) (by exact Nat.le_of_ble_eq_true rfl) dX0_state_14
set_option maxHeartbeats 4000000 in
theorem met_X0_state (l : Launch) (D : gh_D) (v0 : Option Nat) (v1 : Int32) (v2 : Option Nat) (Q : Int32 → gh_H → Prop) (X : String → gh_H → Prop) (h : gh_H) (sz : Nat) (hw : wp_X0_state D.2.2 v0 v1 v2 Q X h) (hst : l.stackTraces = false) : vx_Met l yX0_state (wsW_ yX0_state cX0_state 4 (some .int) [(0, 9, 12, 19)]) rm_X0_state (gh_Pc D h sz [va_rf v0, .int v1, va_rf v2]) (gh_Qi Q D h sz) (gh_X X D h sz) 1 6 (gh_A h sz) := by
  refine vx_ofWH (by decide) rfl (fun p e s m args below meth c s₁ B hml hP => ?_)
  have htab := vx_table (x := yX0_state) B (atoms_spec (ws := wsW_ yX0_state cX0_state 4 (some .int) [(0, 9, 12, 19)]) B.pre _ List.mem_cons_self)
  obtain ⟨rfl, rfl, hK, hT, hE, G⟩ := gh_start hP
  have M : gh_M D p l s m _ meth c RX0 cX0_state 4 (gh_A h s.heap.size) := ⟨⟨B.exec, B.bytes, hml, findClass_of_methodNamed B.named, fun w hw => atoms_spec (ws := wsW_ yX0_state cX0_state 4 (some .int) [(0, 9, 12, 19)]) B.pre w (List.mem_cons_of_mem _ hw)⟩, hK, hT, hE, B.notSynchronized, hst⟩
  have hr := B.returns
  have hx := M.1.1
  have hb := M.1.2.1
  refine gh_enter (vs := [(1, va_rf v0), (1, .int v1), (1, va_rf v2)]) (gh_w1 (gh_cat _) (gh_w1 rfl (gh_w1 (gh_cat _) gh_wn))) (Nat.le_of_ble_eq_true rfl) (fun ls hl => ?_)
  replace hl : gh_L ls 4 [(0, 1, va_rf v0), (1, 1, .int v1), (2, 1, va_rf v2)] := hl
  unfold wp_X0_state at hw
  refine gh_aload_n hx hb dX0_state_0 rfl (gh_at hl 2 rfl) ?_
  refine lv_iconst (v := (0 : Int32)) hx hb dX0_state_1 (by decide) ?_
  refine gh_aload_n hx hb dX0_state_2 rfl (gh_at hl 0 rfl) ?_
  refine lv_iload_n hx hb dX0_state_3 rfl (gh_at hl 1 rfl) ?_
  obtain ⟨a1, lba1, fsa1, rfl, haa1, hw⟩ := hw
  refine gh_ki G (vx_runV M.1 (met_X1_state l D _ _ _ _ _ _ hw M.2.2.2.2.2) (cwV 1 (gh_Mts M) (lw_V q707 q708 q709 q41 q710) rfl rfl rfl ⟨rfl, by decide, by decide, rfl⟩ ⟨Nat.le_of_ble_eq_true rfl, Nat.le_of_ble_eq_true rfl⟩) (gh_preV (As := [.int v1]) M G (gh_rec M G haa1 rfl)) rfl rfl hl.1.1 rfl (lv_room (Nat.le_trans (gh_r1 rfl (gh_r1 (gh_cat _) gh_r0)) (Nat.le_of_ble_eq_true rfl : 2 ≤ 8))) dX0_state_4 ⟨(Nat.le_of_ble_eq_true rfl), (Nat.le_of_ble_eq_true rfl)⟩) (fun E ce q9 h9 H locs hX G hce hcv hcl => ?_) (fun r2 h3 H locs hw G => ?_)
  · obtain ⟨rfl, hX⟩ := hX
    · replace hw := hX q9
      refine vx_catch (name := "java/lang/IndexOutOfBoundsException") M.1.2.2.2.1 (tableOf []) ⟨0, 9, 12, 19⟩ (tableOf []) (htab.trans rfl) (fun _ h => absurd h List.not_mem_nil) (by decide) (by decide) (gh_Mts M _ q439) (va_Nw.use rfl (M.2.2.1.1 _ (List.mem_of_getElem? (i := 8) rfl))) hce hcv hcl ?_
      exact wk_X0_state_12 M hr htab  (some q9) _ _ _ _ G (gh_sub hl [] rfl) hw
  · refine lv_i2l (v := (r2.toInt64)) hx hb dX0_state_7 rfl ?_
    refine gh_jas M G hw dX0_state_8 (fun h4 H locs hw G => ?_)
    refine lv_goto (tgt := 15) hx hb dX0_state_9 (by decide) ?_
    refine lv_iconst (v := (0 : Int32)) hx hb dX0_state_15 (by decide) ?_
    exact gh_iret M G hr rfl hw (by exact Nat.le_of_ble_eq_true rfl) (by exact Nat.le_of_ble_eq_true rfl) dX0_state_16
/-! BinderyDeskModel.state (I)I -/
def rm_X3_state : Room := { frames := 3, cells := 0, slots := 0, locals := 83 }
def wb_X3_state_18 (κ : Nat → Nat)  (Q : Int32 → gh_H → Prop) (X : String → gh_H → Prop) (t0 : Int32) (h : gh_H) : Prop := (Q t0 h)
def wp_X3_state (κ : Nat → Nat) (v0 : Nat) (v1 : Int32) (Q : Int32 → gh_H → Prop) (X : String → gh_H → Prop) (h : gh_H) : Prop := (gh_RC h (some v0) 1 (fun _ => (wp_X3_isContent κ v0 v1 (fun r2 h3 => ((r2 = 0 → wb_X3_state_18 κ Q X (0 : Int32) h3) ∧ (¬ r2 = 0 → (gh_GR h3 (some v0) [(1, 12)] (fun x4 => (gh_LI h3 x4 v1 (fun x5 => wb_X3_state_18 κ Q X x5 h3))))))) X h)))
set_option maxHeartbeats 4000000 in
theorem wk_X3_state_18 {D : gh_D} {p : Program} {l : Launch} {e : Env} {s : State} {m : MethodId} {args : Array Value} {below : List Frame} {meth : Method} {c : Code} {h0 : gh_H} (M : gh_M D p l s m args meth c RX3 cX3_state 2 (gh_A h0 s.heap.size)) (hr : meth.sig.returnType = (some .int)) (hex : ∀ x ∈ c.exceptionTable.toList, False)   {Q : Int32 → gh_H → Prop} {X : String → gh_H → Prop}   (t0 : Int32) (H : Heap) (locs : List Loc) (ls : Array Slot) (h : gh_H) (G : gh_Inv D h0 (gh_A h0 s.heap.size) s.heap s H locs h) (hl : gh_L ls 2 []) (hw : wb_X3_state_18 D.2.2 Q X t0 h) : W p l e rm_X3_state s m args below meth c H locs 0 0 (vx_MQ below (gh_Qi Q D h0 s.heap.size) (gh_X X D h0 s.heap.size) args s 0 0 (gh_A h0 s.heap.size)) (F0 m 18 ls [.int t0]) := by
  unfold wb_X3_state_18 at hw
  have hx := M.1.1
  have hb := M.1.2.1
  exact gh_iret M G hr rfl hw (by exact Nat.le_of_ble_eq_true rfl) (by exact Nat.le_of_ble_eq_true rfl) dX3_state_18
set_option maxHeartbeats 4000000 in
theorem met_X3_state (l : Launch) (D : gh_D) (v0 : Nat) (v1 : Int32) (Q : Int32 → gh_H → Prop) (X : String → gh_H → Prop) (h : gh_H) (sz : Nat) (hw : wp_X3_state D.2.2 v0 v1 Q X h) (hst : l.stackTraces = false) : vx_Met l yX3_state (ws_ yX3_state cX3_state 2 (some .int)) rm_X3_state (gh_Pc D h sz [.ref v0, .int v1]) (gh_Qi Q D h sz) (gh_X X D h sz) 0 0 (gh_A h sz) := by
  refine vx_ofW (by decide) rfl (fun p e s m args below meth c s₁ B hml hex hP => ?_)
  obtain ⟨rfl, rfl, hK, hT, hE, G⟩ := gh_start hP
  have M : gh_M D p l s m _ meth c RX3 cX3_state 2 (gh_A h s.heap.size) := ⟨⟨B.exec, B.bytes, hml, findClass_of_methodNamed B.named, fun w hw => atoms_spec (ws := ws_ yX3_state cX3_state 2 (some .int)) B.pre w (List.mem_cons_of_mem _ hw)⟩, hK, hT, hE, B.notSynchronized, hst⟩
  have hr := B.returns
  have hx := M.1.1
  have hb := M.1.2.1
  refine gh_enter (vs := [(1, .ref v0), (1, .int v1)]) (gh_w1 rfl (gh_w1 rfl gh_wn)) (Nat.le_of_ble_eq_true rfl) (fun ls hl => ?_)
  replace hl : gh_L ls 2 [(0, 1, va_rf (some v0)), (1, 1, .int v1)] := hl
  unfold wp_X3_state at hw
  refine gh_aload_n hx hb dX3_state_0 rfl (gh_at hl 0 rfl) ?_
  refine lv_iload_n hx hb dX3_state_1 rfl (gh_at hl 1 rfl) ?_
  obtain ⟨a1, lba1, fsa1, hra1, haa1, hw⟩ := hw
  rw [← Option.some.inj hra1] at haa1
  refine gh_ki G (vx_runV M.1 (met_X3_isContent l D _ _ _ _ _ _ hw M.2.2.2.2.2) (cwV 1 (gh_Mts M) (lw_V q1665 q1667 qs22 q50 q1668) rfl rfl rfl ⟨rfl, by decide, by decide, rfl⟩ ⟨Nat.le_of_ble_eq_true rfl, Nat.le_of_ble_eq_true rfl⟩) (gh_preV (As := [.int v1]) M G (gh_rec M G haa1 rfl)) rfl rfl hl.1.1 rfl (lv_room (Nat.le_of_ble_eq_true rfl)) dX3_state_2 ⟨(Nat.le_of_ble_eq_true rfl), (Nat.le_of_ble_eq_true rfl)⟩) (gh_out M hex (by exact Nat.le_of_ble_eq_true rfl) (by exact Nat.le_of_ble_eq_true rfl)) (fun r2 h3 H locs hw G => ?_)
  refine lv_if_eq (tgt := 17) hx hb dX3_state_5 (by decide) (fun hc => ?_) (fun hc => ?_)
  · replace hw := hw.1 hc
    refine lv_iconst (v := (0 : Int32)) hx hb dX3_state_17 (by decide) ?_
    exact wk_X3_state_18 M hr hex  (0 : Int32) _ _ _ _ G (gh_sub hl [] rfl) hw
  · replace hw := hw.2 hc
    refine gh_aload_n hx hb dX3_state_8 rfl (gh_at hl 0 rfl) ?_
    refine gh_getR M G hw fl_X3_7 dX3_state_9 (fun x4 hw => ?_)
    refine lv_iload_n hx hb dX3_state_12 rfl (gh_at hl 1 rfl) ?_
    refine gh_ial M G hw dX3_state_13 (fun x5 hw => ?_)
    refine lv_goto (tgt := 18) hx hb dX3_state_14 (by decide) ?_
    exact wk_X3_state_18 M hr hex  x5 _ _ _ _ G (gh_sub hl [] rfl) hw
/-! BinderyDesk$Binding.values ()[LBinderyDesk$Binding; -/
def rm_X6_values : Room := { frames := 2, cells := 1, slots := 3, locals := 80 }
def wp_X6_values (κ : Nat → Nat)  (Q : Option Nat → gh_H → Prop) (X : String → gh_H → Prop) (h : gh_H) : Prop := (gh_CL h (some (κ 4)) 3 (fun q1 h2 => (gh_CA h2 (some q1) (Q (some q1) h2))))
set_option maxHeartbeats 4000000 in
theorem met_X6_values (l : Launch) (D : gh_D)  (Q : Option Nat → gh_H → Prop) (X : String → gh_H → Prop) (h : gh_H) (sz : Nat) (hw : wp_X6_values D.2.2  Q X h) (hst : l.stackTraces = false) : vx_Met l yX6_values (ws_ yX6_values cX6_values 0 (some (.array (.object "BinderyDesk$Binding")))) rm_X6_values (gh_Pc D h sz []) (gh_Qq Q D h sz) (gh_X X D h sz) 1 3 (gh_A h sz) := by
  refine vx_ofW (by decide) rfl (fun p e s m args below meth c s₁ B hml hex hP => ?_)
  obtain ⟨rfl, rfl, hK, hT, hE, G⟩ := gh_start hP
  have M : gh_M D p l s m _ meth c RX6 cX6_values 0 (gh_A h s.heap.size) := ⟨⟨B.exec, B.bytes, hml, findClass_of_methodNamed B.named, fun w hw => atoms_spec (ws := ws_ yX6_values cX6_values 0 (some (.array (.object "BinderyDesk$Binding")))) B.pre w (List.mem_cons_of_mem _ hw)⟩, hK, hT, hE, B.notSynchronized, hst⟩
  have hr := B.returns
  have hx := M.1.1
  have hb := M.1.2.1
  refine gh_enter (vs := []) gh_wn (Nat.le_of_ble_eq_true rfl) (fun ls hl => ?_)
  replace hl : gh_L ls 0 [] := hl
  unfold wp_X6_values at hw
  refine gh_gets (v := va_rf (some (D.2.2 4))) M G M.2.2.2.1.2.2.2.2.2.1 q725 rfl dX6_values_0 ?_
  refine gh_clone (lim := 3) M G hw q727 q728 q729 q730 q731 (List.mem_of_getElem? (i := 168) rfl) hl.1.1 (Nat.le_of_ble_eq_true rfl) dX6_values_3 (Nat.le_of_ble_eq_true rfl) (Nat.le_of_ble_eq_true rfl) (Nat.le_of_ble_eq_true rfl) (Nat.le_of_ble_eq_true rfl) (fun q1 h2 H hw G => ?_)
  refine gh_castA M G hw q734 dX6_values_6 (fun hw => ?_)
  exact gh_aret M G hr (Or.inr ⟨_, rfl⟩) hw (by exact Nat.le_of_ble_eq_true rfl) (by exact Nat.le_of_ble_eq_true rfl) dX6_values_9
/-! BinderyDesk$Binding.of (C)LBinderyDesk$Binding; -/
theorem at_X6_46 {args : Array Value} {s : State} (hts : ∀ w ∈ lw_all, w.before args s = true) (tb : gh_Tb s) : ∀ w ∈ (vx_at0 RX6 46 "java/lang/IllegalArgumentException" ["java/lang/RuntimeException", "java/lang/Exception"]), w.before args s = true := by
  refine vx_hat (B := [Cond.declares ({ cls := "java/lang/RuntimeException", name := "<init>", desc := "()V" } : MethodName), Cond.declares ({ cls := "java/lang/Exception", name := "<init>", desc := "()V" } : MethodName), Cond.declares ({ cls := "java/lang/Throwable", name := "<init>", desc := "()V" } : MethodName), Cond.castable "java/lang/IllegalArgumentException" "java/lang/IllegalArgumentException"]) (fun w hw => hts w (lw_in _ [51, 291, 300, 309, 312, 314, 292, 293, 91, 92, 294, 299, 310, 327, 281, 328, 283, 329, 285, 295, 297, 287, 745, 746, 747, 319, 319, 320, 321, 322, 322, 323, 324, 292, 744, 736, 738, 304, 739, 740, 741, 742, 290, 289, 743] (by decide +kernel) (by decide +kernel) w hw)) (by decide +kernel) ?_
  exact vx_c (va_Nw.use rfl (tb.1 _ (List.mem_of_getElem? (i := 116) rfl))) (vx_c (va_Nw.use rfl (tb.1 _ (List.mem_of_getElem? (i := 114) rfl))) (vx_c (va_Nw.use rfl (tb.1 _ (List.mem_of_getElem? (i := 111) rfl))) (vx_c (va_Nw.use rfl (tb.1 _ (List.mem_of_getElem? (i := 49) rfl))) (vx_n))))
theorem at_X6_46_g : ∀ w ∈ Cond.classLink RX6 44 "java/lang/IllegalArgumentException" :: Cond.initialized "java/lang/IllegalArgumentException" :: (vx_at0 RX6 46 "java/lang/IllegalArgumentException" ["java/lang/RuntimeException", "java/lang/Exception"]), vx_ot w = true := by decide +kernel
theorem fl_X6_32 : gh_FL RX6 32 [(16, 0), (17, 0), (18, 0)] := by
  intro args s hts tb q hq
  simp only [List.mem_cons, List.not_mem_nil, or_false] at hq
  rcases hq with rfl | rfl | rfl
  · exact ⟨_, "BinderyDesk$Binding", rfl, by decide, Or.inl (hts _ q1906), (fun x h => h)⟩
  · exact ⟨_, "BinderyDesk$Binding", rfl, by decide, Or.inl (hts _ q1906), (fun x h => h)⟩
  · exact ⟨_, "BinderyDesk$Binding", rfl, by decide, Or.inl (hts _ q1906), (fun x h => h)⟩
def rm_X6_of : Room := { frames := 6, cells := 2, slots := 9, locals := 100 }
def wb_X6_of_9 (κ : Nat → Nat) (K9 : Int32 → Option Nat → Int32 → Int32 → gh_H → Prop) (Q : Option Nat → gh_H → Prop) (X : String → gh_H → Prop) (v0 : Int32) (v1 : Option Nat) (v2 : Int32) (v3 : Int32) (h : gh_H) : Prop := ((v2 ≤ v3 → (X "java/lang/IllegalArgumentException" h)) ∧ (¬ v2 ≤ v3 → (gh_LR h v1 v3 (fun x1 => (gh_GI h x1 [(16, 0), (17, 0), (18, 0)] (fun x2 => ((x2 = v0 → (Q x1 h)) ∧ (¬ x2 = v0 → K9 v0 v1 v2 (v3 + (1 : Int32)) h))))))))
def wl_X6_of_9 (κ : Nat → Nat)  (Q : Option Nat → gh_H → Prop) (X : String → gh_H → Prop) : Nat → Int32 → Option Nat → Int32 → Int32 → gh_H → Prop
  | 0 => fun _ _ _ _ _ => False
  | n + 1 => fun v0 v1 v2 v3 h => wb_X6_of_9 κ (wl_X6_of_9 κ Q X n) Q X v0 v1 v2 v3 h
def wp_X6_of (κ : Nat → Nat) (v0 : Int32) (Q : Option Nat → gh_H → Prop) (X : String → gh_H → Prop) (h : gh_H) : Prop := (wp_X6_values κ (fun r1 h2 => (gh_LN h2 r1 (fun x3 => (∃ n : Nat, wl_X6_of_9 κ Q X n v0 r1 x3 (0 : Int32) h2)))) X h)
set_option maxHeartbeats 4000000 in
theorem wk1_X6_of_9 {D : gh_D} {p : Program} {l : Launch} {e : Env} {s : State} {m : MethodId} {args : Array Value} {below : List Frame} {meth : Method} {c : Code} {h0 : gh_H} (M : gh_M D p l s m args meth c RX6 cX6_of 5 (gh_A h0 s.heap.size)) (hr : meth.sig.returnType = (some (.object "BinderyDesk$Binding"))) (hex : ∀ x ∈ c.exceptionTable.toList, False) {K9 : Int32 → Option Nat → Int32 → Int32 → gh_H → Prop}  {Q : Option Nat → gh_H → Prop} {X : String → gh_H → Prop} (k9 : ∀ (v0 : Int32) (v1 : Option Nat) (v2 : Int32) (v3 : Int32) (H : Heap) (locs : List Loc) (ls : Array Slot) (h : gh_H) (_ : gh_Inv D h0 (gh_A h0 s.heap.size) s.heap s H locs h) (_ : gh_L ls 5 [(0, 1, .int v0), (1, 1, va_rf v1), (2, 1, .int v2), (3, 1, .int v3)]) (_ : K9 v0 v1 v2 v3 h), W p l e rm_X6_of s m args below meth c H locs 1 3 (vx_MQ below (gh_Qq Q D h0 s.heap.size) (gh_X X D h0 s.heap.size) args s 2 9 (gh_A h0 s.heap.size)) (F0 m 9 ls []))  (v0 : Int32) (v1 : Option Nat) (v2 : Int32) (v3 : Int32) (H : Heap) (locs : List Loc) (ls : Array Slot) (h : gh_H) (G : gh_Inv D h0 (gh_A h0 s.heap.size) s.heap s H locs h) (hl : gh_L ls 5 [(0, 1, .int v0), (1, 1, va_rf v1), (2, 1, .int v2), (3, 1, .int v3)]) (hw : wb_X6_of_9 D.2.2 K9 Q X v0 v1 v2 v3 h) : W p l e rm_X6_of s m args below meth c H locs 1 3 (vx_MQ below (gh_Qq Q D h0 s.heap.size) (gh_X X D h0 s.heap.size) args s 2 9 (gh_A h0 s.heap.size)) (F0 m 9 ls []) := by
  unfold wb_X6_of_9 at hw
  have hx := M.1.1
  have hb := M.1.2.1
  refine lv_iload_n hx hb dX6_of_9 rfl (gh_at hl 3 rfl) ?_
  refine lv_iload_n hx hb dX6_of_10 rfl (gh_at hl 2 rfl) ?_
  refine lv_icmp_ge (tgt := 37) hx hb dX6_of_11 (by decide) (fun hc => ?_) (fun hc => ?_)
  · replace hw := hw.1 hc
    exact gh_throw (names := ["java/lang/RuntimeException", "java/lang/Exception"]) M G hex hw (by decide +kernel) (by decide +kernel) q735 q70 (at_X6_46 (gh_Mts M) M.2.2.1) at_X6_46_g hl.1.1 dX6_of_37 dX6_of_40 dX6_of_41 dX6_of_44 (Nat.le_of_ble_eq_true rfl) (Nat.le_trans (Nat.add_le_add_right gh_r0 _) (Nat.le_of_ble_eq_true rfl)) (Nat.le_of_ble_eq_true rfl) (Nat.le_of_ble_eq_true rfl) (Nat.le_of_ble_eq_true rfl) (Nat.le_of_ble_eq_true rfl)
  · replace hw := hw.2 hc
    refine gh_aload_n hx hb dX6_of_14 rfl (gh_at hl 1 rfl) ?_
    refine lv_iload_n hx hb dX6_of_15 rfl (gh_at hl 3 rfl) ?_
    refine gh_ral M G hw dX6_of_16 (fun x1 hw => ?_)
    refine gh_astore (lv' := [(4, 1, va_rf x1), (0, 1, .int v0), (1, 1, va_rf v1), (2, 1, .int v2), (3, 1, .int v3)]) hx hb dX6_of_17 hl (by decide) rfl (fun ls hl => ?_)
    refine gh_aload hx hb dX6_of_19 (gh_at hl 0 rfl) ?_
    refine gh_getI M G hw fl_X6_32 dX6_of_21 (fun x2 hw => ?_)
    refine lv_iload_n hx hb dX6_of_24 rfl (gh_at hl 1 rfl) ?_
    refine lv_icmp_ne (tgt := 31) hx hb dX6_of_25 (by decide) (fun hc => ?_) (fun hc => ?_)
    · replace hw := hw.2 hc
      refine gh_iinc (k := 4) (v := (v3 + (1 : Int32))) (lv' := [(3, 1, .int (v3 + (1 : Int32))), (4, 1, va_rf x1), (0, 1, .int v0), (1, 1, va_rf v1), (2, 1, .int v2)]) hx hb dX6_of_31 hl rfl rfl (by decide) rfl (fun ls hl => ?_)
      refine lv_goto (tgt := 9) hx hb dX6_of_34 (by decide) ?_
      exact k9 v0 v1 v2 (v3 + (1 : Int32)) _ _ _ _ G (gh_sub hl [2, 3, 4, 0] rfl) hw
    · replace hw := hw.1 hc
      refine gh_aload hx hb dX6_of_28 (gh_at hl 0 rfl) ?_
      exact gh_aret M G hr (Or.inl ⟨_, rfl⟩) hw (by exact Nat.le_of_ble_eq_true rfl) (by exact Nat.le_of_ble_eq_true rfl) dX6_of_30
theorem wk_X6_of_9 {D : gh_D} {p : Program} {l : Launch} {e : Env} {s : State} {m : MethodId} {args : Array Value} {below : List Frame} {meth : Method} {c : Code} {h0 : gh_H} (M : gh_M D p l s m args meth c RX6 cX6_of 5 (gh_A h0 s.heap.size)) (hr : meth.sig.returnType = (some (.object "BinderyDesk$Binding"))) (hex : ∀ x ∈ c.exceptionTable.toList, False)   {Q : Option Nat → gh_H → Prop} {X : String → gh_H → Prop}   : ∀ (n : Nat) (v0 : Int32) (v1 : Option Nat) (v2 : Int32) (v3 : Int32) (H : Heap) (locs : List Loc) (ls : Array Slot) (h : gh_H) (_ : gh_Inv D h0 (gh_A h0 s.heap.size) s.heap s H locs h) (_ : gh_L ls 5 [(0, 1, .int v0), (1, 1, va_rf v1), (2, 1, .int v2), (3, 1, .int v3)]) (_ : wl_X6_of_9 D.2.2 Q X n v0 v1 v2 v3 h), W p l e rm_X6_of s m args below meth c H locs 1 3 (vx_MQ below (gh_Qq Q D h0 s.heap.size) (gh_X X D h0 s.heap.size) args s 2 9 (gh_A h0 s.heap.size)) (F0 m 9 ls []) := by
  intro fu
  induction fu with
  | zero => intro v0 v1 v2 v3 H locs ls h G hl hw; exact False.elim hw
  | succ n1 ih =>
    intro v0 v1 v2 v3 H locs ls h G hl hw
    exact wk1_X6_of_9 M hr hex ih  v0 v1 v2 v3 _ _ _ _ G hl hw
set_option maxHeartbeats 4000000 in
theorem met_X6_of (l : Launch) (D : gh_D) (v0 : Int32) (Q : Option Nat → gh_H → Prop) (X : String → gh_H → Prop) (h : gh_H) (sz : Nat) (hw : wp_X6_of D.2.2 v0 Q X h) (hst : l.stackTraces = false) : vx_Met l yX6_of (ws_ yX6_of cX6_of 5 (some (.object "BinderyDesk$Binding"))) rm_X6_of (gh_Pc D h sz [.int v0]) (gh_Qq Q D h sz) (gh_X X D h sz) 2 9 (gh_A h sz) := by
  refine vx_ofW (by decide) rfl (fun p e s m args below meth c s₁ B hml hex hP => ?_)
  obtain ⟨rfl, rfl, hK, hT, hE, G⟩ := gh_start hP
  have M : gh_M D p l s m _ meth c RX6 cX6_of 5 (gh_A h s.heap.size) := ⟨⟨B.exec, B.bytes, hml, findClass_of_methodNamed B.named, fun w hw => atoms_spec (ws := ws_ yX6_of cX6_of 5 (some (.object "BinderyDesk$Binding"))) B.pre w (List.mem_cons_of_mem _ hw)⟩, hK, hT, hE, B.notSynchronized, hst⟩
  have hr := B.returns
  have hx := M.1.1
  have hb := M.1.2.1
  refine gh_enter (vs := [(1, .int v0)]) (gh_w1 rfl gh_wn) (Nat.le_of_ble_eq_true rfl) (fun ls hl => ?_)
  replace hl : gh_L ls 5 [(0, 1, .int v0)] := hl
  unfold wp_X6_of at hw
  refine gh_kq G (vx_runS M.1 (met_X6_values l D _ _ _ _ hw M.2.2.2.2.2) (va_cwS 0 (gh_Mts M) (lw_S q722 q723 q69 q724) rfl rfl rfl ⟨by decide, by decide, rfl⟩ ⟨Nat.le_of_ble_eq_true rfl, Nat.le_of_ble_eq_true rfl⟩) (gh_pre M G (As := [])) rfl rfl hl.1.1 rfl (lv_room (Nat.le_of_ble_eq_true rfl)) dX6_of_0 ⟨(Nat.le_of_ble_eq_true rfl), (Nat.le_of_ble_eq_true rfl)⟩) (gh_out M hex (by exact Nat.le_of_ble_eq_true rfl) (by exact Nat.le_of_ble_eq_true rfl)) (fun r1 h2 H locs hw G => ?_)
  refine gh_astore_n (lv' := [(1, 1, va_rf r1), (0, 1, .int v0)]) hx hb dX6_of_3 rfl hl (by decide) rfl (fun ls hl => ?_)
  refine gh_aload_n hx hb dX6_of_4 rfl (gh_at hl 0 rfl) ?_
  refine gh_len M G hw dX6_of_5 (fun x3 hw => ?_)
  refine gh_istore_n (lv' := [(2, 1, .int x3), (1, 1, va_rf r1), (0, 1, .int v0)]) hx hb dX6_of_6 rfl hl (by decide) rfl (fun ls hl => ?_)
  refine lv_iconst (v := (0 : Int32)) hx hb dX6_of_7 (by decide) ?_
  refine gh_istore_n (lv' := [(3, 1, .int (0 : Int32)), (2, 1, .int x3), (1, 1, va_rf r1), (0, 1, .int v0)]) hx hb dX6_of_8 rfl hl (by decide) rfl (fun ls hl => ?_)
  obtain ⟨n, hw⟩ := hw
  exact wk_X6_of_9 M hr hex  n v0 r1 x3 (0 : Int32) _ _ _ _ G (gh_sub hl [3, 2, 1, 0] rfl) hw
/-! BinderyDesk$Pile.<init> ()V -/
def rm_X8_init : Room := { frames := 3, cells := 0, slots := 0, locals := 100 }
def wp_X8_init (κ : Nat → Nat) (v0 : Nat) (Q : gh_H → Prop) (X : String → gh_H → Prop) (h : gh_H) : Prop := (wp_X2_init κ v0 (fun h1 => (Q h1)) X h)
set_option maxHeartbeats 4000000 in
theorem met_X8_init (l : Launch) (D : gh_D) (v0 : Nat) (Q : gh_H → Prop) (X : String → gh_H → Prop) (h : gh_H) (sz : Nat) (hw : wp_X8_init D.2.2 v0 Q X h) (hst : l.stackTraces = false) : vx_Met l yX8_init (ws_ yX8_init cX8_init 1 none) rm_X8_init (gh_Pc D h sz [.ref v0]) (gh_Qv Q D h sz) (gh_X X D h sz) 0 0 (gh_A h sz) := by
  refine vx_ofW (by decide) rfl (fun p e s m args below meth c s₁ B hml hex hP => ?_)
  obtain ⟨rfl, rfl, hK, hT, hE, G⟩ := gh_start hP
  have M : gh_M D p l s m _ meth c RX8 cX8_init 1 (gh_A h s.heap.size) := ⟨⟨B.exec, B.bytes, hml, findClass_of_methodNamed B.named, fun w hw => atoms_spec (ws := ws_ yX8_init cX8_init 1 none) B.pre w (List.mem_cons_of_mem _ hw)⟩, hK, hT, hE, B.notSynchronized, hst⟩
  have hr := B.returns
  have hname : meth.name = "<init>" := (name_of_methodNamed B.named B.method).1
  have hx := M.1.1
  have hb := M.1.2.1
  refine gh_enter (vs := [(1, .ref v0)]) (gh_w1 rfl gh_wn) (Nat.le_of_ble_eq_true rfl) (fun ls hl => ?_)
  replace hl : gh_L ls 1 [(0, 1, va_rf (some v0))] := hl
  unfold wp_X8_init at hw
  refine gh_aload_n hx hb dX8_init_0 rfl (gh_at hl 0 rfl) ?_
  refine gh_kv G (vx_runIN M.1 (met_X2_init l D _ _ _ _ _ hw M.2.2.2.2.2) ⟨va_cnB (host := "BinderyDesk") 0 (gh_Mts M) (lw_meth q176) rfl rfl rfl (M.2.2.1.1 _ (List.mem_of_getElem? (i := 161) rfl)) (gh_Mts M _ q49) ⟨by decide, by decide, rfl⟩ ⟨Nat.le_of_ble_eq_true rfl, Nat.le_of_ble_eq_true rfl⟩, rfl, gh_Mts M _ q175⟩ (gh_pre M G (As := .ref v0 :: [])) rfl rfl hl.1.1 rfl (lv_room (Nat.le_of_ble_eq_true rfl)) dX8_init_1 ⟨(Nat.le_of_ble_eq_true rfl), (Nat.le_of_ble_eq_true rfl)⟩) (gh_out M hex (by exact Nat.le_of_ble_eq_true rfl) (by exact Nat.le_of_ble_eq_true rfl)) (fun h1 H locs hw G => ?_)
  exact gh_vret M G hr hw (by exact Nat.le_of_ble_eq_true rfl) (by exact Nat.le_of_ble_eq_true rfl) dX8_init_4
/-! BinderyDesk$SheetPile.<init> (LBinderyDesk$Counter;)V -/
theorem fl_X9_7 : gh_FL RX9 7 [(3, 1)] := by
  intro args s hts tb q hq
  simp only [List.mem_cons, List.not_mem_nil, or_false] at hq
  subst hq
  exact ⟨_, "BinderyDesk$SheetPile", rfl, by decide, Or.inl (hts _ q765), (fun x h => h)⟩
theorem fp_X9_7 : gh_FP RX9 7 [(3, 1)] (.object "BinderyDesk$Counter") true := by
  refine ⟨fl_X9_7, fun q hq => ?_⟩
  simp only [List.mem_cons, List.not_mem_nil, or_false] at hq
  subst hq
  exact ⟨_, rfl, rfl, by decide +kernel, fun _ => rfl⟩
def rm_X9_init : Room := { frames := 4, cells := 0, slots := 0, locals := 120 }
def wp_X9_init (κ : Nat → Nat) (v0 : Nat) (v1 : Option Nat) (Q : gh_H → Prop) (X : String → gh_H → Prop) (h : gh_H) : Prop := (wp_X8_init κ v0 (fun h1 => (gh_PV h1 (some v0) [(3, 1)] (va_rf v1) (fun h2 => (Q h2)))) X h)
set_option maxHeartbeats 4000000 in
theorem met_X9_init (l : Launch) (D : gh_D) (v0 : Nat) (v1 : Option Nat) (Q : gh_H → Prop) (X : String → gh_H → Prop) (h : gh_H) (sz : Nat) (hw : wp_X9_init D.2.2 v0 v1 Q X h) (hst : l.stackTraces = false) : vx_Met l yX9_init (ws_ yX9_init cX9_init 2 none) rm_X9_init (gh_Pc D h sz [.ref v0, va_rf v1]) (gh_Qv Q D h sz) (gh_X X D h sz) 0 0 (gh_A h sz) := by
  refine vx_ofW (by decide) rfl (fun p e s m args below meth c s₁ B hml hex hP => ?_)
  obtain ⟨rfl, rfl, hK, hT, hE, G⟩ := gh_start hP
  have M : gh_M D p l s m _ meth c RX9 cX9_init 2 (gh_A h s.heap.size) := ⟨⟨B.exec, B.bytes, hml, findClass_of_methodNamed B.named, fun w hw => atoms_spec (ws := ws_ yX9_init cX9_init 2 none) B.pre w (List.mem_cons_of_mem _ hw)⟩, hK, hT, hE, B.notSynchronized, hst⟩
  have hr := B.returns
  have hname : meth.name = "<init>" := (name_of_methodNamed B.named B.method).1
  have hx := M.1.1
  have hb := M.1.2.1
  refine gh_enter (vs := [(1, .ref v0), (1, va_rf v1)]) (gh_w1 rfl (gh_w1 (gh_cat _) gh_wn)) (Nat.le_of_ble_eq_true rfl) (fun ls hl => ?_)
  replace hl : gh_L ls 2 [(0, 1, va_rf (some v0)), (1, 1, va_rf v1)] := hl
  unfold wp_X9_init at hw
  refine gh_aload_n hx hb dX9_init_0 rfl (gh_at hl 0 rfl) ?_
  refine gh_kv G (vx_runIN M.1 (met_X8_init l D _ _ _ _ _ hw M.2.2.2.2.2) ⟨va_cnB (host := "BinderyDesk") 0 (gh_Mts M) (lw_meth q763) rfl rfl rfl (M.2.2.1.1 _ (List.mem_of_getElem? (i := 162) rfl)) (gh_Mts M _ q72) ⟨by decide, by decide, rfl⟩ ⟨Nat.le_of_ble_eq_true rfl, Nat.le_of_ble_eq_true rfl⟩, rfl, gh_Mts M _ q762⟩ (gh_pre M G (As := .ref v0 :: [])) rfl rfl hl.1.1 rfl (lv_room (Nat.le_of_ble_eq_true rfl)) dX9_init_1 ⟨(Nat.le_of_ble_eq_true rfl), (Nat.le_of_ble_eq_true rfl)⟩) (gh_out M hex (by exact Nat.le_of_ble_eq_true rfl) (by exact Nat.le_of_ble_eq_true rfl)) (fun h1 H locs hw G => ?_)
  refine gh_aload_n hx hb dX9_init_4 rfl (gh_at hl 0 rfl) ?_
  refine gh_aload_n hx hb dX9_init_5 rfl (gh_at hl 1 rfl) ?_
  refine gh_putF M G hname hw fp_X9_7 (gh_narR _ _) (gh_fitR _ _) dX9_init_6 (fun h2 H locs hw G => ?_)
  exact gh_vret M G hr hw (by exact Nat.le_of_ble_eq_true rfl) (by exact Nat.le_of_ble_eq_true rfl) dX9_init_9
/-! BinderyDesk$Job.<init> (LBinderyDesk$Binding;LBinderyDesk$Counter;)V -/
theorem nd_X9 : ∀ j, j < 2 → defaultValue (tyX9 j) = vp_V [.long 0, va_rf none] j := by
  intro j hj
  rcases (show j = 0 ∨ j = 1 by omega) with rfl | rfl <;> rfl
theorem fp_X7_12 : gh_FP RX7 12 [(7, 1)] (.object "java/util/List") true := by
  refine ⟨fl_X7_12, fun q hq => ?_⟩
  simp only [List.mem_cons, List.not_mem_nil, or_false] at hq
  subst hq
  exact ⟨_, rfl, rfl, by decide +kernel, fun _ => rfl⟩
theorem fp_X7_18 : gh_FP RX7 18 [(7, 2)] (.object "java/util/List") true := by
  refine ⟨fl_X7_18, fun q hq => ?_⟩
  simp only [List.mem_cons, List.not_mem_nil, or_false] at hq
  subst hq
  exact ⟨_, rfl, rfl, by decide +kernel, fun _ => rfl⟩
theorem fp_X7_21 : gh_FP RX7 21 [(7, 0)] (.object "BinderyDesk$Binding") true := by
  refine ⟨fl_X7_21, fun q hq => ?_⟩
  simp only [List.mem_cons, List.not_mem_nil, or_false] at hq
  subst hq
  exact ⟨_, rfl, rfl, by decide +kernel, fun _ => rfl⟩
def rm_X7_init : Room := { frames := 8, cells := 20, slots := 744, locals := 211 }
def wb_X7_init_33 (κ : Nat → Nat) (K33 : Nat → Nat → Option Nat → Int32 → gh_H → Prop) (it33 : Nat) (Q : gh_H → Prop) (X : String → gh_H → Prop) (v0 : Nat) (v2 : Option Nat) (v3 : Int32) (h : gh_H) : Prop := (((8 : Int32) ≤ v3 → (Q h)) ∧ (¬ (8 : Int32) ≤ v3 → (gh_GR h (some v0) [(7, 2)] (fun x1 => (gh_NO h 3 [.long 0, va_rf none] (fun q2 h3 => (wp_X9_init κ q2 v2 (fun h4 => (gh_RC h4 x1 8 (fun a5 => (wp_J2_add κ a5 (some q2) (fun r6 h7 => K33 (it33 + 1) v0 v2 (v3 + (1 : Int32)) h7) X h4)))) X h3)))))))
def wl_X7_init_33 (κ : Nat → Nat)  (Q : gh_H → Prop) (X : String → gh_H → Prop) : Nat → Nat → Nat → Option Nat → Int32 → gh_H → Prop
  | 0 => fun _ _ _ _ _ => False
  | n + 1 => fun it33 v0 v2 v3 h => it33 ≤ 8 ∧ wb_X7_init_33 κ (wl_X7_init_33 κ Q X n) it33 Q X v0 v2 v3 h
def wp_X7_init (κ : Nat → Nat) (v0 : Nat) (v1 : Option Nat) (v2 : Option Nat) (Q : gh_H → Prop) (X : String → gh_H → Prop) (h : gh_H) : Prop := (gh_NO h 8 [.int 0, va_rf none, .int 0] (fun q1 h2 => (wp_J2_init κ q1 (fun h3 => (gh_PV h3 (some v0) [(7, 1)] (va_rf (some q1)) (fun h4 => (gh_NO h4 8 [.int 0, va_rf none, .int 0] (fun q5 h6 => (wp_J2_init κ q5 (fun h7 => (gh_PV h7 (some v0) [(7, 2)] (va_rf (some q5)) (fun h8 => (gh_PV h8 (some v0) [(7, 0)] (va_rf v1) (fun h9 => (∃ n : Nat, wl_X7_init_33 κ Q X n 0 v0 v2 (0 : Int32) h9)))))) X h6)))))) X h2)))
set_option maxHeartbeats 4000000 in
theorem wk1_X7_init_33 {D : gh_D} {p : Program} {l : Launch} {e : Env} {s : State} {m : MethodId} {args : Array Value} {below : List Frame} {meth : Method} {c : Code} {h0 : gh_H} (M : gh_M D p l s m args meth c RX7 cX7_init 4 (gh_A h0 s.heap.size)) (hr : meth.sig.returnType = none) (hex : ∀ x ∈ c.exceptionTable.toList, False) (hname : meth.name = "<init>") {K33 : Nat → Nat → Option Nat → Int32 → gh_H → Prop} {it33 : Nat} {Q : gh_H → Prop} {X : String → gh_H → Prop} (k33 : ∀ (it33 : Nat) (v0 : Nat) (v2 : Option Nat) (v3 : Int32) (H : Heap) (locs : List Loc) (ls : Array Slot) (h : gh_H) (_ : gh_Inv D h0 (gh_A h0 s.heap.size) s.heap s H locs h) (_ : gh_L ls 4 [(0, 1, va_rf (some v0)), (2, 1, va_rf v2), (3, 1, .int v3)]) (_ : K33 it33 v0 v2 v3 h), W p l e rm_X7_init s m args below meth c H locs (2 + it33 * 2) (6 + it33 * 82) (vx_MQ below (gh_Qv Q D h0 s.heap.size) (gh_X X D h0 s.heap.size) args s 20 744 (gh_A h0 s.heap.size)) (F0 m 33 ls [])) (hit33 : it33 ≤ 8) (v0 : Nat) (v2 : Option Nat) (v3 : Int32) (H : Heap) (locs : List Loc) (ls : Array Slot) (h : gh_H) (G : gh_Inv D h0 (gh_A h0 s.heap.size) s.heap s H locs h) (hl : gh_L ls 4 [(0, 1, va_rf (some v0)), (2, 1, va_rf v2), (3, 1, .int v3)]) (hw : wb_X7_init_33 D.2.2 K33 it33 Q X v0 v2 v3 h) : W p l e rm_X7_init s m args below meth c H locs (2 + it33 * 2) (6 + it33 * 82) (vx_MQ below (gh_Qv Q D h0 s.heap.size) (gh_X X D h0 s.heap.size) args s 20 744 (gh_A h0 s.heap.size)) (F0 m 33 ls []) := by
  unfold wb_X7_init_33 at hw
  have hx := M.1.1
  have hb := M.1.2.1
  refine lv_iload_n hx hb dX7_init_33 rfl (gh_at hl 2 rfl) ?_
  refine lv_bipush (v := (8 : Int32)) hx hb dX7_init_34 (by decide) ?_
  refine lv_icmp_ge (tgt := 63) hx hb dX7_init_36 (by decide) (fun hc => ?_) (fun hc => ?_)
  · replace hw := hw.1 hc
    exact gh_vret M G hr hw (by omega) (by omega) dX7_init_63
  · replace hw := hw.2 hc
    refine gh_aload_n hx hb dX7_init_39 rfl (gh_at hl 0 rfl) ?_
    refine gh_getR M G hw fl_X7_18 dX7_init_40 (fun x1 hw => ?_)
    refine gh_new (N := 2) (r := (RX9, TX9, 2)) (ci := 3) (fs := [.long 0, va_rf none]) M G hw tyX9 tyX9_ok q674 q757 q73 rfl rfl nd_X9 (by show _ ≤ 20; omega) (by show _ ≤ 744; omega) dX7_init_43 (fun q2 h3 H hw G => ?_)
    refine W.widen (k := 3 + it33 * 2) (n := 8 + it33 * 82) (by omega) (by omega) ?_
    refine lv_dup hx hb dX7_init_46 (gh_cat _) ?_
    refine gh_aload_n hx hb dX7_init_47 rfl (gh_at hl 1 rfl) ?_
    refine gh_kv G (vx_runI M.1 (met_X9_init l D _ _ _ _ _ _ hw M.2.2.2.2.2) (cwI 1 (gh_Mts M) (lw_meth q760) rfl rfl rfl (gh_Mts M _ q73) (gh_Mts M _ q758) (gh_Mts M _ q759) rfl ⟨by decide, by decide, rfl⟩ ⟨Nat.le_of_ble_eq_true rfl, Nat.le_of_ble_eq_true rfl⟩) (gh_pre M G (As := .ref q2 :: [va_rf v2])) rfl rfl hl.1.1 rfl (lv_room (Nat.le_trans (gh_r1 (gh_cat _) (gh_r1 (gh_cat _) gh_r0)) (Nat.le_of_ble_eq_true rfl : 2 ≤ 8))) dX7_init_48 ⟨(by show _ ≤ 20; omega), (by show _ ≤ 744; omega)⟩) (gh_out M hex (by omega) (by omega)) (fun h4 H locs hw G => ?_)
    refine W.widen (k := 3 + it33 * 2) (n := 8 + it33 * 82) (by omega) (by omega) ?_
    obtain ⟨a5, lba5, fsa5, rfl, haa5, hw⟩ := hw
    refine gh_kFi G (vx_runF (C := "java/util/ArrayList") (M.2.1.1.1 8 _ rfl).2 M.1 (met_J2_add l D _ _ _ _ _ _ hw M.2.2.2.2.2) (va_cwF 1 (gh_Mts M) (gh_gF q770 q361 q363 q44 q365) rfl rfl rfl (M.2.2.1.2.1 _ (List.mem_of_getElem? (i := 5) rfl)) ⟨by decide, by decide, rfl⟩ ⟨Nat.le_of_ble_eq_true rfl, Nat.le_of_ble_eq_true rfl⟩) (gh_preV (As := [va_rf (some q2)]) M G (gh_rec M G haa5 rfl)) rfl rfl hl.1.1 rfl (lv_room (Nat.le_of_ble_eq_true rfl)) dX7_init_51 ⟨(by show _ ≤ 20; omega), (by show _ ≤ 744; omega)⟩) (gh_out M hex (by omega) (by omega)) (fun r6 h7 H locs hw G => ?_)
    refine W.widen (k := 4 + it33 * 2) (n := 88 + it33 * 82) (by omega) (by omega) ?_
    refine lv_pop hx hb dX7_init_56 rfl ?_
    refine gh_iinc (k := 2) (v := (v3 + (1 : Int32))) (lv' := [(3, 1, .int (v3 + (1 : Int32))), (0, 1, va_rf (some v0)), (2, 1, va_rf v2)]) hx hb dX7_init_57 hl rfl rfl (by decide) rfl (fun ls hl => ?_)
    refine lv_goto (tgt := 33) hx hb dX7_init_60 (by decide) ?_
    refine W.widen (k := 2 + (it33 + 1) * 2) (n := 6 + (it33 + 1) * 82) (by omega) (by omega) ?_
    exact k33 (it33 + 1) v0 v2 (v3 + (1 : Int32)) _ _ _ _ G (gh_sub hl [1, 2, 0] rfl) hw
theorem wk_X7_init_33 {D : gh_D} {p : Program} {l : Launch} {e : Env} {s : State} {m : MethodId} {args : Array Value} {below : List Frame} {meth : Method} {c : Code} {h0 : gh_H} (M : gh_M D p l s m args meth c RX7 cX7_init 4 (gh_A h0 s.heap.size)) (hr : meth.sig.returnType = none) (hex : ∀ x ∈ c.exceptionTable.toList, False) (hname : meth.name = "<init>")   {Q : gh_H → Prop} {X : String → gh_H → Prop}   : ∀ (n : Nat) (it33 : Nat) (v0 : Nat) (v2 : Option Nat) (v3 : Int32) (H : Heap) (locs : List Loc) (ls : Array Slot) (h : gh_H) (_ : gh_Inv D h0 (gh_A h0 s.heap.size) s.heap s H locs h) (_ : gh_L ls 4 [(0, 1, va_rf (some v0)), (2, 1, va_rf v2), (3, 1, .int v3)]) (_ : wl_X7_init_33 D.2.2 Q X n it33 v0 v2 v3 h), W p l e rm_X7_init s m args below meth c H locs (2 + it33 * 2) (6 + it33 * 82) (vx_MQ below (gh_Qv Q D h0 s.heap.size) (gh_X X D h0 s.heap.size) args s 20 744 (gh_A h0 s.heap.size)) (F0 m 33 ls []) := by
  intro fu
  induction fu with
  | zero => intro it33 v0 v2 v3 H locs ls h G hl hw; exact False.elim hw
  | succ n1 ih =>
    intro it33 v0 v2 v3 H locs ls h G hl hw
    obtain ⟨hi, hw⟩ := hw
    exact wk1_X7_init_33 M hr hex hname ih hi v0 v2 v3 _ _ _ _ G hl hw
set_option maxHeartbeats 4000000 in
theorem met_X7_init (l : Launch) (D : gh_D) (v0 : Nat) (v1 : Option Nat) (v2 : Option Nat) (Q : gh_H → Prop) (X : String → gh_H → Prop) (h : gh_H) (sz : Nat) (hw : wp_X7_init D.2.2 v0 v1 v2 Q X h) (hst : l.stackTraces = false) : vx_Met l yX7_init (ws_ yX7_init cX7_init 4 none) rm_X7_init (gh_Pc D h sz [.ref v0, va_rf v1, va_rf v2]) (gh_Qv Q D h sz) (gh_X X D h sz) 20 744 (gh_A h sz) := by
  refine vx_ofW (by decide) rfl (fun p e s m args below meth c s₁ B hml hex hP => ?_)
  obtain ⟨rfl, rfl, hK, hT, hE, G⟩ := gh_start hP
  have M : gh_M D p l s m _ meth c RX7 cX7_init 4 (gh_A h s.heap.size) := ⟨⟨B.exec, B.bytes, hml, findClass_of_methodNamed B.named, fun w hw => atoms_spec (ws := ws_ yX7_init cX7_init 4 none) B.pre w (List.mem_cons_of_mem _ hw)⟩, hK, hT, hE, B.notSynchronized, hst⟩
  have hr := B.returns
  have hname : meth.name = "<init>" := (name_of_methodNamed B.named B.method).1
  have hx := M.1.1
  have hb := M.1.2.1
  refine gh_enter (vs := [(1, .ref v0), (1, va_rf v1), (1, va_rf v2)]) (gh_w1 rfl (gh_w1 (gh_cat _) (gh_w1 (gh_cat _) gh_wn))) (Nat.le_of_ble_eq_true rfl) (fun ls hl => ?_)
  replace hl : gh_L ls 4 [(0, 1, va_rf (some v0)), (1, 1, va_rf v1), (2, 1, va_rf v2)] := hl
  unfold wp_X7_init at hw
  refine gh_aload_n hx hb dX7_init_0 rfl (gh_at hl 0 rfl) ?_
  refine W.objInit M.1.1 M.1.2.1 M.1.2.2.2.1 (gh_Mts M _ q754) (gh_Mts M _ q91) (gh_Mts M _ q92) rfl (hl.1.1.trans M.1.2.2.1.symm) rfl dX7_init_1 (Nat.le_of_ble_eq_true rfl) (Nat.le_trans (Nat.add_le_add_right (Nat.add_le_add_left gh_r0 _) _) (Nat.le_of_ble_eq_true rfl)) ?_
  refine gh_aload_n hx hb dX7_init_4 rfl (gh_at hl 0 rfl) ?_
  refine gh_new (N := 3) (r := (RJ2, TJ2, 3)) (ci := 8) (fs := [.int 0, va_rf none, .int 0]) M G hw tyJ2 tyJ2_ok q755 q94 q44 rfl rfl nd_J2 (Nat.le_of_ble_eq_true rfl) (Nat.le_of_ble_eq_true rfl) dX7_init_5 (fun q1 h2 H hw G => ?_)
  refine lv_dup hx hb dX7_init_8 (gh_cat _) ?_
  refine gh_kv G (vx_runI M.1 (met_J2_init l D _ _ _ _ _ hw M.2.2.2.2.2) (cwI 0 (gh_Mts M) (lw_meth q97) rfl rfl rfl (gh_Mts M _ q44) (gh_Mts M _ q756) (gh_Mts M _ q96) rfl ⟨by decide, by decide, rfl⟩ ⟨Nat.le_of_ble_eq_true rfl, Nat.le_of_ble_eq_true rfl⟩) (gh_pre M G (As := .ref q1 :: [])) rfl rfl hl.1.1 rfl (lv_room (Nat.le_trans (gh_r1 (gh_cat _) (gh_r1 (gh_cat _) gh_r0)) (Nat.le_of_ble_eq_true rfl : 2 ≤ 8))) dX7_init_9 ⟨(Nat.le_of_ble_eq_true rfl), (Nat.le_of_ble_eq_true rfl)⟩) (gh_out M hex (by exact Nat.le_of_ble_eq_true rfl) (by exact Nat.le_of_ble_eq_true rfl)) (fun h3 H locs hw G => ?_)
  refine gh_putF M G hname hw fp_X7_12 (gh_narR _ _) (gh_fitR _ _) dX7_init_12 (fun h4 H locs hw G => ?_)
  refine gh_aload_n hx hb dX7_init_15 rfl (gh_at hl 0 rfl) ?_
  refine gh_new (N := 3) (r := (RJ2, TJ2, 3)) (ci := 8) (fs := [.int 0, va_rf none, .int 0]) M G hw tyJ2 tyJ2_ok q755 q94 q44 rfl rfl nd_J2 (Nat.le_of_ble_eq_true rfl) (Nat.le_of_ble_eq_true rfl) dX7_init_16 (fun q5 h6 H hw G => ?_)
  refine lv_dup hx hb dX7_init_19 (gh_cat _) ?_
  refine gh_kv G (vx_runI M.1 (met_J2_init l D _ _ _ _ _ hw M.2.2.2.2.2) (cwI 0 (gh_Mts M) (lw_meth q97) rfl rfl rfl (gh_Mts M _ q44) (gh_Mts M _ q756) (gh_Mts M _ q96) rfl ⟨by decide, by decide, rfl⟩ ⟨Nat.le_of_ble_eq_true rfl, Nat.le_of_ble_eq_true rfl⟩) (gh_pre M G (As := .ref q5 :: [])) rfl rfl hl.1.1 rfl (lv_room (Nat.le_trans (gh_r1 (gh_cat _) (gh_r1 (gh_cat _) gh_r0)) (Nat.le_of_ble_eq_true rfl : 2 ≤ 8))) dX7_init_20 ⟨(Nat.le_of_ble_eq_true rfl), (Nat.le_of_ble_eq_true rfl)⟩) (gh_out M hex (by exact Nat.le_of_ble_eq_true rfl) (by exact Nat.le_of_ble_eq_true rfl)) (fun h7 H locs hw G => ?_)
  refine gh_putF M G hname hw fp_X7_18 (gh_narR _ _) (gh_fitR _ _) dX7_init_23 (fun h8 H locs hw G => ?_)
  refine gh_aload_n hx hb dX7_init_26 rfl (gh_at hl 0 rfl) ?_
  refine gh_aload_n hx hb dX7_init_27 rfl (gh_at hl 1 rfl) ?_
  refine gh_putF M G hname hw fp_X7_21 (gh_narR _ _) (gh_fitR _ _) dX7_init_28 (fun h9 H locs hw G => ?_)
  refine lv_iconst (v := (0 : Int32)) hx hb dX7_init_31 (by decide) ?_
  refine gh_istore_n (lv' := [(3, 1, .int (0 : Int32)), (0, 1, va_rf (some v0)), (1, 1, va_rf v1), (2, 1, va_rf v2)]) hx hb dX7_init_32 rfl hl (by decide) rfl (fun ls hl => ?_)
  obtain ⟨n, hw⟩ := hw
  refine W.widen (k := 2 + 0 * 2) (n := 6 + 0 * 82) (by omega) (by omega) ?_
  exact wk_X7_init_33 M hr hex hname  n 0 v0 v2 (0 : Int32) _ _ _ _ G (gh_sub hl [1, 3, 0] rfl) hw
/-! BinderyDesk.addJob (C)I -/
theorem nd_X7 : ∀ j, j < 3 → defaultValue (tyX7 j) = vp_V [va_rf none, va_rf none, va_rf none] j := by
  intro j hj
  rcases (show j = 0 ∨ j = 1 ∨ j = 2 by omega) with rfl | rfl | rfl <;> rfl
def rm_X1_addJob : Room := { frames := 9, cells := 25, slots := 842, locals := 234 }
def wb_X1_addJob_23 (κ : Nat → Nat)  (Q : Int32 → gh_H → Prop) (X : String → gh_H → Prop) (v0 : Nat) (v2 : Option Nat) (t0 : Int32) (h : gh_H) : Prop := (wp_X1_requireState κ t0 (fun h1 => (gh_GR h1 (some v0) [(0, 1)] (fun x2 => (gh_NO h1 7 [va_rf none, va_rf none, va_rf none] (fun q3 h4 => (gh_GR h4 (some v0) [(0, 5)] (fun x5 => (wp_X7_init κ q3 v2 x5 (fun h6 => (gh_RC h6 x2 8 (fun a7 => (wp_J2_add κ a7 (some q3) (fun r8 h9 => (gh_GR h9 (some v0) [(0, 1)] (fun x10 => (gh_RC h9 x10 8 (fun a11 => (wp_J2_size κ a11 (fun r12 h13 => (Q (r12 - (1 : Int32)) h13)) X h9)))))) X h6)))) X h4)))))))) X h)
def wp_X1_addJob (κ : Nat → Nat) (v0 : Nat) (v1 : Int32) (Q : Int32 → gh_H → Prop) (X : String → gh_H → Prop) (h : gh_H) : Prop := (wp_X6_of κ v1 (fun r1 h2 => (gh_GR h2 (some v0) [(0, 1)] (fun x3 => (gh_RC h2 x3 8 (fun a4 => (wp_J2_size κ a4 (fun r5 h6 => (((4 : Int32) ≤ r5 → wb_X1_addJob_23 κ Q X v0 r1 (0 : Int32) h6) ∧ (¬ (4 : Int32) ≤ r5 → wb_X1_addJob_23 κ Q X v0 r1 (1 : Int32) h6))) X h2)))))) X h)
set_option maxHeartbeats 4000000 in
theorem wk_X1_addJob_23 {D : gh_D} {p : Program} {l : Launch} {e : Env} {s : State} {m : MethodId} {args : Array Value} {below : List Frame} {meth : Method} {c : Code} {h0 : gh_H} (M : gh_M D p l s m args meth c RX1 cX1_addJob 3 (gh_A h0 s.heap.size)) (hr : meth.sig.returnType = (some .int)) (hex : ∀ x ∈ c.exceptionTable.toList, False)   {Q : Int32 → gh_H → Prop} {X : String → gh_H → Prop}   (v0 : Nat) (v2 : Option Nat) (t0 : Int32) (H : Heap) (locs : List Loc) (ls : Array Slot) (h : gh_H) (G : gh_Inv D h0 (gh_A h0 s.heap.size) s.heap s H locs h) (hl : gh_L ls 3 [(0, 1, va_rf (some v0)), (2, 1, va_rf v2)]) (hw : wb_X1_addJob_23 D.2.2 Q X v0 v2 t0 h) : W p l e rm_X1_addJob s m args below meth c H locs 2 9 (vx_MQ below (gh_Qi Q D h0 s.heap.size) (gh_X X D h0 s.heap.size) args s 25 842 (gh_A h0 s.heap.size)) (F0 m 23 ls [.int t0]) := by
  unfold wb_X1_addJob_23 at hw
  have hx := M.1.1
  have hb := M.1.2.1
  refine gh_kv G (vx_runS M.1 (met_X1_requireState l D _ _ _ _ _ hw M.2.2.2.2.2) (va_cwS 1 (gh_Mts M) (lw_S q266 q267 q41 q268) rfl rfl rfl ⟨by decide, by decide, rfl⟩ ⟨Nat.le_of_ble_eq_true rfl, Nat.le_of_ble_eq_true rfl⟩) (gh_pre M G (As := [.int t0])) rfl rfl hl.1.1 rfl (lv_room (Nat.le_of_ble_eq_true rfl)) dX1_addJob_23 ⟨(Nat.le_of_ble_eq_true rfl), (Nat.le_of_ble_eq_true rfl)⟩) (gh_out M hex (by exact Nat.le_of_ble_eq_true rfl) (by exact Nat.le_of_ble_eq_true rfl)) (fun h1 H locs hw G => ?_)
  refine gh_aload_n hx hb dX1_addJob_26 rfl (gh_at hl 0 rfl) ?_
  refine gh_getR M G hw fl_X1_31 dX1_addJob_27 (fun x2 hw => ?_)
  refine gh_new (N := 3) (r := (RX7, TX7, 3)) (ci := 7) (fs := [va_rf none, va_rf none, va_rf none]) M G hw tyX7 tyX7_ok q623 q750 q71 rfl rfl nd_X7 (Nat.le_of_ble_eq_true rfl) (Nat.le_of_ble_eq_true rfl) dX1_addJob_30 (fun q3 h4 H hw G => ?_)
  refine lv_dup hx hb dX1_addJob_33 (gh_cat _) ?_
  refine gh_aload_n hx hb dX1_addJob_34 rfl (gh_at hl 1 rfl) ?_
  refine gh_aload_n hx hb dX1_addJob_35 rfl (gh_at hl 0 rfl) ?_
  refine gh_getR M G hw fl_X1_50 dX1_addJob_36 (fun x5 hw => ?_)
  refine gh_kv G (vx_runI M.1 (met_X7_init l D _ _ _ _ _ _ _ hw M.2.2.2.2.2) (cwI 2 (gh_Mts M) (lw_meth q753) rfl rfl rfl (gh_Mts M _ q71) (gh_Mts M _ q751) (gh_Mts M _ q752) rfl ⟨by decide, by decide, rfl⟩ ⟨Nat.le_of_ble_eq_true rfl, Nat.le_of_ble_eq_true rfl⟩) (gh_pre M G (As := .ref q3 :: [va_rf v2, va_rf x5])) rfl rfl hl.1.1 rfl (lv_room (Nat.le_trans (gh_r1 (gh_cat _) (gh_r1 (gh_cat _) gh_r0)) (Nat.le_of_ble_eq_true rfl : 2 ≤ 8))) dX1_addJob_39 ⟨(Nat.le_of_ble_eq_true rfl), (Nat.le_of_ble_eq_true rfl)⟩) (gh_out M hex (by exact Nat.le_of_ble_eq_true rfl) (by exact Nat.le_of_ble_eq_true rfl)) (fun h6 H locs hw G => ?_)
  obtain ⟨a7, lba7, fsa7, rfl, haa7, hw⟩ := hw
  refine gh_kFi G (vx_runF (C := "java/util/ArrayList") (M.2.1.1.1 8 _ rfl).2 M.1 (met_J2_add l D _ _ _ _ _ _ hw M.2.2.2.2.2) (va_cwF 1 (gh_Mts M) (gh_gF q358 q361 q363 q44 q365) rfl rfl rfl (M.2.2.1.2.1 _ (List.mem_of_getElem? (i := 5) rfl)) ⟨by decide, by decide, rfl⟩ ⟨Nat.le_of_ble_eq_true rfl, Nat.le_of_ble_eq_true rfl⟩) (gh_preV (As := [va_rf (some q3)]) M G (gh_rec M G haa7 rfl)) rfl rfl hl.1.1 rfl (lv_room (Nat.le_of_ble_eq_true rfl)) dX1_addJob_42 ⟨(Nat.le_of_ble_eq_true rfl), (Nat.le_of_ble_eq_true rfl)⟩) (gh_out M hex (by exact Nat.le_of_ble_eq_true rfl) (by exact Nat.le_of_ble_eq_true rfl)) (fun r8 h9 H locs hw G => ?_)
  refine lv_pop hx hb dX1_addJob_47 rfl ?_
  refine gh_aload_n hx hb dX1_addJob_48 rfl (gh_at hl 0 rfl) ?_
  refine gh_getR M G hw fl_X1_31 dX1_addJob_49 (fun x10 hw => ?_)
  obtain ⟨a11, lba11, fsa11, rfl, haa11, hw⟩ := hw
  refine gh_kFi G (vx_runF (C := "java/util/ArrayList") (M.2.1.1.1 8 _ rfl).2 M.1 (met_J2_size l D _ _ _ _ _ hw M.2.2.2.2.2) (va_cwF 0 (gh_Mts M) (gh_gF q239 q243 q245 q44 q247) rfl rfl rfl (M.2.2.1.2.1 _ (List.mem_of_getElem? (i := 4) rfl)) ⟨by decide, by decide, rfl⟩ ⟨Nat.le_of_ble_eq_true rfl, Nat.le_of_ble_eq_true rfl⟩) (gh_preV (As := []) M G (gh_rec M G haa11 rfl)) rfl rfl hl.1.1 rfl (lv_room (Nat.le_of_ble_eq_true rfl)) dX1_addJob_52 ⟨(Nat.le_of_ble_eq_true rfl), (Nat.le_of_ble_eq_true rfl)⟩) (gh_out M hex (by exact Nat.le_of_ble_eq_true rfl) (by exact Nat.le_of_ble_eq_true rfl)) (fun r12 h13 H locs hw G => ?_)
  refine lv_iconst (v := (1 : Int32)) hx hb dX1_addJob_57 (by decide) ?_
  refine lv_isub hx hb dX1_addJob_58 ?_
  exact gh_iret M G hr rfl hw (by exact Nat.le_of_ble_eq_true rfl) (by exact Nat.le_of_ble_eq_true rfl) dX1_addJob_59
set_option maxHeartbeats 4000000 in
theorem met_X1_addJob (l : Launch) (D : gh_D) (v0 : Nat) (v1 : Int32) (Q : Int32 → gh_H → Prop) (X : String → gh_H → Prop) (h : gh_H) (sz : Nat) (hw : wp_X1_addJob D.2.2 v0 v1 Q X h) (hst : l.stackTraces = false) : vx_Met l yX1_addJob (ws_ yX1_addJob cX1_addJob 3 (some .int)) rm_X1_addJob (gh_Pc D h sz [.ref v0, .int v1]) (gh_Qi Q D h sz) (gh_X X D h sz) 25 842 (gh_A h sz) := by
  refine vx_ofW (by decide) rfl (fun p e s m args below meth c s₁ B hml hex hP => ?_)
  obtain ⟨rfl, rfl, hK, hT, hE, G⟩ := gh_start hP
  have M : gh_M D p l s m _ meth c RX1 cX1_addJob 3 (gh_A h s.heap.size) := ⟨⟨B.exec, B.bytes, hml, findClass_of_methodNamed B.named, fun w hw => atoms_spec (ws := ws_ yX1_addJob cX1_addJob 3 (some .int)) B.pre w (List.mem_cons_of_mem _ hw)⟩, hK, hT, hE, B.notSynchronized, hst⟩
  have hr := B.returns
  have hx := M.1.1
  have hb := M.1.2.1
  refine gh_enter (vs := [(1, .ref v0), (1, .int v1)]) (gh_w1 rfl (gh_w1 rfl gh_wn)) (Nat.le_of_ble_eq_true rfl) (fun ls hl => ?_)
  replace hl : gh_L ls 3 [(0, 1, va_rf (some v0)), (1, 1, .int v1)] := hl
  unfold wp_X1_addJob at hw
  refine lv_iload_n hx hb dX1_addJob_0 rfl (gh_at hl 1 rfl) ?_
  refine gh_kq G (vx_runS M.1 (met_X6_of l D _ _ _ _ _ hw M.2.2.2.2.2) (va_cwS 1 (gh_Mts M) (lw_S q719 q720 q69 q721) rfl rfl rfl ⟨by decide, by decide, rfl⟩ ⟨Nat.le_of_ble_eq_true rfl, Nat.le_of_ble_eq_true rfl⟩) (gh_pre M G (As := [.int v1])) rfl rfl hl.1.1 rfl (lv_room (Nat.le_of_ble_eq_true rfl)) dX1_addJob_1 ⟨(Nat.le_of_ble_eq_true rfl), (Nat.le_of_ble_eq_true rfl)⟩) (gh_out M hex (by exact Nat.le_of_ble_eq_true rfl) (by exact Nat.le_of_ble_eq_true rfl)) (fun r1 h2 H locs hw G => ?_)
  refine gh_astore_n (lv' := [(2, 1, va_rf r1), (0, 1, va_rf (some v0)), (1, 1, .int v1)]) hx hb dX1_addJob_4 rfl hl (by decide) rfl (fun ls hl => ?_)
  refine gh_aload_n hx hb dX1_addJob_5 rfl (gh_at hl 1 rfl) ?_
  refine gh_getR M G hw fl_X1_31 dX1_addJob_6 (fun x3 hw => ?_)
  obtain ⟨a4, lba4, fsa4, rfl, haa4, hw⟩ := hw
  refine gh_kFi G (vx_runF (C := "java/util/ArrayList") (M.2.1.1.1 8 _ rfl).2 M.1 (met_J2_size l D _ _ _ _ _ hw M.2.2.2.2.2) (va_cwF 0 (gh_Mts M) (gh_gF q239 q243 q245 q44 q247) rfl rfl rfl (M.2.2.1.2.1 _ (List.mem_of_getElem? (i := 4) rfl)) ⟨by decide, by decide, rfl⟩ ⟨Nat.le_of_ble_eq_true rfl, Nat.le_of_ble_eq_true rfl⟩) (gh_preV (As := []) M G (gh_rec M G haa4 rfl)) rfl rfl hl.1.1 rfl (lv_room (Nat.le_of_ble_eq_true rfl)) dX1_addJob_9 ⟨(Nat.le_of_ble_eq_true rfl), (Nat.le_of_ble_eq_true rfl)⟩) (gh_out M hex (by exact Nat.le_of_ble_eq_true rfl) (by exact Nat.le_of_ble_eq_true rfl)) (fun r5 h6 H locs hw G => ?_)
  refine lv_iconst (v := (4 : Int32)) hx hb dX1_addJob_14 (by decide) ?_
  refine lv_icmp_ge (tgt := 22) hx hb dX1_addJob_15 (by decide) (fun hc => ?_) (fun hc => ?_)
  · replace hw := hw.1 hc
    refine lv_iconst (v := (0 : Int32)) hx hb dX1_addJob_22 (by decide) ?_
    exact wk_X1_addJob_23 M hr hex  v0 r1 (0 : Int32) _ _ _ _ G (gh_sub hl [1, 0] rfl) hw
  · replace hw := hw.2 hc
    refine lv_iconst (v := (1 : Int32)) hx hb dX1_addJob_18 (by decide) ?_
    refine lv_goto (tgt := 23) hx hb dX1_addJob_19 (by decide) ?_
    exact wk_X1_addJob_23 M hr hex  v0 r1 (1 : Int32) _ _ _ _ G (gh_sub hl [1, 0] rfl) hw
/-! BinderyDeskLaw.addJob (LBinderyDesk;C[J)I -/
def rm_X0_addJob : Room := { frames := 10, cells := 25, slots := 842, locals := 256 }
def wb_X0_addJob_12 (κ : Nat → Nat)  (Q : Int32 → gh_H → Prop) (X : String → gh_H → Prop) (t0 : Option Nat) (h : gh_H) : Prop := (Q (1 : Int32) h)
def wb_X0_addJob_15 (κ : Nat → Nat)  (Q : Int32 → gh_H → Prop) (X : String → gh_H → Prop) (t0 : Option Nat) (h : gh_H) : Prop := (Q (2 : Int32) h)
def wp_X0_addJob (κ : Nat → Nat) (v0 : Option Nat) (v1 : Int32) (v2 : Option Nat) (Q : Int32 → gh_H → Prop) (X : String → gh_H → Prop) (h : gh_H) : Prop := (gh_RC h v0 0 (fun a1 => (wp_X1_addJob κ a1 v1 (fun r2 h3 => (gh_SJ h3 v2 (0 : Int32) (r2.toInt64) (fun h4 => (Q (0 : Int32) h4)))) (fun E h9 => (E = "java/lang/IllegalArgumentException" ∧ ∀ q9 : Nat, wb_X0_addJob_12 κ Q X (some q9) h9) ∨ (E = "java/lang/IllegalStateException" ∧ ∀ q9 : Nat, wb_X0_addJob_15 κ Q X (some q9) h9)) h)))
set_option maxHeartbeats 4000000 in
theorem wk_X0_addJob_12 {D : gh_D} {p : Program} {l : Launch} {e : Env} {s : State} {m : MethodId} {args : Array Value} {below : List Frame} {meth : Method} {c : Code} {h0 : gh_H} (M : gh_M D p l s m args meth c RX0 cX0_addJob 4 (gh_A h0 s.heap.size)) (hr : meth.sig.returnType = (some .int)) (htab : c.exceptionTable.toList = tableOf [(0, 9, 12, 32), (0, 9, 15, 13)])   {Q : Int32 → gh_H → Prop} {X : String → gh_H → Prop}   (t0 : Option Nat) (H : Heap) (locs : List Loc) (ls : Array Slot) (h : gh_H) (G : gh_Inv D h0 (gh_A h0 s.heap.size) s.heap s H locs h) (hl : gh_L ls 4 []) (hw : wb_X0_addJob_12 D.2.2 Q X t0 h) : W p l e rm_X0_addJob s m args below meth c H locs 25 842 (vx_MQ below (gh_Qi Q D h0 s.heap.size) (gh_X X D h0 s.heap.size) args s 25 842 (gh_A h0 s.heap.size)) (F0 m 12 ls [va_rf t0]) := by
  unfold wb_X0_addJob_12 at hw
  have hx := M.1.1
  have hb := M.1.2.1
  refine gh_astore_n (lv' := [(3, 1, va_rf t0)]) hx hb dX0_addJob_12 rfl hl (by decide) rfl (fun ls hl => ?_)
  refine lv_iconst (v := (1 : Int32)) hx hb dX0_addJob_13 (by decide) ?_
  exact gh_iret M G hr rfl hw (by exact Nat.le_of_ble_eq_true rfl) (by exact Nat.le_of_ble_eq_true rfl) dX0_addJob_14
set_option maxHeartbeats 4000000 in
theorem wk_X0_addJob_15 {D : gh_D} {p : Program} {l : Launch} {e : Env} {s : State} {m : MethodId} {args : Array Value} {below : List Frame} {meth : Method} {c : Code} {h0 : gh_H} (M : gh_M D p l s m args meth c RX0 cX0_addJob 4 (gh_A h0 s.heap.size)) (hr : meth.sig.returnType = (some .int)) (htab : c.exceptionTable.toList = tableOf [(0, 9, 12, 32), (0, 9, 15, 13)])   {Q : Int32 → gh_H → Prop} {X : String → gh_H → Prop}   (t0 : Option Nat) (H : Heap) (locs : List Loc) (ls : Array Slot) (h : gh_H) (G : gh_Inv D h0 (gh_A h0 s.heap.size) s.heap s H locs h) (hl : gh_L ls 4 []) (hw : wb_X0_addJob_15 D.2.2 Q X t0 h) : W p l e rm_X0_addJob s m args below meth c H locs 25 842 (vx_MQ below (gh_Qi Q D h0 s.heap.size) (gh_X X D h0 s.heap.size) args s 25 842 (gh_A h0 s.heap.size)) (F0 m 15 ls [va_rf t0]) := by
  unfold wb_X0_addJob_15 at hw
  have hx := M.1.1
  have hb := M.1.2.1
  refine gh_astore_n (lv' := [(3, 1, va_rf t0)]) hx hb dX0_addJob_15 rfl hl (by decide) rfl (fun ls hl => ?_)
  refine lv_iconst (v := (2 : Int32)) hx hb dX0_addJob_16 (by decide) ?_
  exact gh_iret M G hr rfl hw (by exact Nat.le_of_ble_eq_true rfl) (by exact Nat.le_of_ble_eq_true rfl) dX0_addJob_17
set_option maxHeartbeats 4000000 in
theorem met_X0_addJob (l : Launch) (D : gh_D) (v0 : Option Nat) (v1 : Int32) (v2 : Option Nat) (Q : Int32 → gh_H → Prop) (X : String → gh_H → Prop) (h : gh_H) (sz : Nat) (hw : wp_X0_addJob D.2.2 v0 v1 v2 Q X h) (hst : l.stackTraces = false) : vx_Met l yX0_addJob (wsW_ yX0_addJob cX0_addJob 4 (some .int) [(0, 9, 12, 32), (0, 9, 15, 13)]) rm_X0_addJob (gh_Pc D h sz [va_rf v0, .int v1, va_rf v2]) (gh_Qi Q D h sz) (gh_X X D h sz) 25 842 (gh_A h sz) := by
  refine vx_ofWH (by decide) rfl (fun p e s m args below meth c s₁ B hml hP => ?_)
  have htab := vx_table (x := yX0_addJob) B (atoms_spec (ws := wsW_ yX0_addJob cX0_addJob 4 (some .int) [(0, 9, 12, 32), (0, 9, 15, 13)]) B.pre _ List.mem_cons_self)
  obtain ⟨rfl, rfl, hK, hT, hE, G⟩ := gh_start hP
  have M : gh_M D p l s m _ meth c RX0 cX0_addJob 4 (gh_A h s.heap.size) := ⟨⟨B.exec, B.bytes, hml, findClass_of_methodNamed B.named, fun w hw => atoms_spec (ws := wsW_ yX0_addJob cX0_addJob 4 (some .int) [(0, 9, 12, 32), (0, 9, 15, 13)]) B.pre w (List.mem_cons_of_mem _ hw)⟩, hK, hT, hE, B.notSynchronized, hst⟩
  have hr := B.returns
  have hx := M.1.1
  have hb := M.1.2.1
  refine gh_enter (vs := [(1, va_rf v0), (1, .int v1), (1, va_rf v2)]) (gh_w1 (gh_cat _) (gh_w1 rfl (gh_w1 (gh_cat _) gh_wn))) (Nat.le_of_ble_eq_true rfl) (fun ls hl => ?_)
  replace hl : gh_L ls 4 [(0, 1, va_rf v0), (1, 1, .int v1), (2, 1, va_rf v2)] := hl
  unfold wp_X0_addJob at hw
  refine gh_aload_n hx hb dX0_addJob_0 rfl (gh_at hl 2 rfl) ?_
  refine lv_iconst (v := (0 : Int32)) hx hb dX0_addJob_1 (by decide) ?_
  refine gh_aload_n hx hb dX0_addJob_2 rfl (gh_at hl 0 rfl) ?_
  refine lv_iload_n hx hb dX0_addJob_3 rfl (gh_at hl 1 rfl) ?_
  obtain ⟨a1, lba1, fsa1, rfl, haa1, hw⟩ := hw
  refine gh_ki G (vx_runV M.1 (met_X1_addJob l D _ _ _ _ _ _ hw M.2.2.2.2.2) (cwV 1 (gh_Mts M) (lw_V q715 q716 q717 q41 q718) rfl rfl rfl ⟨rfl, by decide, by decide, rfl⟩ ⟨Nat.le_of_ble_eq_true rfl, Nat.le_of_ble_eq_true rfl⟩) (gh_preV (As := [.int v1]) M G (gh_rec M G haa1 rfl)) rfl rfl hl.1.1 rfl (lv_room (Nat.le_trans (gh_r1 rfl (gh_r1 (gh_cat _) gh_r0)) (Nat.le_of_ble_eq_true rfl : 2 ≤ 8))) dX0_addJob_4 ⟨(Nat.le_of_ble_eq_true rfl), (Nat.le_of_ble_eq_true rfl)⟩) (fun E ce q9 h9 H locs hX G hce hcv hcl => ?_) (fun r2 h3 H locs hw G => ?_)
  · rcases hX with ⟨rfl, hX⟩ | ⟨rfl, hX⟩
    · replace hw := hX q9
      refine vx_catch (name := "java/lang/IllegalArgumentException") M.1.2.2.2.1 (tableOf []) ⟨0, 9, 12, 32⟩ (tableOf [(0, 9, 15, 13)]) (htab.trans rfl) (fun _ h => absurd h List.not_mem_nil) (by decide) (by decide) (gh_Mts M _ q714) (va_Nw.use rfl (M.2.2.1.1 _ (List.mem_of_getElem? (i := 49) rfl))) hce hcv hcl ?_
      exact wk_X0_addJob_12 M hr htab  (some q9) _ _ _ _ G (gh_sub hl [] rfl) hw
    · replace hw := hX q9
      refine vx_catch (name := "java/lang/IllegalStateException") M.1.2.2.2.1 (tableOf [(0, 9, 12, 32)]) ⟨0, 9, 15, 13⟩ (tableOf []) (htab.trans rfl) (List.forall_mem_cons.mpr ⟨Or.inr ⟨by decide, "java/lang/IllegalArgumentException", gh_Mts M _ q714, M.2.2.1.2.2.1 _ (List.mem_of_getElem? (i := 8) rfl)⟩, fun _ h => absurd h List.not_mem_nil⟩) (by decide) (by decide) (gh_Mts M _ q261) (va_Nw.use rfl (M.2.2.1.1 _ (List.mem_of_getElem? (i := 4) rfl))) hce hcv hcl ?_
      exact wk_X0_addJob_15 M hr htab  (some q9) _ _ _ _ G (gh_sub hl [] rfl) hw
  · refine lv_i2l (v := (r2.toInt64)) hx hb dX0_addJob_7 rfl ?_
    refine gh_jas M G hw dX0_addJob_8 (fun h4 H locs hw G => ?_)
    refine lv_goto (tgt := 18) hx hb dX0_addJob_9 (by decide) ?_
    refine lv_iconst (v := (0 : Int32)) hx hb dX0_addJob_18 (by decide) ?_
    exact gh_iret M G hr rfl hw (by exact Nat.le_of_ble_eq_true rfl) (by exact Nat.le_of_ble_eq_true rfl) dX0_addJob_19
/-! BinderyDeskModel.addJob (C)I -/
theorem fp_X3_68 : gh_FP RX3 68 [(1, 2)] (.int) false := by
  refine ⟨fl_X3_68, fun q hq => ?_⟩
  simp only [List.mem_cons, List.not_mem_nil, or_false] at hq
  subst hq
  exact ⟨_, rfl, rfl, by decide +kernel, fun h => by cases h⟩
def rm_X3_addJob : Room := { frames := 2, cells := 0, slots := 0, locals := 61 }
def wb_X3_addJob_24 (κ : Nat → Nat)  (Q : Int32 → gh_H → Prop) (X : String → gh_H → Prop) (v0 : Nat) (v1 : Int32) (h : gh_H) : Prop := (gh_GI h (some v0) [(1, 2)] (fun x1 => ((x1 = (4 : Int32) → (gh_RC h (some v0) 1 (fun _ => (wp_X3_fails κ v0 (2 : Int32) (fun r10 h11 => (Q r10 h11)) X h)))) ∧ (¬ x1 = (4 : Int32) → (gh_PV h (some v0) [(1, 0)] (.int (0 : Int32)) (fun h2 => (gh_GR h2 (some v0) [(1, 13)] (fun x3 => (gh_GI h2 (some v0) [(1, 2)] (fun x4 => (gh_SI h2 x3 x4 v1 (fun h5 => (gh_GI h5 (some v0) [(1, 2)] (fun x6 => (gh_PV h5 (some v0) [(1, 2)] (.int (x6 + (1 : Int32))) (fun h7 => (gh_GI h7 (some v0) [(1, 2)] (fun x8 => (Q (x8 - (1 : Int32)) h7)))))))))))))))))))
def wp_X3_addJob (κ : Nat → Nat) (v0 : Nat) (v1 : Int32) (Q : Int32 → gh_H → Prop) (X : String → gh_H → Prop) (h : gh_H) : Prop := ((v1 = (115 : Int32) → wb_X3_addJob_24 κ Q X v0 v1 h) ∧ (¬ v1 = (115 : Int32) → ((v1 = (112 : Int32) → wb_X3_addJob_24 κ Q X v0 v1 h) ∧ (¬ v1 = (112 : Int32) → ((v1 = (119 : Int32) → wb_X3_addJob_24 κ Q X v0 v1 h) ∧ (¬ v1 = (119 : Int32) → (gh_RC h (some v0) 1 (fun _ => (wp_X3_fails κ v0 (1 : Int32) (fun r2 h3 => (Q r2 h3)) X h)))))))))
set_option maxHeartbeats 4000000 in
theorem wk_X3_addJob_24 {D : gh_D} {p : Program} {l : Launch} {e : Env} {s : State} {m : MethodId} {args : Array Value} {below : List Frame} {meth : Method} {c : Code} {h0 : gh_H} (M : gh_M D p l s m args meth c RX3 cX3_addJob 2 (gh_A h0 s.heap.size)) (hr : meth.sig.returnType = (some .int)) (hex : ∀ x ∈ c.exceptionTable.toList, False)   {Q : Int32 → gh_H → Prop} {X : String → gh_H → Prop}   (v0 : Nat) (v1 : Int32) (H : Heap) (locs : List Loc) (ls : Array Slot) (h : gh_H) (G : gh_Inv D h0 (gh_A h0 s.heap.size) s.heap s H locs h) (hl : gh_L ls 2 [(0, 1, va_rf (some v0)), (1, 1, .int v1)]) (hw : wb_X3_addJob_24 D.2.2 Q X v0 v1 h) : W p l e rm_X3_addJob s m args below meth c H locs 0 0 (vx_MQ below (gh_Qi Q D h0 s.heap.size) (gh_X X D h0 s.heap.size) args s 0 0 (gh_A h0 s.heap.size)) (F0 m 24 ls []) := by
  unfold wb_X3_addJob_24 at hw
  have hx := M.1.1
  have hb := M.1.2.1
  refine gh_aload_n hx hb dX3_addJob_24 rfl (gh_at hl 0 rfl) ?_
  refine gh_getI M G hw fl_X3_68 dX3_addJob_25 (fun x1 hw => ?_)
  refine lv_iconst (v := (4 : Int32)) hx hb dX3_addJob_28 (by decide) ?_
  refine lv_icmp_ne (tgt := 38) hx hb dX3_addJob_29 (by decide) (fun hc => ?_) (fun hc => ?_)
  · replace hw := hw.2 hc
    refine gh_aload_n hx hb dX3_addJob_38 rfl (gh_at hl 0 rfl) ?_
    refine lv_iconst (v := (0 : Int32)) hx hb dX3_addJob_39 (by decide) ?_
    refine gh_put M G hw fp_X3_53 rfl rfl dX3_addJob_40 (fun h2 H locs hw G => ?_)
    refine gh_aload_n hx hb dX3_addJob_43 rfl (gh_at hl 0 rfl) ?_
    refine gh_getR M G hw fl_X3_13 dX3_addJob_44 (fun x3 hw => ?_)
    refine gh_aload_n hx hb dX3_addJob_47 rfl (gh_at hl 0 rfl) ?_
    refine gh_getI M G hw fl_X3_68 dX3_addJob_48 (fun x4 hw => ?_)
    refine lv_iload_n hx hb dX3_addJob_51 rfl (gh_at hl 1 rfl) ?_
    refine gh_ias M G hw dX3_addJob_52 (fun h5 H locs hw G => ?_)
    refine gh_aload_n hx hb dX3_addJob_53 rfl (gh_at hl 0 rfl) ?_
    refine lv_dup hx hb dX3_addJob_54 (gh_cat _) ?_
    refine gh_getI M G hw fl_X3_68 dX3_addJob_55 (fun x6 hw => ?_)
    refine lv_iconst (v := (1 : Int32)) hx hb dX3_addJob_58 (by decide) ?_
    refine lv_iadd hx hb dX3_addJob_59 ?_
    refine gh_put M G hw fp_X3_68 rfl rfl dX3_addJob_60 (fun h7 H locs hw G => ?_)
    refine gh_aload_n hx hb dX3_addJob_63 rfl (gh_at hl 0 rfl) ?_
    refine gh_getI M G hw fl_X3_68 dX3_addJob_64 (fun x8 hw => ?_)
    refine lv_iconst (v := (1 : Int32)) hx hb dX3_addJob_67 (by decide) ?_
    refine lv_isub hx hb dX3_addJob_68 ?_
    exact gh_iret M G hr rfl hw (by exact Nat.le_of_ble_eq_true rfl) (by exact Nat.le_of_ble_eq_true rfl) dX3_addJob_69
  · replace hw := hw.1 hc
    refine gh_aload_n hx hb dX3_addJob_32 rfl (gh_at hl 0 rfl) ?_
    refine lv_iconst (v := (2 : Int32)) hx hb dX3_addJob_33 (by decide) ?_
    obtain ⟨a9, lba9, fsa9, hra9, haa9, hw⟩ := hw
    rw [← Option.some.inj hra9] at haa9
    refine gh_ki G (vx_runV M.1 (met_X3_fails l D _ _ _ _ _ _ hw M.2.2.2.2.2) (cwV 1 (gh_Mts M) (lw_V q1657 q1659 qs21 q50 q1660) rfl rfl rfl ⟨rfl, by decide, by decide, rfl⟩ ⟨Nat.le_of_ble_eq_true rfl, Nat.le_of_ble_eq_true rfl⟩) (gh_preV (As := [.int (2 : Int32)]) M G (gh_rec M G haa9 rfl)) rfl rfl hl.1.1 rfl (lv_room (Nat.le_of_ble_eq_true rfl)) dX3_addJob_34 ⟨(Nat.le_of_ble_eq_true rfl), (Nat.le_of_ble_eq_true rfl)⟩) (gh_out M hex (by exact Nat.le_of_ble_eq_true rfl) (by exact Nat.le_of_ble_eq_true rfl)) (fun r10 h11 H locs hw G => ?_)
    exact gh_iret M G hr rfl hw (by exact Nat.le_of_ble_eq_true rfl) (by exact Nat.le_of_ble_eq_true rfl) dX3_addJob_37
set_option maxHeartbeats 4000000 in
theorem met_X3_addJob (l : Launch) (D : gh_D) (v0 : Nat) (v1 : Int32) (Q : Int32 → gh_H → Prop) (X : String → gh_H → Prop) (h : gh_H) (sz : Nat) (hw : wp_X3_addJob D.2.2 v0 v1 Q X h) (hst : l.stackTraces = false) : vx_Met l yX3_addJob (ws_ yX3_addJob cX3_addJob 2 (some .int)) rm_X3_addJob (gh_Pc D h sz [.ref v0, .int v1]) (gh_Qi Q D h sz) (gh_X X D h sz) 0 0 (gh_A h sz) := by
  refine vx_ofW (by decide) rfl (fun p e s m args below meth c s₁ B hml hex hP => ?_)
  obtain ⟨rfl, rfl, hK, hT, hE, G⟩ := gh_start hP
  have M : gh_M D p l s m _ meth c RX3 cX3_addJob 2 (gh_A h s.heap.size) := ⟨⟨B.exec, B.bytes, hml, findClass_of_methodNamed B.named, fun w hw => atoms_spec (ws := ws_ yX3_addJob cX3_addJob 2 (some .int)) B.pre w (List.mem_cons_of_mem _ hw)⟩, hK, hT, hE, B.notSynchronized, hst⟩
  have hr := B.returns
  have hx := M.1.1
  have hb := M.1.2.1
  refine gh_enter (vs := [(1, .ref v0), (1, .int v1)]) (gh_w1 rfl (gh_w1 rfl gh_wn)) (Nat.le_of_ble_eq_true rfl) (fun ls hl => ?_)
  replace hl : gh_L ls 2 [(0, 1, va_rf (some v0)), (1, 1, .int v1)] := hl
  unfold wp_X3_addJob at hw
  refine lv_iload_n hx hb dX3_addJob_0 rfl (gh_at hl 1 rfl) ?_
  refine lv_bipush (v := (115 : Int32)) hx hb dX3_addJob_1 (by decide) ?_
  refine lv_icmp_eq (tgt := 24) hx hb dX3_addJob_3 (by decide) (fun hc => ?_) (fun hc => ?_)
  · replace hw := hw.1 hc
    exact wk_X3_addJob_24 M hr hex  v0 v1 _ _ _ _ G (gh_sub hl [0, 1] rfl) hw
  · replace hw := hw.2 hc
    refine lv_iload_n hx hb dX3_addJob_6 rfl (gh_at hl 1 rfl) ?_
    refine lv_bipush (v := (112 : Int32)) hx hb dX3_addJob_7 (by decide) ?_
    refine lv_icmp_eq (tgt := 24) hx hb dX3_addJob_9 (by decide) (fun hc => ?_) (fun hc => ?_)
    · replace hw := hw.1 hc
      exact wk_X3_addJob_24 M hr hex  v0 v1 _ _ _ _ G (gh_sub hl [0, 1] rfl) hw
    · replace hw := hw.2 hc
      refine lv_iload_n hx hb dX3_addJob_12 rfl (gh_at hl 1 rfl) ?_
      refine lv_bipush (v := (119 : Int32)) hx hb dX3_addJob_13 (by decide) ?_
      refine lv_icmp_eq (tgt := 24) hx hb dX3_addJob_15 (by decide) (fun hc => ?_) (fun hc => ?_)
      · replace hw := hw.1 hc
        exact wk_X3_addJob_24 M hr hex  v0 v1 _ _ _ _ G (gh_sub hl [0, 1] rfl) hw
      · replace hw := hw.2 hc
        refine gh_aload_n hx hb dX3_addJob_18 rfl (gh_at hl 0 rfl) ?_
        refine lv_iconst (v := (1 : Int32)) hx hb dX3_addJob_19 (by decide) ?_
        obtain ⟨a1, lba1, fsa1, hra1, haa1, hw⟩ := hw
        rw [← Option.some.inj hra1] at haa1
        refine gh_ki G (vx_runV M.1 (met_X3_fails l D _ _ _ _ _ _ hw M.2.2.2.2.2) (cwV 1 (gh_Mts M) (lw_V q1657 q1659 qs21 q50 q1660) rfl rfl rfl ⟨rfl, by decide, by decide, rfl⟩ ⟨Nat.le_of_ble_eq_true rfl, Nat.le_of_ble_eq_true rfl⟩) (gh_preV (As := [.int (1 : Int32)]) M G (gh_rec M G haa1 rfl)) rfl rfl hl.1.1 rfl (lv_room (Nat.le_of_ble_eq_true rfl)) dX3_addJob_20 ⟨(Nat.le_of_ble_eq_true rfl), (Nat.le_of_ble_eq_true rfl)⟩) (gh_out M hex (by exact Nat.le_of_ble_eq_true rfl) (by exact Nat.le_of_ble_eq_true rfl)) (fun r2 h3 H locs hw G => ?_)
        exact gh_iret M G hr rfl hw (by exact Nat.le_of_ble_eq_true rfl) (by exact Nat.le_of_ble_eq_true rfl) dX3_addJob_23
/-! BinderyDesk.jobNumbered (I)LBinderyDesk$Job; -/
def rm_X1_jobNumbered : Room := { frames := 7, cells := 1, slots := 6, locals := 121 }
def wp_X1_jobNumbered (κ : Nat → Nat) (v0 : Nat) (v1 : Int32) (Q : Option Nat → gh_H → Prop) (X : String → gh_H → Prop) (h : gh_H) : Prop := (gh_GR h (some v0) [(0, 1)] (fun x1 => (gh_RC h x1 8 (fun a2 => (wp_J2_size κ a2 (fun r3 h4 => (wp_X1_requireIndex κ v1 r3 (fun h5 => (gh_GR h5 (some v0) [(0, 1)] (fun x6 => (gh_RC h5 x6 8 (fun a7 => (wp_J2_get κ a7 v1 (fun r8 h9 => (gh_CK h9 r8 [7] (Q r8 h9))) X h5)))))) X h4)) X h)))))
set_option maxHeartbeats 4000000 in
theorem met_X1_jobNumbered (l : Launch) (D : gh_D) (v0 : Nat) (v1 : Int32) (Q : Option Nat → gh_H → Prop) (X : String → gh_H → Prop) (h : gh_H) (sz : Nat) (hw : wp_X1_jobNumbered D.2.2 v0 v1 Q X h) (hst : l.stackTraces = false) : vx_Met l yX1_jobNumbered (ws_ yX1_jobNumbered cX1_jobNumbered 2 (some (.object "BinderyDesk$Job"))) rm_X1_jobNumbered (gh_Pc D h sz [.ref v0, .int v1]) (gh_Qq Q D h sz) (gh_X X D h sz) 1 6 (gh_A h sz) := by
  refine vx_ofW (by decide) rfl (fun p e s m args below meth c s₁ B hml hex hP => ?_)
  obtain ⟨rfl, rfl, hK, hT, hE, G⟩ := gh_start hP
  have M : gh_M D p l s m _ meth c RX1 cX1_jobNumbered 2 (gh_A h s.heap.size) := ⟨⟨B.exec, B.bytes, hml, findClass_of_methodNamed B.named, fun w hw => atoms_spec (ws := ws_ yX1_jobNumbered cX1_jobNumbered 2 (some (.object "BinderyDesk$Job"))) B.pre w (List.mem_cons_of_mem _ hw)⟩, hK, hT, hE, B.notSynchronized, hst⟩
  have hr := B.returns
  have hx := M.1.1
  have hb := M.1.2.1
  refine gh_enter (vs := [(1, .ref v0), (1, .int v1)]) (gh_w1 rfl (gh_w1 rfl gh_wn)) (Nat.le_of_ble_eq_true rfl) (fun ls hl => ?_)
  replace hl : gh_L ls 2 [(0, 1, va_rf (some v0)), (1, 1, .int v1)] := hl
  unfold wp_X1_jobNumbered at hw
  refine lv_iload_n hx hb dX1_jobNumbered_0 rfl (gh_at hl 1 rfl) ?_
  refine gh_aload_n hx hb dX1_jobNumbered_1 rfl (gh_at hl 0 rfl) ?_
  refine gh_getR M G hw fl_X1_31 dX1_jobNumbered_2 (fun x1 hw => ?_)
  obtain ⟨a2, lba2, fsa2, rfl, haa2, hw⟩ := hw
  refine gh_kFi G (vx_runF (C := "java/util/ArrayList") (M.2.1.1.1 8 _ rfl).2 M.1 (met_J2_size l D _ _ _ _ _ hw M.2.2.2.2.2) (va_cwF 0 (gh_Mts M) (gh_gF q239 q243 q245 q44 q247) rfl rfl rfl (M.2.2.1.2.1 _ (List.mem_of_getElem? (i := 4) rfl)) ⟨by decide, by decide, rfl⟩ ⟨Nat.le_of_ble_eq_true rfl, Nat.le_of_ble_eq_true rfl⟩) (gh_preV (As := []) M G (gh_rec M G haa2 rfl)) rfl rfl hl.1.1 rfl (lv_room (Nat.le_of_ble_eq_true rfl)) dX1_jobNumbered_5 ⟨(Nat.le_of_ble_eq_true rfl), (Nat.le_of_ble_eq_true rfl)⟩) (gh_out M hex (by exact Nat.le_of_ble_eq_true rfl) (by exact Nat.le_of_ble_eq_true rfl)) (fun r3 h4 H locs hw G => ?_)
  refine gh_kv G (vx_runS M.1 (met_X1_requireIndex l D _ _ _ _ _ _ hw M.2.2.2.2.2) (va_cwS 2 (gh_Mts M) (lw_S q480 q481 q41 q482) rfl rfl rfl ⟨by decide, by decide, rfl⟩ ⟨Nat.le_of_ble_eq_true rfl, Nat.le_of_ble_eq_true rfl⟩) (gh_pre M G (As := [.int v1, .int r3])) rfl rfl hl.1.1 rfl (lv_room (Nat.le_of_ble_eq_true rfl)) dX1_jobNumbered_10 ⟨(Nat.le_of_ble_eq_true rfl), (Nat.le_of_ble_eq_true rfl)⟩) (gh_out M hex (by exact Nat.le_of_ble_eq_true rfl) (by exact Nat.le_of_ble_eq_true rfl)) (fun h5 H locs hw G => ?_)
  refine gh_aload_n hx hb dX1_jobNumbered_13 rfl (gh_at hl 0 rfl) ?_
  refine gh_getR M G hw fl_X1_31 dX1_jobNumbered_14 (fun x6 hw => ?_)
  refine lv_iload_n hx hb dX1_jobNumbered_17 rfl (gh_at hl 1 rfl) ?_
  obtain ⟨a7, lba7, fsa7, rfl, haa7, hw⟩ := hw
  refine gh_kFq G (vx_runF (C := "java/util/ArrayList") (M.2.1.1.1 8 _ rfl).2 M.1 (met_J2_get l D _ _ _ _ _ _ hw M.2.2.2.2.2) (va_cwF 1 (gh_Mts M) (gh_gF q499 q502 q504 q44 q506) rfl rfl rfl (M.2.2.1.2.1 _ (List.mem_of_getElem? (i := 6) rfl)) ⟨by decide, by decide, rfl⟩ ⟨Nat.le_of_ble_eq_true rfl, Nat.le_of_ble_eq_true rfl⟩) (gh_preV (As := [.int v1]) M G (gh_rec M G haa7 rfl)) rfl rfl hl.1.1 rfl (lv_room (Nat.le_of_ble_eq_true rfl)) dX1_jobNumbered_18 ⟨(Nat.le_of_ble_eq_true rfl), (Nat.le_of_ble_eq_true rfl)⟩) (gh_out M hex (by exact Nat.le_of_ble_eq_true rfl) (by exact Nat.le_of_ble_eq_true rfl)) (fun r8 h9 H locs hw G => ?_)
  refine gh_cast (cis := [7]) M G hw q623 (List.forall_mem_cons.mpr ⟨⟨_, rfl, Or.inl ⟨rfl, rfl⟩⟩, fun _ h => absurd h List.not_mem_nil⟩) dX1_jobNumbered_23 (fun hw => ?_)
  exact gh_aret M G hr (Or.inl ⟨_, rfl⟩) hw (by exact Nat.le_of_ble_eq_true rfl) (by exact Nat.le_of_ble_eq_true rfl) dX1_jobNumbered_26
/-! BinderyDesk.addPage (II)I -/
theorem fl_X1_152 : gh_FL RX1 152 [(7, 1)] := by
  intro args s hts tb q hq
  simp only [List.mem_cons, List.not_mem_nil, or_false] at hq
  subst hq
  exact ⟨_, "BinderyDesk$Job", rfl, by decide, Or.inr ⟨"BinderyDesk", va_Nw.use rfl (tb.1 _ (List.mem_of_getElem? (i := 123) rfl))⟩, (fun x h => h)⟩
def rm_X1_addPage : Room := { frames := 8, cells := 4, slots := 98, locals := 211 }
def wb_X1_addPage_32 (κ : Nat → Nat)  (Q : Int32 → gh_H → Prop) (X : String → gh_H → Prop) (v0 : Nat) (v3 : Option Nat) (v4 : Option Nat) (t0 : Int32) (h : gh_H) : Prop := (wp_X1_requireState κ t0 (fun h1 => (gh_GR h1 (some v0) [(0, 6)] (fun x2 => (gh_RC h1 v3 7 (fun a3 => (wp_X7_takeOff κ a3 none (fun r4 h5 => (gh_RC h5 x2 2 (fun a6 => (wp_X2_add κ a6 r4 (fun h7 => (gh_GR h7 (some a3) [(7, 1)] (fun x8 => (gh_RC h7 x8 8 (fun a9 => (wp_J2_add κ a9 v4 (fun r10 h11 => (gh_GR h11 (some a3) [(7, 1)] (fun x12 => (gh_RC h11 x12 8 (fun a13 => (wp_J2_size κ a13 (fun r14 h15 => (Q r14 h15)) X h11)))))) X h7)))))) X h5)))) X h1)))))) X h)
def wp_X1_addPage (κ : Nat → Nat) (v0 : Nat) (v1 : Int32) (v2 : Int32) (Q : Int32 → gh_H → Prop) (X : String → gh_H → Prop) (h : gh_H) : Prop := (gh_RC h (some v0) 0 (fun _ => (wp_X1_jobNumbered κ v0 v1 (fun r2 h3 => (gh_RC h3 (some v0) 0 (fun _ => (wp_X1_contentNumbered κ v0 v2 (fun r5 h6 => (gh_GR h6 r2 [(7, 1)] (fun x7 => (gh_RC h6 x7 8 (fun a8 => (wp_J2_size κ a8 (fun r9 h10 => (((16 : Int32) ≤ r9 → wb_X1_addPage_32 κ Q X v0 r2 r5 (0 : Int32) h10) ∧ (¬ (16 : Int32) ≤ r9 → wb_X1_addPage_32 κ Q X v0 r2 r5 (1 : Int32) h10))) X h6)))))) X h3)))) X h)))
set_option maxHeartbeats 4000000 in
theorem wk_X1_addPage_32 {D : gh_D} {p : Program} {l : Launch} {e : Env} {s : State} {m : MethodId} {args : Array Value} {below : List Frame} {meth : Method} {c : Code} {h0 : gh_H} (M : gh_M D p l s m args meth c RX1 cX1_addPage 5 (gh_A h0 s.heap.size)) (hr : meth.sig.returnType = (some .int)) (hex : ∀ x ∈ c.exceptionTable.toList, False)   {Q : Int32 → gh_H → Prop} {X : String → gh_H → Prop}   (v0 : Nat) (v3 : Option Nat) (v4 : Option Nat) (t0 : Int32) (H : Heap) (locs : List Loc) (ls : Array Slot) (h : gh_H) (G : gh_Inv D h0 (gh_A h0 s.heap.size) s.heap s H locs h) (hl : gh_L ls 5 [(0, 1, va_rf (some v0)), (3, 1, va_rf v3), (4, 1, va_rf v4)]) (hw : wb_X1_addPage_32 D.2.2 Q X v0 v3 v4 t0 h) : W p l e rm_X1_addPage s m args below meth c H locs 2 12 (vx_MQ below (gh_Qi Q D h0 s.heap.size) (gh_X X D h0 s.heap.size) args s 4 98 (gh_A h0 s.heap.size)) (F0 m 32 ls [.int t0]) := by
  unfold wb_X1_addPage_32 at hw
  have hx := M.1.1
  have hb := M.1.2.1
  refine gh_kv G (vx_runS M.1 (met_X1_requireState l D _ _ _ _ _ hw M.2.2.2.2.2) (va_cwS 1 (gh_Mts M) (lw_S q266 q267 q41 q268) rfl rfl rfl ⟨by decide, by decide, rfl⟩ ⟨Nat.le_of_ble_eq_true rfl, Nat.le_of_ble_eq_true rfl⟩) (gh_pre M G (As := [.int t0])) rfl rfl hl.1.1 rfl (lv_room (Nat.le_of_ble_eq_true rfl)) dX1_addPage_32 ⟨(Nat.le_of_ble_eq_true rfl), (Nat.le_of_ble_eq_true rfl)⟩) (gh_out M hex (by exact Nat.le_of_ble_eq_true rfl) (by exact Nat.le_of_ble_eq_true rfl)) (fun h1 H locs hw G => ?_)
  refine gh_aload_n hx hb dX1_addPage_35 rfl (gh_at hl 0 rfl) ?_
  refine gh_getR M G hw fl_X1_54 dX1_addPage_36 (fun x2 hw => ?_)
  refine gh_aload_n hx hb dX1_addPage_39 rfl (gh_at hl 1 rfl) ?_
  refine gh_null hx hb dX1_addPage_40 ?_
  obtain ⟨a3, lba3, fsa3, rfl, haa3, hw⟩ := hw
  refine gh_ki G (vx_runV M.1 (met_X7_takeOff l D _ _ _ _ _ _ hw M.2.2.2.2.2) (cwV 1 (gh_Mts M) (lw_V q624 q625 q626 q71 q627) rfl rfl rfl ⟨rfl, by decide, by decide, rfl⟩ ⟨Nat.le_of_ble_eq_true rfl, Nat.le_of_ble_eq_true rfl⟩) (gh_preV (As := [va_rf none]) M G (gh_rec M G haa3 rfl)) rfl rfl hl.1.1 rfl (lv_room (Nat.le_trans (gh_r1 (gh_cat _) gh_r0) (Nat.le_of_ble_eq_true rfl : 1 ≤ 8))) dX1_addPage_41 ⟨(Nat.le_of_ble_eq_true rfl), (Nat.le_of_ble_eq_true rfl)⟩) (gh_out M hex (by exact Nat.le_of_ble_eq_true rfl) (by exact Nat.le_of_ble_eq_true rfl)) (fun r4 h5 H locs hw G => ?_)
  obtain ⟨a6, lba6, fsa6, rfl, haa6, hw⟩ := hw
  refine gh_kv G (vx_runV M.1 (met_X2_add l D _ _ _ _ _ _ hw M.2.2.2.2.2) (cwV 1 (gh_Mts M) (lw_V q700 q698 q1846 q49 q699) rfl rfl rfl ⟨rfl, by decide, by decide, rfl⟩ ⟨Nat.le_of_ble_eq_true rfl, Nat.le_of_ble_eq_true rfl⟩) (gh_preV (As := [.int r4]) M G (gh_rec M G haa6 rfl)) rfl rfl hl.1.1 rfl (lv_room (Nat.le_of_ble_eq_true rfl)) dX1_addPage_44 ⟨(Nat.le_of_ble_eq_true rfl), (Nat.le_of_ble_eq_true rfl)⟩) (gh_out M hex (by exact Nat.le_of_ble_eq_true rfl) (by exact Nat.le_of_ble_eq_true rfl)) (fun h7 H locs hw G => ?_)
  refine gh_aload_n hx hb dX1_addPage_47 rfl (gh_at hl 1 rfl) ?_
  refine gh_getR M G hw fl_X1_152 dX1_addPage_48 (fun x8 hw => ?_)
  refine gh_aload hx hb dX1_addPage_51 (gh_at hl 2 rfl) ?_
  obtain ⟨a9, lba9, fsa9, rfl, haa9, hw⟩ := hw
  refine gh_kFi G (vx_runF (C := "java/util/ArrayList") (M.2.1.1.1 8 _ rfl).2 M.1 (met_J2_add l D _ _ _ _ _ _ hw M.2.2.2.2.2) (va_cwF 1 (gh_Mts M) (gh_gF q358 q361 q363 q44 q365) rfl rfl rfl (M.2.2.1.2.1 _ (List.mem_of_getElem? (i := 5) rfl)) ⟨by decide, by decide, rfl⟩ ⟨Nat.le_of_ble_eq_true rfl, Nat.le_of_ble_eq_true rfl⟩) (gh_preV (As := [va_rf v4]) M G (gh_rec M G haa9 rfl)) rfl rfl hl.1.1 rfl (lv_room (Nat.le_of_ble_eq_true rfl)) dX1_addPage_53 ⟨(Nat.le_of_ble_eq_true rfl), (Nat.le_of_ble_eq_true rfl)⟩) (gh_out M hex (by exact Nat.le_of_ble_eq_true rfl) (by exact Nat.le_of_ble_eq_true rfl)) (fun r10 h11 H locs hw G => ?_)
  refine lv_pop hx hb dX1_addPage_58 rfl ?_
  refine gh_aload_n hx hb dX1_addPage_59 rfl (gh_at hl 1 rfl) ?_
  refine gh_getR M G hw fl_X1_152 dX1_addPage_60 (fun x12 hw => ?_)
  obtain ⟨a13, lba13, fsa13, rfl, haa13, hw⟩ := hw
  refine gh_kFi G (vx_runF (C := "java/util/ArrayList") (M.2.1.1.1 8 _ rfl).2 M.1 (met_J2_size l D _ _ _ _ _ hw M.2.2.2.2.2) (va_cwF 0 (gh_Mts M) (gh_gF q239 q243 q245 q44 q247) rfl rfl rfl (M.2.2.1.2.1 _ (List.mem_of_getElem? (i := 4) rfl)) ⟨by decide, by decide, rfl⟩ ⟨Nat.le_of_ble_eq_true rfl, Nat.le_of_ble_eq_true rfl⟩) (gh_preV (As := []) M G (gh_rec M G haa13 rfl)) rfl rfl hl.1.1 rfl (lv_room (Nat.le_of_ble_eq_true rfl)) dX1_addPage_63 ⟨(Nat.le_of_ble_eq_true rfl), (Nat.le_of_ble_eq_true rfl)⟩) (gh_out M hex (by exact Nat.le_of_ble_eq_true rfl) (by exact Nat.le_of_ble_eq_true rfl)) (fun r14 h15 H locs hw G => ?_)
  exact gh_iret M G hr rfl hw (by exact Nat.le_of_ble_eq_true rfl) (by exact Nat.le_of_ble_eq_true rfl) dX1_addPage_68
set_option maxHeartbeats 4000000 in
theorem met_X1_addPage (l : Launch) (D : gh_D) (v0 : Nat) (v1 : Int32) (v2 : Int32) (Q : Int32 → gh_H → Prop) (X : String → gh_H → Prop) (h : gh_H) (sz : Nat) (hw : wp_X1_addPage D.2.2 v0 v1 v2 Q X h) (hst : l.stackTraces = false) : vx_Met l yX1_addPage (ws_ yX1_addPage cX1_addPage 5 (some .int)) rm_X1_addPage (gh_Pc D h sz [.ref v0, .int v1, .int v2]) (gh_Qi Q D h sz) (gh_X X D h sz) 4 98 (gh_A h sz) := by
  refine vx_ofW (by decide) rfl (fun p e s m args below meth c s₁ B hml hex hP => ?_)
  obtain ⟨rfl, rfl, hK, hT, hE, G⟩ := gh_start hP
  have M : gh_M D p l s m _ meth c RX1 cX1_addPage 5 (gh_A h s.heap.size) := ⟨⟨B.exec, B.bytes, hml, findClass_of_methodNamed B.named, fun w hw => atoms_spec (ws := ws_ yX1_addPage cX1_addPage 5 (some .int)) B.pre w (List.mem_cons_of_mem _ hw)⟩, hK, hT, hE, B.notSynchronized, hst⟩
  have hr := B.returns
  have hx := M.1.1
  have hb := M.1.2.1
  refine gh_enter (vs := [(1, .ref v0), (1, .int v1), (1, .int v2)]) (gh_w1 rfl (gh_w1 rfl (gh_w1 rfl gh_wn))) (Nat.le_of_ble_eq_true rfl) (fun ls hl => ?_)
  replace hl : gh_L ls 5 [(0, 1, va_rf (some v0)), (1, 1, .int v1), (2, 1, .int v2)] := hl
  unfold wp_X1_addPage at hw
  refine gh_aload_n hx hb dX1_addPage_0 rfl (gh_at hl 0 rfl) ?_
  refine lv_iload_n hx hb dX1_addPage_1 rfl (gh_at hl 1 rfl) ?_
  obtain ⟨a1, lba1, fsa1, hra1, haa1, hw⟩ := hw
  rw [← Option.some.inj hra1] at haa1
  refine gh_kq G (vx_runV M.1 (met_X1_jobNumbered l D _ _ _ _ _ _ hw M.2.2.2.2.2) (cwV 1 (gh_Mts M) (lw_V q791 q793 qs5 q41 q794) rfl rfl rfl ⟨rfl, by decide, by decide, rfl⟩ ⟨Nat.le_of_ble_eq_true rfl, Nat.le_of_ble_eq_true rfl⟩) (gh_preV (As := [.int v1]) M G (gh_rec M G haa1 rfl)) rfl rfl hl.1.1 rfl (lv_room (Nat.le_of_ble_eq_true rfl)) dX1_addPage_2 ⟨(Nat.le_of_ble_eq_true rfl), (Nat.le_of_ble_eq_true rfl)⟩) (gh_out M hex (by exact Nat.le_of_ble_eq_true rfl) (by exact Nat.le_of_ble_eq_true rfl)) (fun r2 h3 H locs hw G => ?_)
  refine gh_astore_n (lv' := [(3, 1, va_rf r2), (0, 1, va_rf (some v0)), (1, 1, .int v1), (2, 1, .int v2)]) hx hb dX1_addPage_5 rfl hl (by decide) rfl (fun ls hl => ?_)
  refine gh_aload_n hx hb dX1_addPage_6 rfl (gh_at hl 1 rfl) ?_
  refine lv_iload_n hx hb dX1_addPage_7 rfl (gh_at hl 3 rfl) ?_
  obtain ⟨a4, lba4, fsa4, hra4, haa4, hw⟩ := hw
  rw [← Option.some.inj hra4] at haa4
  refine gh_kq G (vx_runV M.1 (met_X1_contentNumbered l D _ _ _ _ _ _ hw M.2.2.2.2.2) (cwV 1 (gh_Mts M) (lw_V q476 q478 qs4 q41 q479) rfl rfl rfl ⟨rfl, by decide, by decide, rfl⟩ ⟨Nat.le_of_ble_eq_true rfl, Nat.le_of_ble_eq_true rfl⟩) (gh_preV (As := [.int v2]) M G (gh_rec M G haa4 rfl)) rfl rfl hl.1.1 rfl (lv_room (Nat.le_of_ble_eq_true rfl)) dX1_addPage_8 ⟨(Nat.le_of_ble_eq_true rfl), (Nat.le_of_ble_eq_true rfl)⟩) (gh_out M hex (by exact Nat.le_of_ble_eq_true rfl) (by exact Nat.le_of_ble_eq_true rfl)) (fun r5 h6 H locs hw G => ?_)
  refine gh_astore (lv' := [(4, 1, va_rf r5), (3, 1, va_rf r2), (0, 1, va_rf (some v0)), (1, 1, .int v1), (2, 1, .int v2)]) hx hb dX1_addPage_11 hl (by decide) rfl (fun ls hl => ?_)
  refine gh_aload_n hx hb dX1_addPage_13 rfl (gh_at hl 1 rfl) ?_
  refine gh_getR M G hw fl_X1_152 dX1_addPage_14 (fun x7 hw => ?_)
  obtain ⟨a8, lba8, fsa8, rfl, haa8, hw⟩ := hw
  refine gh_kFi G (vx_runF (C := "java/util/ArrayList") (M.2.1.1.1 8 _ rfl).2 M.1 (met_J2_size l D _ _ _ _ _ hw M.2.2.2.2.2) (va_cwF 0 (gh_Mts M) (gh_gF q239 q243 q245 q44 q247) rfl rfl rfl (M.2.2.1.2.1 _ (List.mem_of_getElem? (i := 4) rfl)) ⟨by decide, by decide, rfl⟩ ⟨Nat.le_of_ble_eq_true rfl, Nat.le_of_ble_eq_true rfl⟩) (gh_preV (As := []) M G (gh_rec M G haa8 rfl)) rfl rfl hl.1.1 rfl (lv_room (Nat.le_of_ble_eq_true rfl)) dX1_addPage_17 ⟨(Nat.le_of_ble_eq_true rfl), (Nat.le_of_ble_eq_true rfl)⟩) (gh_out M hex (by exact Nat.le_of_ble_eq_true rfl) (by exact Nat.le_of_ble_eq_true rfl)) (fun r9 h10 H locs hw G => ?_)
  refine lv_bipush (v := (16 : Int32)) hx hb dX1_addPage_22 (by decide) ?_
  refine lv_icmp_ge (tgt := 31) hx hb dX1_addPage_24 (by decide) (fun hc => ?_) (fun hc => ?_)
  · replace hw := hw.1 hc
    refine lv_iconst (v := (0 : Int32)) hx hb dX1_addPage_31 (by decide) ?_
    exact wk_X1_addPage_32 M hr hex  v0 r2 r5 (0 : Int32) _ _ _ _ G (gh_sub hl [2, 1, 0] rfl) hw
  · replace hw := hw.2 hc
    refine lv_iconst (v := (1 : Int32)) hx hb dX1_addPage_27 (by decide) ?_
    refine lv_goto (tgt := 32) hx hb dX1_addPage_28 (by decide) ?_
    exact wk_X1_addPage_32 M hr hex  v0 r2 r5 (1 : Int32) _ _ _ _ G (gh_sub hl [2, 1, 0] rfl) hw
/-! BinderyDeskLaw.addPage (LBinderyDesk;II[J)I -/
def rm_X0_addPage : Room := { frames := 9, cells := 4, slots := 98, locals := 235 }
def wb_X0_addPage_13 (κ : Nat → Nat)  (Q : Int32 → gh_H → Prop) (X : String → gh_H → Prop) (t0 : Option Nat) (h : gh_H) : Prop := (Q (1 : Int32) h)
def wb_X0_addPage_17 (κ : Nat → Nat)  (Q : Int32 → gh_H → Prop) (X : String → gh_H → Prop) (t0 : Option Nat) (h : gh_H) : Prop := (Q (2 : Int32) h)
def wp_X0_addPage (κ : Nat → Nat) (v0 : Option Nat) (v1 : Int32) (v2 : Int32) (v3 : Option Nat) (Q : Int32 → gh_H → Prop) (X : String → gh_H → Prop) (h : gh_H) : Prop := (gh_RC h v0 0 (fun a1 => (wp_X1_addPage κ a1 v1 v2 (fun r2 h3 => (gh_SJ h3 v3 (0 : Int32) (r2.toInt64) (fun h4 => (Q (0 : Int32) h4)))) (fun E h9 => (E = "java/lang/IndexOutOfBoundsException" ∧ ∀ q9 : Nat, wb_X0_addPage_13 κ Q X (some q9) h9) ∨ (E = "java/lang/IllegalStateException" ∧ ∀ q9 : Nat, wb_X0_addPage_17 κ Q X (some q9) h9)) h)))
set_option maxHeartbeats 4000000 in
theorem wk_X0_addPage_13 {D : gh_D} {p : Program} {l : Launch} {e : Env} {s : State} {m : MethodId} {args : Array Value} {below : List Frame} {meth : Method} {c : Code} {h0 : gh_H} (M : gh_M D p l s m args meth c RX0 cX0_addPage 5 (gh_A h0 s.heap.size)) (hr : meth.sig.returnType = (some .int)) (htab : c.exceptionTable.toList = tableOf [(0, 10, 13, 19), (0, 10, 17, 13)])   {Q : Int32 → gh_H → Prop} {X : String → gh_H → Prop}   (t0 : Option Nat) (H : Heap) (locs : List Loc) (ls : Array Slot) (h : gh_H) (G : gh_Inv D h0 (gh_A h0 s.heap.size) s.heap s H locs h) (hl : gh_L ls 5 []) (hw : wb_X0_addPage_13 D.2.2 Q X t0 h) : W p l e rm_X0_addPage s m args below meth c H locs 4 98 (vx_MQ below (gh_Qi Q D h0 s.heap.size) (gh_X X D h0 s.heap.size) args s 4 98 (gh_A h0 s.heap.size)) (F0 m 13 ls [va_rf t0]) := by
  unfold wb_X0_addPage_13 at hw
  have hx := M.1.1
  have hb := M.1.2.1
  refine gh_astore (lv' := [(4, 1, va_rf t0)]) hx hb dX0_addPage_13 hl (by decide) rfl (fun ls hl => ?_)
  refine lv_iconst (v := (1 : Int32)) hx hb dX0_addPage_15 (by decide) ?_
  exact gh_iret M G hr rfl hw (by exact Nat.le_of_ble_eq_true rfl) (by exact Nat.le_of_ble_eq_true rfl) dX0_addPage_16
set_option maxHeartbeats 4000000 in
theorem wk_X0_addPage_17 {D : gh_D} {p : Program} {l : Launch} {e : Env} {s : State} {m : MethodId} {args : Array Value} {below : List Frame} {meth : Method} {c : Code} {h0 : gh_H} (M : gh_M D p l s m args meth c RX0 cX0_addPage 5 (gh_A h0 s.heap.size)) (hr : meth.sig.returnType = (some .int)) (htab : c.exceptionTable.toList = tableOf [(0, 10, 13, 19), (0, 10, 17, 13)])   {Q : Int32 → gh_H → Prop} {X : String → gh_H → Prop}   (t0 : Option Nat) (H : Heap) (locs : List Loc) (ls : Array Slot) (h : gh_H) (G : gh_Inv D h0 (gh_A h0 s.heap.size) s.heap s H locs h) (hl : gh_L ls 5 []) (hw : wb_X0_addPage_17 D.2.2 Q X t0 h) : W p l e rm_X0_addPage s m args below meth c H locs 4 98 (vx_MQ below (gh_Qi Q D h0 s.heap.size) (gh_X X D h0 s.heap.size) args s 4 98 (gh_A h0 s.heap.size)) (F0 m 17 ls [va_rf t0]) := by
  unfold wb_X0_addPage_17 at hw
  have hx := M.1.1
  have hb := M.1.2.1
  refine gh_astore (lv' := [(4, 1, va_rf t0)]) hx hb dX0_addPage_17 hl (by decide) rfl (fun ls hl => ?_)
  refine lv_iconst (v := (2 : Int32)) hx hb dX0_addPage_19 (by decide) ?_
  exact gh_iret M G hr rfl hw (by exact Nat.le_of_ble_eq_true rfl) (by exact Nat.le_of_ble_eq_true rfl) dX0_addPage_20
set_option maxHeartbeats 4000000 in
theorem met_X0_addPage (l : Launch) (D : gh_D) (v0 : Option Nat) (v1 : Int32) (v2 : Int32) (v3 : Option Nat) (Q : Int32 → gh_H → Prop) (X : String → gh_H → Prop) (h : gh_H) (sz : Nat) (hw : wp_X0_addPage D.2.2 v0 v1 v2 v3 Q X h) (hst : l.stackTraces = false) : vx_Met l yX0_addPage (wsW_ yX0_addPage cX0_addPage 5 (some .int) [(0, 10, 13, 19), (0, 10, 17, 13)]) rm_X0_addPage (gh_Pc D h sz [va_rf v0, .int v1, .int v2, va_rf v3]) (gh_Qi Q D h sz) (gh_X X D h sz) 4 98 (gh_A h sz) := by
  refine vx_ofWH (by decide) rfl (fun p e s m args below meth c s₁ B hml hP => ?_)
  have htab := vx_table (x := yX0_addPage) B (atoms_spec (ws := wsW_ yX0_addPage cX0_addPage 5 (some .int) [(0, 10, 13, 19), (0, 10, 17, 13)]) B.pre _ List.mem_cons_self)
  obtain ⟨rfl, rfl, hK, hT, hE, G⟩ := gh_start hP
  have M : gh_M D p l s m _ meth c RX0 cX0_addPage 5 (gh_A h s.heap.size) := ⟨⟨B.exec, B.bytes, hml, findClass_of_methodNamed B.named, fun w hw => atoms_spec (ws := wsW_ yX0_addPage cX0_addPage 5 (some .int) [(0, 10, 13, 19), (0, 10, 17, 13)]) B.pre w (List.mem_cons_of_mem _ hw)⟩, hK, hT, hE, B.notSynchronized, hst⟩
  have hr := B.returns
  have hx := M.1.1
  have hb := M.1.2.1
  refine gh_enter (vs := [(1, va_rf v0), (1, .int v1), (1, .int v2), (1, va_rf v3)]) (gh_w1 (gh_cat _) (gh_w1 rfl (gh_w1 rfl (gh_w1 (gh_cat _) gh_wn)))) (Nat.le_of_ble_eq_true rfl) (fun ls hl => ?_)
  replace hl : gh_L ls 5 [(0, 1, va_rf v0), (1, 1, .int v1), (2, 1, .int v2), (3, 1, va_rf v3)] := hl
  unfold wp_X0_addPage at hw
  refine gh_aload_n hx hb dX0_addPage_0 rfl (gh_at hl 3 rfl) ?_
  refine lv_iconst (v := (0 : Int32)) hx hb dX0_addPage_1 (by decide) ?_
  refine gh_aload_n hx hb dX0_addPage_2 rfl (gh_at hl 0 rfl) ?_
  refine lv_iload_n hx hb dX0_addPage_3 rfl (gh_at hl 1 rfl) ?_
  refine lv_iload_n hx hb dX0_addPage_4 rfl (gh_at hl 2 rfl) ?_
  obtain ⟨a1, lba1, fsa1, rfl, haa1, hw⟩ := hw
  refine gh_ki G (vx_runV M.1 (met_X1_addPage l D _ _ _ _ _ _ _ hw M.2.2.2.2.2) (cwV 2 (gh_Mts M) (lw_V q787 q788 q789 q41 q790) rfl rfl rfl ⟨rfl, by decide, by decide, rfl⟩ ⟨Nat.le_of_ble_eq_true rfl, Nat.le_of_ble_eq_true rfl⟩) (gh_preV (As := [.int v1, .int v2]) M G (gh_rec M G haa1 rfl)) rfl rfl hl.1.1 rfl (lv_room (Nat.le_trans (gh_r1 rfl (gh_r1 (gh_cat _) gh_r0)) (Nat.le_of_ble_eq_true rfl : 2 ≤ 8))) dX0_addPage_5 ⟨(Nat.le_of_ble_eq_true rfl), (Nat.le_of_ble_eq_true rfl)⟩) (fun E ce q9 h9 H locs hX G hce hcv hcl => ?_) (fun r2 h3 H locs hw G => ?_)
  · rcases hX with ⟨rfl, hX⟩ | ⟨rfl, hX⟩
    · replace hw := hX q9
      refine vx_catch (name := "java/lang/IndexOutOfBoundsException") M.1.2.2.2.1 (tableOf []) ⟨0, 10, 13, 19⟩ (tableOf [(0, 10, 17, 13)]) (htab.trans rfl) (fun _ h => absurd h List.not_mem_nil) (by decide) (by decide) (gh_Mts M _ q439) (va_Nw.use rfl (M.2.2.1.1 _ (List.mem_of_getElem? (i := 8) rfl))) hce hcv hcl ?_
      exact wk_X0_addPage_13 M hr htab  (some q9) _ _ _ _ G (gh_sub hl [] rfl) hw
    · replace hw := hX q9
      refine vx_catch (name := "java/lang/IllegalStateException") M.1.2.2.2.1 (tableOf [(0, 10, 13, 19)]) ⟨0, 10, 17, 13⟩ (tableOf []) (htab.trans rfl) (List.forall_mem_cons.mpr ⟨Or.inr ⟨by decide, "java/lang/IndexOutOfBoundsException", gh_Mts M _ q439, M.2.2.1.2.2.1 _ (List.mem_of_getElem? (i := 6) rfl)⟩, fun _ h => absurd h List.not_mem_nil⟩) (by decide) (by decide) (gh_Mts M _ q261) (va_Nw.use rfl (M.2.2.1.1 _ (List.mem_of_getElem? (i := 4) rfl))) hce hcv hcl ?_
      exact wk_X0_addPage_17 M hr htab  (some q9) _ _ _ _ G (gh_sub hl [] rfl) hw
  · refine lv_i2l (v := (r2.toInt64)) hx hb dX0_addPage_8 rfl ?_
    refine gh_jas M G hw dX0_addPage_9 (fun h4 H locs hw G => ?_)
    refine lv_goto (tgt := 21) hx hb dX0_addPage_10 (by decide) ?_
    refine lv_iconst (v := (0 : Int32)) hx hb dX0_addPage_21 (by decide) ?_
    exact gh_iret M G hr rfl hw (by exact Nat.le_of_ble_eq_true rfl) (by exact Nat.le_of_ble_eq_true rfl) dX0_addPage_22
/-! BinderyDeskModel.addPage (II)I -/
def rm_X3_addPage : Room := { frames := 2, cells := 0, slots := 0, locals := 63 }
def wb_X3_addPage_28 (κ : Nat → Nat)  (Q : Int32 → gh_H → Prop) (X : String → gh_H → Prop) (v0 : Nat) (h : gh_H) : Prop := (gh_RC h (some v0) 1 (fun _ => (wp_X3_fails κ v0 (1 : Int32) (fun r2 h3 => (Q r2 h3)) X h)))
def wb_X3_addPage_58 (κ : Nat → Nat) (K58 : Nat → Int32 → Int32 → Int32 → gh_H → Prop) (Q : Int32 → gh_H → Prop) (X : String → gh_H → Prop) (v0 : Nat) (v1 : Int32) (v2 : Int32) (v3 : Int32) (h : gh_H) : Prop := (((8 : Int32) ≤ v3 → (gh_GR h (some v0) [(1, 15)] (fun x1 => (gh_GR h (some v0) [(1, 14)] (fun x2 => (gh_LI h x2 v1 (fun x3 => (gh_SI h x1 (((16 : Int32) * v1) + x3) v2 (fun h4 => (gh_GR h4 (some v0) [(1, 14)] (fun x5 => (gh_LI h4 x5 v1 (fun x6 => (gh_SI h4 x5 v1 (x6 + (1 : Int32)) (fun h7 => (gh_GR h7 (some v0) [(1, 14)] (fun x8 => (gh_LI h7 x8 v1 (fun x9 => (Q x9 h7)))))))))))))))))))) ∧ (¬ (8 : Int32) ≤ v3 → (gh_RC h (some v0) 1 (fun _ => (wp_X3_voids κ v0 v1 v3 (fun r11 h12 => K58 v0 v1 v2 (v3 + (1 : Int32)) h12) X h)))))
def wl_X3_addPage_58 (κ : Nat → Nat)  (Q : Int32 → gh_H → Prop) (X : String → gh_H → Prop) : Nat → Nat → Int32 → Int32 → Int32 → gh_H → Prop
  | 0 => fun _ _ _ _ _ => False
  | n + 1 => fun v0 v1 v2 v3 h => wb_X3_addPage_58 κ (wl_X3_addPage_58 κ Q X n) Q X v0 v1 v2 v3 h
def wp_X3_addPage (κ : Nat → Nat) (v0 : Nat) (v1 : Int32) (v2 : Int32) (Q : Int32 → gh_H → Prop) (X : String → gh_H → Prop) (h : gh_H) : Prop := (gh_GI h (some v0) [(1, 2)] (fun x1 => (wp_X3_in κ v1 (0 : Int32) (x1 - (1 : Int32)) (fun r2 h3 => ((r2 = 0 → wb_X3_addPage_28 κ Q X v0 h3) ∧ (¬ r2 = 0 → (gh_GI h3 (some v0) [(1, 1)] (fun x4 => (wp_X3_in κ v2 (0 : Int32) (x4 - (1 : Int32)) (fun r5 h6 => ((r5 = 0 → wb_X3_addPage_28 κ Q X v0 h6) ∧ (¬ r5 = 0 → (gh_GR h6 (some v0) [(1, 14)] (fun x7 => (gh_LI h6 x7 v1 (fun x8 => ((x8 = (16 : Int32) → (gh_RC h6 (some v0) 1 (fun _ => (wp_X3_fails κ v0 (2 : Int32) (fun r11 h12 => (Q r11 h12)) X h6)))) ∧ (¬ x8 = (16 : Int32) → (gh_PV h6 (some v0) [(1, 0)] (.int (0 : Int32)) (fun h9 => (∃ n : Nat, wl_X3_addPage_58 κ Q X n v0 v1 v2 (0 : Int32) h9)))))))))))) X h3)))))) X h)))
set_option maxHeartbeats 4000000 in
theorem wk_X3_addPage_28 {D : gh_D} {p : Program} {l : Launch} {e : Env} {s : State} {m : MethodId} {args : Array Value} {below : List Frame} {meth : Method} {c : Code} {h0 : gh_H} (M : gh_M D p l s m args meth c RX3 cX3_addPage 4 (gh_A h0 s.heap.size)) (hr : meth.sig.returnType = (some .int)) (hex : ∀ x ∈ c.exceptionTable.toList, False)   {Q : Int32 → gh_H → Prop} {X : String → gh_H → Prop}   (v0 : Nat) (H : Heap) (locs : List Loc) (ls : Array Slot) (h : gh_H) (G : gh_Inv D h0 (gh_A h0 s.heap.size) s.heap s H locs h) (hl : gh_L ls 4 [(0, 1, va_rf (some v0))]) (hw : wb_X3_addPage_28 D.2.2 Q X v0 h) : W p l e rm_X3_addPage s m args below meth c H locs 0 0 (vx_MQ below (gh_Qi Q D h0 s.heap.size) (gh_X X D h0 s.heap.size) args s 0 0 (gh_A h0 s.heap.size)) (F0 m 28 ls []) := by
  unfold wb_X3_addPage_28 at hw
  have hx := M.1.1
  have hb := M.1.2.1
  refine gh_aload_n hx hb dX3_addPage_28 rfl (gh_at hl 0 rfl) ?_
  refine lv_iconst (v := (1 : Int32)) hx hb dX3_addPage_29 (by decide) ?_
  obtain ⟨a1, lba1, fsa1, hra1, haa1, hw⟩ := hw
  rw [← Option.some.inj hra1] at haa1
  refine gh_ki G (vx_runV M.1 (met_X3_fails l D _ _ _ _ _ _ hw M.2.2.2.2.2) (cwV 1 (gh_Mts M) (lw_V q1657 q1659 qs21 q50 q1660) rfl rfl rfl ⟨rfl, by decide, by decide, rfl⟩ ⟨Nat.le_of_ble_eq_true rfl, Nat.le_of_ble_eq_true rfl⟩) (gh_preV (As := [.int (1 : Int32)]) M G (gh_rec M G haa1 rfl)) rfl rfl hl.1.1 rfl (lv_room (Nat.le_of_ble_eq_true rfl)) dX3_addPage_30 ⟨(Nat.le_of_ble_eq_true rfl), (Nat.le_of_ble_eq_true rfl)⟩) (gh_out M hex (by exact Nat.le_of_ble_eq_true rfl) (by exact Nat.le_of_ble_eq_true rfl)) (fun r2 h3 H locs hw G => ?_)
  exact gh_iret M G hr rfl hw (by exact Nat.le_of_ble_eq_true rfl) (by exact Nat.le_of_ble_eq_true rfl) dX3_addPage_33
set_option maxHeartbeats 4000000 in
theorem wk1_X3_addPage_58 {D : gh_D} {p : Program} {l : Launch} {e : Env} {s : State} {m : MethodId} {args : Array Value} {below : List Frame} {meth : Method} {c : Code} {h0 : gh_H} (M : gh_M D p l s m args meth c RX3 cX3_addPage 4 (gh_A h0 s.heap.size)) (hr : meth.sig.returnType = (some .int)) (hex : ∀ x ∈ c.exceptionTable.toList, False) {K58 : Nat → Int32 → Int32 → Int32 → gh_H → Prop}  {Q : Int32 → gh_H → Prop} {X : String → gh_H → Prop} (k58 : ∀ (v0 : Nat) (v1 : Int32) (v2 : Int32) (v3 : Int32) (H : Heap) (locs : List Loc) (ls : Array Slot) (h : gh_H) (_ : gh_Inv D h0 (gh_A h0 s.heap.size) s.heap s H locs h) (_ : gh_L ls 4 [(0, 1, va_rf (some v0)), (1, 1, .int v1), (2, 1, .int v2), (3, 1, .int v3)]) (_ : K58 v0 v1 v2 v3 h), W p l e rm_X3_addPage s m args below meth c H locs 0 0 (vx_MQ below (gh_Qi Q D h0 s.heap.size) (gh_X X D h0 s.heap.size) args s 0 0 (gh_A h0 s.heap.size)) (F0 m 58 ls []))  (v0 : Nat) (v1 : Int32) (v2 : Int32) (v3 : Int32) (H : Heap) (locs : List Loc) (ls : Array Slot) (h : gh_H) (G : gh_Inv D h0 (gh_A h0 s.heap.size) s.heap s H locs h) (hl : gh_L ls 4 [(0, 1, va_rf (some v0)), (1, 1, .int v1), (2, 1, .int v2), (3, 1, .int v3)]) (hw : wb_X3_addPage_58 D.2.2 K58 Q X v0 v1 v2 v3 h) : W p l e rm_X3_addPage s m args below meth c H locs 0 0 (vx_MQ below (gh_Qi Q D h0 s.heap.size) (gh_X X D h0 s.heap.size) args s 0 0 (gh_A h0 s.heap.size)) (F0 m 58 ls []) := by
  unfold wb_X3_addPage_58 at hw
  have hx := M.1.1
  have hb := M.1.2.1
  refine lv_iload_n hx hb dX3_addPage_58 rfl (gh_at hl 3 rfl) ?_
  refine lv_bipush (v := (8 : Int32)) hx hb dX3_addPage_59 (by decide) ?_
  refine lv_icmp_ge (tgt := 77) hx hb dX3_addPage_61 (by decide) (fun hc => ?_) (fun hc => ?_)
  · replace hw := hw.1 hc
    refine gh_aload_n hx hb dX3_addPage_77 rfl (gh_at hl 0 rfl) ?_
    refine gh_getR M G hw fl_X3_19 dX3_addPage_78 (fun x1 hw => ?_)
    refine lv_bipush (v := (16 : Int32)) hx hb dX3_addPage_81 (by decide) ?_
    refine lv_iload_n hx hb dX3_addPage_83 rfl (gh_at hl 1 rfl) ?_
    refine lv_imul hx hb dX3_addPage_84 ?_
    refine gh_aload_n hx hb dX3_addPage_85 rfl (gh_at hl 0 rfl) ?_
    refine gh_getR M G hw fl_X3_16 dX3_addPage_86 (fun x2 hw => ?_)
    refine lv_iload_n hx hb dX3_addPage_89 rfl (gh_at hl 1 rfl) ?_
    refine gh_ial M G hw dX3_addPage_90 (fun x3 hw => ?_)
    refine lv_iadd hx hb dX3_addPage_91 ?_
    refine lv_iload_n hx hb dX3_addPage_92 rfl (gh_at hl 2 rfl) ?_
    refine gh_ias M G hw dX3_addPage_93 (fun h4 H locs hw G => ?_)
    refine gh_aload_n hx hb dX3_addPage_94 rfl (gh_at hl 0 rfl) ?_
    refine gh_getR M G hw fl_X3_16 dX3_addPage_95 (fun x5 hw => ?_)
    refine lv_iload_n hx hb dX3_addPage_98 rfl (gh_at hl 1 rfl) ?_
    refine lv_dup2_11 hx hb dX3_addPage_99 rfl (gh_cat _) ?_
    refine gh_ial M G hw dX3_addPage_100 (fun x6 hw => ?_)
    refine lv_iconst (v := (1 : Int32)) hx hb dX3_addPage_101 (by decide) ?_
    refine lv_iadd hx hb dX3_addPage_102 ?_
    refine gh_ias M G hw dX3_addPage_103 (fun h7 H locs hw G => ?_)
    refine gh_aload_n hx hb dX3_addPage_104 rfl (gh_at hl 0 rfl) ?_
    refine gh_getR M G hw fl_X3_16 dX3_addPage_105 (fun x8 hw => ?_)
    refine lv_iload_n hx hb dX3_addPage_108 rfl (gh_at hl 1 rfl) ?_
    refine gh_ial M G hw dX3_addPage_109 (fun x9 hw => ?_)
    exact gh_iret M G hr rfl hw (by exact Nat.le_of_ble_eq_true rfl) (by exact Nat.le_of_ble_eq_true rfl) dX3_addPage_110
  · replace hw := hw.2 hc
    refine gh_aload_n hx hb dX3_addPage_64 rfl (gh_at hl 0 rfl) ?_
    refine lv_iload_n hx hb dX3_addPage_65 rfl (gh_at hl 1 rfl) ?_
    refine lv_iload_n hx hb dX3_addPage_66 rfl (gh_at hl 3 rfl) ?_
    obtain ⟨a10, lba10, fsa10, hra10, haa10, hw⟩ := hw
    rw [← Option.some.inj hra10] at haa10
    refine gh_ki G (vx_runV M.1 (met_X3_voids l D _ _ _ _ _ _ _ hw M.2.2.2.2.2) (cwV 2 (gh_Mts M) (lw_V q1700 q1702 qs29 q50 q1703) rfl rfl rfl ⟨rfl, by decide, by decide, rfl⟩ ⟨Nat.le_of_ble_eq_true rfl, Nat.le_of_ble_eq_true rfl⟩) (gh_preV (As := [.int v1, .int v3]) M G (gh_rec M G haa10 rfl)) rfl rfl hl.1.1 rfl (lv_room (Nat.le_of_ble_eq_true rfl)) dX3_addPage_67 ⟨(Nat.le_of_ble_eq_true rfl), (Nat.le_of_ble_eq_true rfl)⟩) (gh_out M hex (by exact Nat.le_of_ble_eq_true rfl) (by exact Nat.le_of_ble_eq_true rfl)) (fun r11 h12 H locs hw G => ?_)
    refine lv_pop hx hb dX3_addPage_70 rfl ?_
    refine gh_iinc (k := 3) (v := (v3 + (1 : Int32))) (lv' := [(3, 1, .int (v3 + (1 : Int32))), (0, 1, va_rf (some v0)), (1, 1, .int v1), (2, 1, .int v2)]) hx hb dX3_addPage_71 hl rfl rfl (by decide) rfl (fun ls hl => ?_)
    refine lv_goto (tgt := 58) hx hb dX3_addPage_74 (by decide) ?_
    exact k58 v0 v1 v2 (v3 + (1 : Int32)) _ _ _ _ G (gh_sub hl [1, 2, 3, 0] rfl) hw
theorem wk_X3_addPage_58 {D : gh_D} {p : Program} {l : Launch} {e : Env} {s : State} {m : MethodId} {args : Array Value} {below : List Frame} {meth : Method} {c : Code} {h0 : gh_H} (M : gh_M D p l s m args meth c RX3 cX3_addPage 4 (gh_A h0 s.heap.size)) (hr : meth.sig.returnType = (some .int)) (hex : ∀ x ∈ c.exceptionTable.toList, False)   {Q : Int32 → gh_H → Prop} {X : String → gh_H → Prop}   : ∀ (n : Nat) (v0 : Nat) (v1 : Int32) (v2 : Int32) (v3 : Int32) (H : Heap) (locs : List Loc) (ls : Array Slot) (h : gh_H) (_ : gh_Inv D h0 (gh_A h0 s.heap.size) s.heap s H locs h) (_ : gh_L ls 4 [(0, 1, va_rf (some v0)), (1, 1, .int v1), (2, 1, .int v2), (3, 1, .int v3)]) (_ : wl_X3_addPage_58 D.2.2 Q X n v0 v1 v2 v3 h), W p l e rm_X3_addPage s m args below meth c H locs 0 0 (vx_MQ below (gh_Qi Q D h0 s.heap.size) (gh_X X D h0 s.heap.size) args s 0 0 (gh_A h0 s.heap.size)) (F0 m 58 ls []) := by
  intro fu
  induction fu with
  | zero => intro v0 v1 v2 v3 H locs ls h G hl hw; exact False.elim hw
  | succ n1 ih =>
    intro v0 v1 v2 v3 H locs ls h G hl hw
    exact wk1_X3_addPage_58 M hr hex ih  v0 v1 v2 v3 _ _ _ _ G hl hw
set_option maxHeartbeats 4000000 in
theorem met_X3_addPage (l : Launch) (D : gh_D) (v0 : Nat) (v1 : Int32) (v2 : Int32) (Q : Int32 → gh_H → Prop) (X : String → gh_H → Prop) (h : gh_H) (sz : Nat) (hw : wp_X3_addPage D.2.2 v0 v1 v2 Q X h) (hst : l.stackTraces = false) : vx_Met l yX3_addPage (ws_ yX3_addPage cX3_addPage 4 (some .int)) rm_X3_addPage (gh_Pc D h sz [.ref v0, .int v1, .int v2]) (gh_Qi Q D h sz) (gh_X X D h sz) 0 0 (gh_A h sz) := by
  refine vx_ofW (by decide) rfl (fun p e s m args below meth c s₁ B hml hex hP => ?_)
  obtain ⟨rfl, rfl, hK, hT, hE, G⟩ := gh_start hP
  have M : gh_M D p l s m _ meth c RX3 cX3_addPage 4 (gh_A h s.heap.size) := ⟨⟨B.exec, B.bytes, hml, findClass_of_methodNamed B.named, fun w hw => atoms_spec (ws := ws_ yX3_addPage cX3_addPage 4 (some .int)) B.pre w (List.mem_cons_of_mem _ hw)⟩, hK, hT, hE, B.notSynchronized, hst⟩
  have hr := B.returns
  have hx := M.1.1
  have hb := M.1.2.1
  refine gh_enter (vs := [(1, .ref v0), (1, .int v1), (1, .int v2)]) (gh_w1 rfl (gh_w1 rfl (gh_w1 rfl gh_wn))) (Nat.le_of_ble_eq_true rfl) (fun ls hl => ?_)
  replace hl : gh_L ls 4 [(0, 1, va_rf (some v0)), (1, 1, .int v1), (2, 1, .int v2)] := hl
  unfold wp_X3_addPage at hw
  refine lv_iload_n hx hb dX3_addPage_0 rfl (gh_at hl 1 rfl) ?_
  refine lv_iconst (v := (0 : Int32)) hx hb dX3_addPage_1 (by decide) ?_
  refine gh_aload_n hx hb dX3_addPage_2 rfl (gh_at hl 0 rfl) ?_
  refine gh_getI M G hw fl_X3_68 dX3_addPage_3 (fun x1 hw => ?_)
  refine lv_iconst (v := (1 : Int32)) hx hb dX3_addPage_6 (by decide) ?_
  refine lv_isub hx hb dX3_addPage_7 ?_
  refine gh_ki G (vx_runS M.1 (met_X3_in l D _ _ _ _ _ _ _ hw M.2.2.2.2.2) (va_cwS 3 (gh_Mts M) (lw_S q1669 q1670 q50 q1671) rfl rfl rfl ⟨by decide, by decide, rfl⟩ ⟨Nat.le_of_ble_eq_true rfl, Nat.le_of_ble_eq_true rfl⟩) (gh_pre M G (As := [.int v1, .int (0 : Int32), .int (x1 - (1 : Int32))])) rfl rfl hl.1.1 rfl (lv_room (Nat.le_of_ble_eq_true rfl)) dX3_addPage_8 ⟨(Nat.le_of_ble_eq_true rfl), (Nat.le_of_ble_eq_true rfl)⟩) (gh_out M hex (by exact Nat.le_of_ble_eq_true rfl) (by exact Nat.le_of_ble_eq_true rfl)) (fun r2 h3 H locs hw G => ?_)
  refine lv_if_eq (tgt := 28) hx hb dX3_addPage_11 (by decide) (fun hc => ?_) (fun hc => ?_)
  · replace hw := hw.1 hc
    exact wk_X3_addPage_28 M hr hex  v0 _ _ _ _ G (gh_sub hl [0] rfl) hw
  · replace hw := hw.2 hc
    refine lv_iload_n hx hb dX3_addPage_14 rfl (gh_at hl 2 rfl) ?_
    refine lv_iconst (v := (0 : Int32)) hx hb dX3_addPage_15 (by decide) ?_
    refine gh_aload_n hx hb dX3_addPage_16 rfl (gh_at hl 0 rfl) ?_
    refine gh_getI M G hw fl_X3_57 dX3_addPage_17 (fun x4 hw => ?_)
    refine lv_iconst (v := (1 : Int32)) hx hb dX3_addPage_20 (by decide) ?_
    refine lv_isub hx hb dX3_addPage_21 ?_
    refine gh_ki G (vx_runS M.1 (met_X3_in l D _ _ _ _ _ _ _ hw M.2.2.2.2.2) (va_cwS 3 (gh_Mts M) (lw_S q1669 q1670 q50 q1671) rfl rfl rfl ⟨by decide, by decide, rfl⟩ ⟨Nat.le_of_ble_eq_true rfl, Nat.le_of_ble_eq_true rfl⟩) (gh_pre M G (As := [.int v2, .int (0 : Int32), .int (x4 - (1 : Int32))])) rfl rfl hl.1.1 rfl (lv_room (Nat.le_of_ble_eq_true rfl)) dX3_addPage_22 ⟨(Nat.le_of_ble_eq_true rfl), (Nat.le_of_ble_eq_true rfl)⟩) (gh_out M hex (by exact Nat.le_of_ble_eq_true rfl) (by exact Nat.le_of_ble_eq_true rfl)) (fun r5 h6 H locs hw G => ?_)
    refine lv_if_ne (tgt := 34) hx hb dX3_addPage_25 (by decide) (fun hc => ?_) (fun hc => ?_)
    · replace hw := hw.2 hc
      refine gh_aload_n hx hb dX3_addPage_34 rfl (gh_at hl 0 rfl) ?_
      refine gh_getR M G hw fl_X3_16 dX3_addPage_35 (fun x7 hw => ?_)
      refine lv_iload_n hx hb dX3_addPage_38 rfl (gh_at hl 1 rfl) ?_
      refine gh_ial M G hw dX3_addPage_39 (fun x8 hw => ?_)
      refine lv_bipush (v := (16 : Int32)) hx hb dX3_addPage_40 (by decide) ?_
      refine lv_icmp_ne (tgt := 51) hx hb dX3_addPage_42 (by decide) (fun hc => ?_) (fun hc => ?_)
      · replace hw := hw.2 hc
        refine gh_aload_n hx hb dX3_addPage_51 rfl (gh_at hl 0 rfl) ?_
        refine lv_iconst (v := (0 : Int32)) hx hb dX3_addPage_52 (by decide) ?_
        refine gh_put M G hw fp_X3_53 rfl rfl dX3_addPage_53 (fun h9 H locs hw G => ?_)
        refine lv_iconst (v := (0 : Int32)) hx hb dX3_addPage_56 (by decide) ?_
        refine gh_istore_n (lv' := [(3, 1, .int (0 : Int32)), (0, 1, va_rf (some v0)), (1, 1, .int v1), (2, 1, .int v2)]) hx hb dX3_addPage_57 rfl hl (by decide) rfl (fun ls hl => ?_)
        obtain ⟨n, hw⟩ := hw
        exact wk_X3_addPage_58 M hr hex  n v0 v1 v2 (0 : Int32) _ _ _ _ G (gh_sub hl [1, 2, 3, 0] rfl) hw
      · replace hw := hw.1 hc
        refine gh_aload_n hx hb dX3_addPage_45 rfl (gh_at hl 0 rfl) ?_
        refine lv_iconst (v := (2 : Int32)) hx hb dX3_addPage_46 (by decide) ?_
        obtain ⟨a10, lba10, fsa10, hra10, haa10, hw⟩ := hw
        rw [← Option.some.inj hra10] at haa10
        refine gh_ki G (vx_runV M.1 (met_X3_fails l D _ _ _ _ _ _ hw M.2.2.2.2.2) (cwV 1 (gh_Mts M) (lw_V q1657 q1659 qs21 q50 q1660) rfl rfl rfl ⟨rfl, by decide, by decide, rfl⟩ ⟨Nat.le_of_ble_eq_true rfl, Nat.le_of_ble_eq_true rfl⟩) (gh_preV (As := [.int (2 : Int32)]) M G (gh_rec M G haa10 rfl)) rfl rfl hl.1.1 rfl (lv_room (Nat.le_of_ble_eq_true rfl)) dX3_addPage_47 ⟨(Nat.le_of_ble_eq_true rfl), (Nat.le_of_ble_eq_true rfl)⟩) (gh_out M hex (by exact Nat.le_of_ble_eq_true rfl) (by exact Nat.le_of_ble_eq_true rfl)) (fun r11 h12 H locs hw G => ?_)
        exact gh_iret M G hr rfl hw (by exact Nat.le_of_ble_eq_true rfl) (by exact Nat.le_of_ble_eq_true rfl) dX3_addPage_50
    · replace hw := hw.1 hc
      exact wk_X3_addPage_28 M hr hex  v0 _ _ _ _ G (gh_sub hl [0] rfl) hw
/-! BinderyDesk.pages (I)I -/
def rm_X1_pages : Room := { frames := 8, cells := 1, slots := 6, locals := 142 }
def wp_X1_pages (κ : Nat → Nat) (v0 : Nat) (v1 : Int32) (Q : Int32 → gh_H → Prop) (X : String → gh_H → Prop) (h : gh_H) : Prop := (gh_RC h (some v0) 0 (fun _ => (wp_X1_jobNumbered κ v0 v1 (fun r2 h3 => (gh_GR h3 r2 [(7, 1)] (fun x4 => (gh_RC h3 x4 8 (fun a5 => (wp_J2_size κ a5 (fun r6 h7 => (Q r6 h7)) X h3)))))) X h)))
set_option maxHeartbeats 4000000 in
theorem met_X1_pages (l : Launch) (D : gh_D) (v0 : Nat) (v1 : Int32) (Q : Int32 → gh_H → Prop) (X : String → gh_H → Prop) (h : gh_H) (sz : Nat) (hw : wp_X1_pages D.2.2 v0 v1 Q X h) (hst : l.stackTraces = false) : vx_Met l yX1_pages (ws_ yX1_pages cX1_pages 2 (some .int)) rm_X1_pages (gh_Pc D h sz [.ref v0, .int v1]) (gh_Qi Q D h sz) (gh_X X D h sz) 1 6 (gh_A h sz) := by
  refine vx_ofW (by decide) rfl (fun p e s m args below meth c s₁ B hml hex hP => ?_)
  obtain ⟨rfl, rfl, hK, hT, hE, G⟩ := gh_start hP
  have M : gh_M D p l s m _ meth c RX1 cX1_pages 2 (gh_A h s.heap.size) := ⟨⟨B.exec, B.bytes, hml, findClass_of_methodNamed B.named, fun w hw => atoms_spec (ws := ws_ yX1_pages cX1_pages 2 (some .int)) B.pre w (List.mem_cons_of_mem _ hw)⟩, hK, hT, hE, B.notSynchronized, hst⟩
  have hr := B.returns
  have hx := M.1.1
  have hb := M.1.2.1
  refine gh_enter (vs := [(1, .ref v0), (1, .int v1)]) (gh_w1 rfl (gh_w1 rfl gh_wn)) (Nat.le_of_ble_eq_true rfl) (fun ls hl => ?_)
  replace hl : gh_L ls 2 [(0, 1, va_rf (some v0)), (1, 1, .int v1)] := hl
  unfold wp_X1_pages at hw
  refine gh_aload_n hx hb dX1_pages_0 rfl (gh_at hl 0 rfl) ?_
  refine lv_iload_n hx hb dX1_pages_1 rfl (gh_at hl 1 rfl) ?_
  obtain ⟨a1, lba1, fsa1, hra1, haa1, hw⟩ := hw
  rw [← Option.some.inj hra1] at haa1
  refine gh_kq G (vx_runV M.1 (met_X1_jobNumbered l D _ _ _ _ _ _ hw M.2.2.2.2.2) (cwV 1 (gh_Mts M) (lw_V q791 q793 qs5 q41 q794) rfl rfl rfl ⟨rfl, by decide, by decide, rfl⟩ ⟨Nat.le_of_ble_eq_true rfl, Nat.le_of_ble_eq_true rfl⟩) (gh_preV (As := [.int v1]) M G (gh_rec M G haa1 rfl)) rfl rfl hl.1.1 rfl (lv_room (Nat.le_of_ble_eq_true rfl)) dX1_pages_2 ⟨(Nat.le_of_ble_eq_true rfl), (Nat.le_of_ble_eq_true rfl)⟩) (gh_out M hex (by exact Nat.le_of_ble_eq_true rfl) (by exact Nat.le_of_ble_eq_true rfl)) (fun r2 h3 H locs hw G => ?_)
  refine gh_getR M G hw fl_X1_152 dX1_pages_5 (fun x4 hw => ?_)
  obtain ⟨a5, lba5, fsa5, rfl, haa5, hw⟩ := hw
  refine gh_kFi G (vx_runF (C := "java/util/ArrayList") (M.2.1.1.1 8 _ rfl).2 M.1 (met_J2_size l D _ _ _ _ _ hw M.2.2.2.2.2) (va_cwF 0 (gh_Mts M) (gh_gF q239 q243 q245 q44 q247) rfl rfl rfl (M.2.2.1.2.1 _ (List.mem_of_getElem? (i := 4) rfl)) ⟨by decide, by decide, rfl⟩ ⟨Nat.le_of_ble_eq_true rfl, Nat.le_of_ble_eq_true rfl⟩) (gh_preV (As := []) M G (gh_rec M G haa5 rfl)) rfl rfl hl.1.1 rfl (lv_room (Nat.le_of_ble_eq_true rfl)) dX1_pages_8 ⟨(Nat.le_of_ble_eq_true rfl), (Nat.le_of_ble_eq_true rfl)⟩) (gh_out M hex (by exact Nat.le_of_ble_eq_true rfl) (by exact Nat.le_of_ble_eq_true rfl)) (fun r6 h7 H locs hw G => ?_)
  exact gh_iret M G hr rfl hw (by exact Nat.le_of_ble_eq_true rfl) (by exact Nat.le_of_ble_eq_true rfl) dX1_pages_13
/-! BinderyDeskLaw.pages (LBinderyDesk;I[J)I -/
def rm_X0_pages : Room := { frames := 9, cells := 1, slots := 6, locals := 163 }
def wb_X0_pages_12 (κ : Nat → Nat)  (Q : Int32 → gh_H → Prop) (X : String → gh_H → Prop) (t0 : Option Nat) (h : gh_H) : Prop := (Q (1 : Int32) h)
def wp_X0_pages (κ : Nat → Nat) (v0 : Option Nat) (v1 : Int32) (v2 : Option Nat) (Q : Int32 → gh_H → Prop) (X : String → gh_H → Prop) (h : gh_H) : Prop := (gh_RC h v0 0 (fun a1 => (wp_X1_pages κ a1 v1 (fun r2 h3 => (gh_SJ h3 v2 (0 : Int32) (r2.toInt64) (fun h4 => (Q (0 : Int32) h4)))) (fun E h9 => (E = "java/lang/IndexOutOfBoundsException" ∧ ∀ q9 : Nat, wb_X0_pages_12 κ Q X (some q9) h9)) h)))
set_option maxHeartbeats 4000000 in
theorem wk_X0_pages_12 {D : gh_D} {p : Program} {l : Launch} {e : Env} {s : State} {m : MethodId} {args : Array Value} {below : List Frame} {meth : Method} {c : Code} {h0 : gh_H} (M : gh_M D p l s m args meth c RX0 cX0_pages 4 (gh_A h0 s.heap.size)) (hr : meth.sig.returnType = (some .int)) (htab : c.exceptionTable.toList = tableOf [(0, 9, 12, 19)])   {Q : Int32 → gh_H → Prop} {X : String → gh_H → Prop}   (t0 : Option Nat) (H : Heap) (locs : List Loc) (ls : Array Slot) (h : gh_H) (G : gh_Inv D h0 (gh_A h0 s.heap.size) s.heap s H locs h) (hl : gh_L ls 4 []) (hw : wb_X0_pages_12 D.2.2 Q X t0 h) : W p l e rm_X0_pages s m args below meth c H locs 1 6 (vx_MQ below (gh_Qi Q D h0 s.heap.size) (gh_X X D h0 s.heap.size) args s 1 6 (gh_A h0 s.heap.size)) (F0 m 12 ls [va_rf t0]) := by
  unfold wb_X0_pages_12 at hw
  have hx := M.1.1
  have hb := M.1.2.1
  refine gh_astore_n (lv' := [(3, 1, va_rf t0)]) hx hb dX0_pages_12 rfl hl (by decide) rfl (fun ls hl => ?_)
  refine lv_iconst (v := (1 : Int32)) hx hb dX0_pages_13 (by decide) ?_
  exact gh_iret M G hr rfl hw (by exact Nat.le_of_ble_eq_true rfl) (by exact Nat.le_of_ble_eq_true rfl) dX0_pages_14
set_option maxHeartbeats 4000000 in
theorem met_X0_pages (l : Launch) (D : gh_D) (v0 : Option Nat) (v1 : Int32) (v2 : Option Nat) (Q : Int32 → gh_H → Prop) (X : String → gh_H → Prop) (h : gh_H) (sz : Nat) (hw : wp_X0_pages D.2.2 v0 v1 v2 Q X h) (hst : l.stackTraces = false) : vx_Met l yX0_pages (wsW_ yX0_pages cX0_pages 4 (some .int) [(0, 9, 12, 19)]) rm_X0_pages (gh_Pc D h sz [va_rf v0, .int v1, va_rf v2]) (gh_Qi Q D h sz) (gh_X X D h sz) 1 6 (gh_A h sz) := by
  refine vx_ofWH (by decide) rfl (fun p e s m args below meth c s₁ B hml hP => ?_)
  have htab := vx_table (x := yX0_pages) B (atoms_spec (ws := wsW_ yX0_pages cX0_pages 4 (some .int) [(0, 9, 12, 19)]) B.pre _ List.mem_cons_self)
  obtain ⟨rfl, rfl, hK, hT, hE, G⟩ := gh_start hP
  have M : gh_M D p l s m _ meth c RX0 cX0_pages 4 (gh_A h s.heap.size) := ⟨⟨B.exec, B.bytes, hml, findClass_of_methodNamed B.named, fun w hw => atoms_spec (ws := wsW_ yX0_pages cX0_pages 4 (some .int) [(0, 9, 12, 19)]) B.pre w (List.mem_cons_of_mem _ hw)⟩, hK, hT, hE, B.notSynchronized, hst⟩
  have hr := B.returns
  have hx := M.1.1
  have hb := M.1.2.1
  refine gh_enter (vs := [(1, va_rf v0), (1, .int v1), (1, va_rf v2)]) (gh_w1 (gh_cat _) (gh_w1 rfl (gh_w1 (gh_cat _) gh_wn))) (Nat.le_of_ble_eq_true rfl) (fun ls hl => ?_)
  replace hl : gh_L ls 4 [(0, 1, va_rf v0), (1, 1, .int v1), (2, 1, va_rf v2)] := hl
  unfold wp_X0_pages at hw
  refine gh_aload_n hx hb dX0_pages_0 rfl (gh_at hl 2 rfl) ?_
  refine lv_iconst (v := (0 : Int32)) hx hb dX0_pages_1 (by decide) ?_
  refine gh_aload_n hx hb dX0_pages_2 rfl (gh_at hl 0 rfl) ?_
  refine lv_iload_n hx hb dX0_pages_3 rfl (gh_at hl 1 rfl) ?_
  obtain ⟨a1, lba1, fsa1, rfl, haa1, hw⟩ := hw
  refine gh_ki G (vx_runV M.1 (met_X1_pages l D _ _ _ _ _ _ hw M.2.2.2.2.2) (cwV 1 (gh_Mts M) (lw_V q798 q799 q800 q41 q801) rfl rfl rfl ⟨rfl, by decide, by decide, rfl⟩ ⟨Nat.le_of_ble_eq_true rfl, Nat.le_of_ble_eq_true rfl⟩) (gh_preV (As := [.int v1]) M G (gh_rec M G haa1 rfl)) rfl rfl hl.1.1 rfl (lv_room (Nat.le_trans (gh_r1 rfl (gh_r1 (gh_cat _) gh_r0)) (Nat.le_of_ble_eq_true rfl : 2 ≤ 8))) dX0_pages_4 ⟨(Nat.le_of_ble_eq_true rfl), (Nat.le_of_ble_eq_true rfl)⟩) (fun E ce q9 h9 H locs hX G hce hcv hcl => ?_) (fun r2 h3 H locs hw G => ?_)
  · obtain ⟨rfl, hX⟩ := hX
    · replace hw := hX q9
      refine vx_catch (name := "java/lang/IndexOutOfBoundsException") M.1.2.2.2.1 (tableOf []) ⟨0, 9, 12, 19⟩ (tableOf []) (htab.trans rfl) (fun _ h => absurd h List.not_mem_nil) (by decide) (by decide) (gh_Mts M _ q439) (va_Nw.use rfl (M.2.2.1.1 _ (List.mem_of_getElem? (i := 8) rfl))) hce hcv hcl ?_
      exact wk_X0_pages_12 M hr htab  (some q9) _ _ _ _ G (gh_sub hl [] rfl) hw
  · refine lv_i2l (v := (r2.toInt64)) hx hb dX0_pages_7 rfl ?_
    refine gh_jas M G hw dX0_pages_8 (fun h4 H locs hw G => ?_)
    refine lv_goto (tgt := 15) hx hb dX0_pages_9 (by decide) ?_
    refine lv_iconst (v := (0 : Int32)) hx hb dX0_pages_15 (by decide) ?_
    exact gh_iret M G hr rfl hw (by exact Nat.le_of_ble_eq_true rfl) (by exact Nat.le_of_ble_eq_true rfl) dX0_pages_16
/-! BinderyDeskModel.pages (I)I -/
def rm_X3_pages : Room := { frames := 2, cells := 0, slots := 0, locals := 62 }
def wp_X3_pages (κ : Nat → Nat) (v0 : Nat) (v1 : Int32) (Q : Int32 → gh_H → Prop) (X : String → gh_H → Prop) (h : gh_H) : Prop := (gh_GI h (some v0) [(1, 2)] (fun x1 => (wp_X3_in κ v1 (0 : Int32) (x1 - (1 : Int32)) (fun r2 h3 => ((r2 = 0 → (gh_RC h3 (some v0) 1 (fun _ => (wp_X3_fails κ v0 (1 : Int32) (fun r8 h9 => (Q r8 h9)) X h3)))) ∧ (¬ r2 = 0 → (gh_PV h3 (some v0) [(1, 0)] (.int (0 : Int32)) (fun h4 => (gh_GR h4 (some v0) [(1, 14)] (fun x5 => (gh_LI h4 x5 v1 (fun x6 => (Q x6 h4)))))))))) X h)))
set_option maxHeartbeats 4000000 in
theorem met_X3_pages (l : Launch) (D : gh_D) (v0 : Nat) (v1 : Int32) (Q : Int32 → gh_H → Prop) (X : String → gh_H → Prop) (h : gh_H) (sz : Nat) (hw : wp_X3_pages D.2.2 v0 v1 Q X h) (hst : l.stackTraces = false) : vx_Met l yX3_pages (ws_ yX3_pages cX3_pages 2 (some .int)) rm_X3_pages (gh_Pc D h sz [.ref v0, .int v1]) (gh_Qi Q D h sz) (gh_X X D h sz) 0 0 (gh_A h sz) := by
  refine vx_ofW (by decide) rfl (fun p e s m args below meth c s₁ B hml hex hP => ?_)
  obtain ⟨rfl, rfl, hK, hT, hE, G⟩ := gh_start hP
  have M : gh_M D p l s m _ meth c RX3 cX3_pages 2 (gh_A h s.heap.size) := ⟨⟨B.exec, B.bytes, hml, findClass_of_methodNamed B.named, fun w hw => atoms_spec (ws := ws_ yX3_pages cX3_pages 2 (some .int)) B.pre w (List.mem_cons_of_mem _ hw)⟩, hK, hT, hE, B.notSynchronized, hst⟩
  have hr := B.returns
  have hx := M.1.1
  have hb := M.1.2.1
  refine gh_enter (vs := [(1, .ref v0), (1, .int v1)]) (gh_w1 rfl (gh_w1 rfl gh_wn)) (Nat.le_of_ble_eq_true rfl) (fun ls hl => ?_)
  replace hl : gh_L ls 2 [(0, 1, va_rf (some v0)), (1, 1, .int v1)] := hl
  unfold wp_X3_pages at hw
  refine lv_iload_n hx hb dX3_pages_0 rfl (gh_at hl 1 rfl) ?_
  refine lv_iconst (v := (0 : Int32)) hx hb dX3_pages_1 (by decide) ?_
  refine gh_aload_n hx hb dX3_pages_2 rfl (gh_at hl 0 rfl) ?_
  refine gh_getI M G hw fl_X3_68 dX3_pages_3 (fun x1 hw => ?_)
  refine lv_iconst (v := (1 : Int32)) hx hb dX3_pages_6 (by decide) ?_
  refine lv_isub hx hb dX3_pages_7 ?_
  refine gh_ki G (vx_runS M.1 (met_X3_in l D _ _ _ _ _ _ _ hw M.2.2.2.2.2) (va_cwS 3 (gh_Mts M) (lw_S q1669 q1670 q50 q1671) rfl rfl rfl ⟨by decide, by decide, rfl⟩ ⟨Nat.le_of_ble_eq_true rfl, Nat.le_of_ble_eq_true rfl⟩) (gh_pre M G (As := [.int v1, .int (0 : Int32), .int (x1 - (1 : Int32))])) rfl rfl hl.1.1 rfl (lv_room (Nat.le_of_ble_eq_true rfl)) dX3_pages_8 ⟨(Nat.le_of_ble_eq_true rfl), (Nat.le_of_ble_eq_true rfl)⟩) (gh_out M hex (by exact Nat.le_of_ble_eq_true rfl) (by exact Nat.le_of_ble_eq_true rfl)) (fun r2 h3 H locs hw G => ?_)
  refine lv_if_ne (tgt := 20) hx hb dX3_pages_11 (by decide) (fun hc => ?_) (fun hc => ?_)
  · replace hw := hw.2 hc
    refine gh_aload_n hx hb dX3_pages_20 rfl (gh_at hl 0 rfl) ?_
    refine lv_iconst (v := (0 : Int32)) hx hb dX3_pages_21 (by decide) ?_
    refine gh_put M G hw fp_X3_53 rfl rfl dX3_pages_22 (fun h4 H locs hw G => ?_)
    refine gh_aload_n hx hb dX3_pages_25 rfl (gh_at hl 0 rfl) ?_
    refine gh_getR M G hw fl_X3_16 dX3_pages_26 (fun x5 hw => ?_)
    refine lv_iload_n hx hb dX3_pages_29 rfl (gh_at hl 1 rfl) ?_
    refine gh_ial M G hw dX3_pages_30 (fun x6 hw => ?_)
    exact gh_iret M G hr rfl hw (by exact Nat.le_of_ble_eq_true rfl) (by exact Nat.le_of_ble_eq_true rfl) dX3_pages_31
  · replace hw := hw.1 hc
    refine gh_aload_n hx hb dX3_pages_14 rfl (gh_at hl 0 rfl) ?_
    refine lv_iconst (v := (1 : Int32)) hx hb dX3_pages_15 (by decide) ?_
    obtain ⟨a7, lba7, fsa7, hra7, haa7, hw⟩ := hw
    rw [← Option.some.inj hra7] at haa7
    refine gh_ki G (vx_runV M.1 (met_X3_fails l D _ _ _ _ _ _ hw M.2.2.2.2.2) (cwV 1 (gh_Mts M) (lw_V q1657 q1659 qs21 q50 q1660) rfl rfl rfl ⟨rfl, by decide, by decide, rfl⟩ ⟨Nat.le_of_ble_eq_true rfl, Nat.le_of_ble_eq_true rfl⟩) (gh_preV (As := [.int (1 : Int32)]) M G (gh_rec M G haa7 rfl)) rfl rfl hl.1.1 rfl (lv_room (Nat.le_of_ble_eq_true rfl)) dX3_pages_16 ⟨(Nat.le_of_ble_eq_true rfl), (Nat.le_of_ble_eq_true rfl)⟩) (gh_out M hex (by exact Nat.le_of_ble_eq_true rfl) (by exact Nat.le_of_ble_eq_true rfl)) (fun r8 h9 H locs hw G => ?_)
    exact gh_iret M G hr rfl hw (by exact Nat.le_of_ble_eq_true rfl) (by exact Nat.le_of_ble_eq_true rfl) dX3_pages_19
/-! BinderyDesk.completeJob (I)LBinderyDesk$Job; -/
def rm_X1_completeJob : Room := { frames := 8, cells := 2, slots := 12, locals := 142 }
def wp_X1_completeJob (κ : Nat → Nat) (v0 : Nat) (v1 : Int32) (Q : Option Nat → gh_H → Prop) (X : String → gh_H → Prop) (h : gh_H) : Prop := (gh_RC h (some v0) 0 (fun _ => (wp_X1_jobNumbered κ v0 v1 (fun r2 h3 => (gh_RC h3 r2 7 (fun a4 => (wp_X7_isComplete κ a4 (fun r5 h6 => (wp_X1_requireState κ r5 (fun h7 => (Q (some a4) h7)) X h6)) X h3)))) X h)))
set_option maxHeartbeats 4000000 in
theorem met_X1_completeJob (l : Launch) (D : gh_D) (v0 : Nat) (v1 : Int32) (Q : Option Nat → gh_H → Prop) (X : String → gh_H → Prop) (h : gh_H) (sz : Nat) (hw : wp_X1_completeJob D.2.2 v0 v1 Q X h) (hst : l.stackTraces = false) : vx_Met l yX1_completeJob (ws_ yX1_completeJob cX1_completeJob 3 (some (.object "BinderyDesk$Job"))) rm_X1_completeJob (gh_Pc D h sz [.ref v0, .int v1]) (gh_Qq Q D h sz) (gh_X X D h sz) 2 12 (gh_A h sz) := by
  refine vx_ofW (by decide) rfl (fun p e s m args below meth c s₁ B hml hex hP => ?_)
  obtain ⟨rfl, rfl, hK, hT, hE, G⟩ := gh_start hP
  have M : gh_M D p l s m _ meth c RX1 cX1_completeJob 3 (gh_A h s.heap.size) := ⟨⟨B.exec, B.bytes, hml, findClass_of_methodNamed B.named, fun w hw => atoms_spec (ws := ws_ yX1_completeJob cX1_completeJob 3 (some (.object "BinderyDesk$Job"))) B.pre w (List.mem_cons_of_mem _ hw)⟩, hK, hT, hE, B.notSynchronized, hst⟩
  have hr := B.returns
  have hx := M.1.1
  have hb := M.1.2.1
  refine gh_enter (vs := [(1, .ref v0), (1, .int v1)]) (gh_w1 rfl (gh_w1 rfl gh_wn)) (Nat.le_of_ble_eq_true rfl) (fun ls hl => ?_)
  replace hl : gh_L ls 3 [(0, 1, va_rf (some v0)), (1, 1, .int v1)] := hl
  unfold wp_X1_completeJob at hw
  refine gh_aload_n hx hb dX1_completeJob_0 rfl (gh_at hl 0 rfl) ?_
  refine lv_iload_n hx hb dX1_completeJob_1 rfl (gh_at hl 1 rfl) ?_
  obtain ⟨a1, lba1, fsa1, hra1, haa1, hw⟩ := hw
  rw [← Option.some.inj hra1] at haa1
  refine gh_kq G (vx_runV M.1 (met_X1_jobNumbered l D _ _ _ _ _ _ hw M.2.2.2.2.2) (cwV 1 (gh_Mts M) (lw_V q791 q793 qs5 q41 q794) rfl rfl rfl ⟨rfl, by decide, by decide, rfl⟩ ⟨Nat.le_of_ble_eq_true rfl, Nat.le_of_ble_eq_true rfl⟩) (gh_preV (As := [.int v1]) M G (gh_rec M G haa1 rfl)) rfl rfl hl.1.1 rfl (lv_room (Nat.le_of_ble_eq_true rfl)) dX1_completeJob_2 ⟨(Nat.le_of_ble_eq_true rfl), (Nat.le_of_ble_eq_true rfl)⟩) (gh_out M hex (by exact Nat.le_of_ble_eq_true rfl) (by exact Nat.le_of_ble_eq_true rfl)) (fun r2 h3 H locs hw G => ?_)
  refine gh_astore_n (lv' := [(2, 1, va_rf r2), (0, 1, va_rf (some v0)), (1, 1, .int v1)]) hx hb dX1_completeJob_5 rfl hl (by decide) rfl (fun ls hl => ?_)
  refine gh_aload_n hx hb dX1_completeJob_6 rfl (gh_at hl 0 rfl) ?_
  obtain ⟨a4, lba4, fsa4, rfl, haa4, hw⟩ := hw
  refine gh_ki G (vx_runV M.1 (met_X7_isComplete l D _ _ _ _ _ hw M.2.2.2.2.2) (cwV 0 (gh_Mts M) (lw_V q813 q629 q630 q71 q631) rfl rfl rfl ⟨rfl, by decide, by decide, rfl⟩ ⟨Nat.le_of_ble_eq_true rfl, Nat.le_of_ble_eq_true rfl⟩) (gh_preV (As := []) M G (gh_rec M G haa4 rfl)) rfl rfl hl.1.1 rfl (lv_room (Nat.le_of_ble_eq_true rfl)) dX1_completeJob_7 ⟨(Nat.le_of_ble_eq_true rfl), (Nat.le_of_ble_eq_true rfl)⟩) (gh_out M hex (by exact Nat.le_of_ble_eq_true rfl) (by exact Nat.le_of_ble_eq_true rfl)) (fun r5 h6 H locs hw G => ?_)
  refine gh_kv G (vx_runS M.1 (met_X1_requireState l D _ _ _ _ _ hw M.2.2.2.2.2) (va_cwS 1 (gh_Mts M) (lw_S q266 q267 q41 q268) rfl rfl rfl ⟨by decide, by decide, rfl⟩ ⟨Nat.le_of_ble_eq_true rfl, Nat.le_of_ble_eq_true rfl⟩) (gh_pre M G (As := [.int r5])) rfl rfl hl.1.1 rfl (lv_room (Nat.le_of_ble_eq_true rfl)) dX1_completeJob_10 ⟨(Nat.le_of_ble_eq_true rfl), (Nat.le_of_ble_eq_true rfl)⟩) (gh_out M hex (by exact Nat.le_of_ble_eq_true rfl) (by exact Nat.le_of_ble_eq_true rfl)) (fun h7 H locs hw G => ?_)
  refine gh_aload_n hx hb dX1_completeJob_13 rfl (gh_at hl 0 rfl) ?_
  exact gh_aret M G hr (Or.inl ⟨_, rfl⟩) hw (by exact Nat.le_of_ble_eq_true rfl) (by exact Nat.le_of_ble_eq_true rfl) dX1_completeJob_14
/-! BinderyDesk.sheets (I)I -/
def rm_X1_sheets : Room := { frames := 9, cells := 2, slots := 12, locals := 164 }
def wp_X1_sheets (κ : Nat → Nat) (v0 : Nat) (v1 : Int32) (Q : Int32 → gh_H → Prop) (X : String → gh_H → Prop) (h : gh_H) : Prop := (gh_RC h (some v0) 0 (fun _ => (wp_X1_completeJob κ v0 v1 (fun r2 h3 => (gh_RC h3 r2 7 (fun a4 => (wp_X7_sheets κ a4 (fun r5 h6 => (Q r5 h6)) X h3)))) X h)))
set_option maxHeartbeats 4000000 in
theorem met_X1_sheets (l : Launch) (D : gh_D) (v0 : Nat) (v1 : Int32) (Q : Int32 → gh_H → Prop) (X : String → gh_H → Prop) (h : gh_H) (sz : Nat) (hw : wp_X1_sheets D.2.2 v0 v1 Q X h) (hst : l.stackTraces = false) : vx_Met l yX1_sheets (ws_ yX1_sheets cX1_sheets 2 (some .int)) rm_X1_sheets (gh_Pc D h sz [.ref v0, .int v1]) (gh_Qi Q D h sz) (gh_X X D h sz) 2 12 (gh_A h sz) := by
  refine vx_ofW (by decide) rfl (fun p e s m args below meth c s₁ B hml hex hP => ?_)
  obtain ⟨rfl, rfl, hK, hT, hE, G⟩ := gh_start hP
  have M : gh_M D p l s m _ meth c RX1 cX1_sheets 2 (gh_A h s.heap.size) := ⟨⟨B.exec, B.bytes, hml, findClass_of_methodNamed B.named, fun w hw => atoms_spec (ws := ws_ yX1_sheets cX1_sheets 2 (some .int)) B.pre w (List.mem_cons_of_mem _ hw)⟩, hK, hT, hE, B.notSynchronized, hst⟩
  have hr := B.returns
  have hx := M.1.1
  have hb := M.1.2.1
  refine gh_enter (vs := [(1, .ref v0), (1, .int v1)]) (gh_w1 rfl (gh_w1 rfl gh_wn)) (Nat.le_of_ble_eq_true rfl) (fun ls hl => ?_)
  replace hl : gh_L ls 2 [(0, 1, va_rf (some v0)), (1, 1, .int v1)] := hl
  unfold wp_X1_sheets at hw
  refine gh_aload_n hx hb dX1_sheets_0 rfl (gh_at hl 0 rfl) ?_
  refine lv_iload_n hx hb dX1_sheets_1 rfl (gh_at hl 1 rfl) ?_
  obtain ⟨a1, lba1, fsa1, hra1, haa1, hw⟩ := hw
  rw [← Option.some.inj hra1] at haa1
  refine gh_kq G (vx_runV M.1 (met_X1_completeJob l D _ _ _ _ _ _ hw M.2.2.2.2.2) (cwV 1 (gh_Mts M) (lw_V q809 q811 qs6 q41 q812) rfl rfl rfl ⟨rfl, by decide, by decide, rfl⟩ ⟨Nat.le_of_ble_eq_true rfl, Nat.le_of_ble_eq_true rfl⟩) (gh_preV (As := [.int v1]) M G (gh_rec M G haa1 rfl)) rfl rfl hl.1.1 rfl (lv_room (Nat.le_of_ble_eq_true rfl)) dX1_sheets_2 ⟨(Nat.le_of_ble_eq_true rfl), (Nat.le_of_ble_eq_true rfl)⟩) (gh_out M hex (by exact Nat.le_of_ble_eq_true rfl) (by exact Nat.le_of_ble_eq_true rfl)) (fun r2 h3 H locs hw G => ?_)
  obtain ⟨a4, lba4, fsa4, rfl, haa4, hw⟩ := hw
  refine gh_ki G (vx_runV M.1 (met_X7_sheets l D _ _ _ _ _ hw M.2.2.2.2.2) (cwV 0 (gh_Mts M) (lw_V q814 q644 q645 q71 q646) rfl rfl rfl ⟨rfl, by decide, by decide, rfl⟩ ⟨Nat.le_of_ble_eq_true rfl, Nat.le_of_ble_eq_true rfl⟩) (gh_preV (As := []) M G (gh_rec M G haa4 rfl)) rfl rfl hl.1.1 rfl (lv_room (Nat.le_of_ble_eq_true rfl)) dX1_sheets_5 ⟨(Nat.le_of_ble_eq_true rfl), (Nat.le_of_ble_eq_true rfl)⟩) (gh_out M hex (by exact Nat.le_of_ble_eq_true rfl) (by exact Nat.le_of_ble_eq_true rfl)) (fun r5 h6 H locs hw G => ?_)
  exact gh_iret M G hr rfl hw (by exact Nat.le_of_ble_eq_true rfl) (by exact Nat.le_of_ble_eq_true rfl) dX1_sheets_8
/-! BinderyDeskLaw.sheets (LBinderyDesk;I[J)I -/
def rm_X0_sheets : Room := { frames := 10, cells := 2, slots := 12, locals := 185 }
def wb_X0_sheets_12 (κ : Nat → Nat)  (Q : Int32 → gh_H → Prop) (X : String → gh_H → Prop) (t0 : Option Nat) (h : gh_H) : Prop := (Q (1 : Int32) h)
def wb_X0_sheets_15 (κ : Nat → Nat)  (Q : Int32 → gh_H → Prop) (X : String → gh_H → Prop) (t0 : Option Nat) (h : gh_H) : Prop := (Q (2 : Int32) h)
def wp_X0_sheets (κ : Nat → Nat) (v0 : Option Nat) (v1 : Int32) (v2 : Option Nat) (Q : Int32 → gh_H → Prop) (X : String → gh_H → Prop) (h : gh_H) : Prop := (gh_RC h v0 0 (fun a1 => (wp_X1_sheets κ a1 v1 (fun r2 h3 => (gh_SJ h3 v2 (0 : Int32) (r2.toInt64) (fun h4 => (Q (0 : Int32) h4)))) (fun E h9 => (E = "java/lang/IndexOutOfBoundsException" ∧ ∀ q9 : Nat, wb_X0_sheets_12 κ Q X (some q9) h9) ∨ (E = "java/lang/IllegalStateException" ∧ ∀ q9 : Nat, wb_X0_sheets_15 κ Q X (some q9) h9)) h)))
set_option maxHeartbeats 4000000 in
theorem wk_X0_sheets_12 {D : gh_D} {p : Program} {l : Launch} {e : Env} {s : State} {m : MethodId} {args : Array Value} {below : List Frame} {meth : Method} {c : Code} {h0 : gh_H} (M : gh_M D p l s m args meth c RX0 cX0_sheets 4 (gh_A h0 s.heap.size)) (hr : meth.sig.returnType = (some .int)) (htab : c.exceptionTable.toList = tableOf [(0, 9, 12, 19), (0, 9, 15, 13)])   {Q : Int32 → gh_H → Prop} {X : String → gh_H → Prop}   (t0 : Option Nat) (H : Heap) (locs : List Loc) (ls : Array Slot) (h : gh_H) (G : gh_Inv D h0 (gh_A h0 s.heap.size) s.heap s H locs h) (hl : gh_L ls 4 []) (hw : wb_X0_sheets_12 D.2.2 Q X t0 h) : W p l e rm_X0_sheets s m args below meth c H locs 2 12 (vx_MQ below (gh_Qi Q D h0 s.heap.size) (gh_X X D h0 s.heap.size) args s 2 12 (gh_A h0 s.heap.size)) (F0 m 12 ls [va_rf t0]) := by
  unfold wb_X0_sheets_12 at hw
  have hx := M.1.1
  have hb := M.1.2.1
  refine gh_astore_n (lv' := [(3, 1, va_rf t0)]) hx hb dX0_sheets_12 rfl hl (by decide) rfl (fun ls hl => ?_)
  refine lv_iconst (v := (1 : Int32)) hx hb dX0_sheets_13 (by decide) ?_
  exact gh_iret M G hr rfl hw (by exact Nat.le_of_ble_eq_true rfl) (by exact Nat.le_of_ble_eq_true rfl) dX0_sheets_14
set_option maxHeartbeats 4000000 in
theorem wk_X0_sheets_15 {D : gh_D} {p : Program} {l : Launch} {e : Env} {s : State} {m : MethodId} {args : Array Value} {below : List Frame} {meth : Method} {c : Code} {h0 : gh_H} (M : gh_M D p l s m args meth c RX0 cX0_sheets 4 (gh_A h0 s.heap.size)) (hr : meth.sig.returnType = (some .int)) (htab : c.exceptionTable.toList = tableOf [(0, 9, 12, 19), (0, 9, 15, 13)])   {Q : Int32 → gh_H → Prop} {X : String → gh_H → Prop}   (t0 : Option Nat) (H : Heap) (locs : List Loc) (ls : Array Slot) (h : gh_H) (G : gh_Inv D h0 (gh_A h0 s.heap.size) s.heap s H locs h) (hl : gh_L ls 4 []) (hw : wb_X0_sheets_15 D.2.2 Q X t0 h) : W p l e rm_X0_sheets s m args below meth c H locs 2 12 (vx_MQ below (gh_Qi Q D h0 s.heap.size) (gh_X X D h0 s.heap.size) args s 2 12 (gh_A h0 s.heap.size)) (F0 m 15 ls [va_rf t0]) := by
  unfold wb_X0_sheets_15 at hw
  have hx := M.1.1
  have hb := M.1.2.1
  refine gh_astore_n (lv' := [(3, 1, va_rf t0)]) hx hb dX0_sheets_15 rfl hl (by decide) rfl (fun ls hl => ?_)
  refine lv_iconst (v := (2 : Int32)) hx hb dX0_sheets_16 (by decide) ?_
  exact gh_iret M G hr rfl hw (by exact Nat.le_of_ble_eq_true rfl) (by exact Nat.le_of_ble_eq_true rfl) dX0_sheets_17
set_option maxHeartbeats 4000000 in
theorem met_X0_sheets (l : Launch) (D : gh_D) (v0 : Option Nat) (v1 : Int32) (v2 : Option Nat) (Q : Int32 → gh_H → Prop) (X : String → gh_H → Prop) (h : gh_H) (sz : Nat) (hw : wp_X0_sheets D.2.2 v0 v1 v2 Q X h) (hst : l.stackTraces = false) : vx_Met l yX0_sheets (wsW_ yX0_sheets cX0_sheets 4 (some .int) [(0, 9, 12, 19), (0, 9, 15, 13)]) rm_X0_sheets (gh_Pc D h sz [va_rf v0, .int v1, va_rf v2]) (gh_Qi Q D h sz) (gh_X X D h sz) 2 12 (gh_A h sz) := by
  refine vx_ofWH (by decide) rfl (fun p e s m args below meth c s₁ B hml hP => ?_)
  have htab := vx_table (x := yX0_sheets) B (atoms_spec (ws := wsW_ yX0_sheets cX0_sheets 4 (some .int) [(0, 9, 12, 19), (0, 9, 15, 13)]) B.pre _ List.mem_cons_self)
  obtain ⟨rfl, rfl, hK, hT, hE, G⟩ := gh_start hP
  have M : gh_M D p l s m _ meth c RX0 cX0_sheets 4 (gh_A h s.heap.size) := ⟨⟨B.exec, B.bytes, hml, findClass_of_methodNamed B.named, fun w hw => atoms_spec (ws := wsW_ yX0_sheets cX0_sheets 4 (some .int) [(0, 9, 12, 19), (0, 9, 15, 13)]) B.pre w (List.mem_cons_of_mem _ hw)⟩, hK, hT, hE, B.notSynchronized, hst⟩
  have hr := B.returns
  have hx := M.1.1
  have hb := M.1.2.1
  refine gh_enter (vs := [(1, va_rf v0), (1, .int v1), (1, va_rf v2)]) (gh_w1 (gh_cat _) (gh_w1 rfl (gh_w1 (gh_cat _) gh_wn))) (Nat.le_of_ble_eq_true rfl) (fun ls hl => ?_)
  replace hl : gh_L ls 4 [(0, 1, va_rf v0), (1, 1, .int v1), (2, 1, va_rf v2)] := hl
  unfold wp_X0_sheets at hw
  refine gh_aload_n hx hb dX0_sheets_0 rfl (gh_at hl 2 rfl) ?_
  refine lv_iconst (v := (0 : Int32)) hx hb dX0_sheets_1 (by decide) ?_
  refine gh_aload_n hx hb dX0_sheets_2 rfl (gh_at hl 0 rfl) ?_
  refine lv_iload_n hx hb dX0_sheets_3 rfl (gh_at hl 1 rfl) ?_
  obtain ⟨a1, lba1, fsa1, rfl, haa1, hw⟩ := hw
  refine gh_ki G (vx_runV M.1 (met_X1_sheets l D _ _ _ _ _ _ hw M.2.2.2.2.2) (cwV 1 (gh_Mts M) (lw_V q805 q806 q807 q41 q808) rfl rfl rfl ⟨rfl, by decide, by decide, rfl⟩ ⟨Nat.le_of_ble_eq_true rfl, Nat.le_of_ble_eq_true rfl⟩) (gh_preV (As := [.int v1]) M G (gh_rec M G haa1 rfl)) rfl rfl hl.1.1 rfl (lv_room (Nat.le_trans (gh_r1 rfl (gh_r1 (gh_cat _) gh_r0)) (Nat.le_of_ble_eq_true rfl : 2 ≤ 8))) dX0_sheets_4 ⟨(Nat.le_of_ble_eq_true rfl), (Nat.le_of_ble_eq_true rfl)⟩) (fun E ce q9 h9 H locs hX G hce hcv hcl => ?_) (fun r2 h3 H locs hw G => ?_)
  · rcases hX with ⟨rfl, hX⟩ | ⟨rfl, hX⟩
    · replace hw := hX q9
      refine vx_catch (name := "java/lang/IndexOutOfBoundsException") M.1.2.2.2.1 (tableOf []) ⟨0, 9, 12, 19⟩ (tableOf [(0, 9, 15, 13)]) (htab.trans rfl) (fun _ h => absurd h List.not_mem_nil) (by decide) (by decide) (gh_Mts M _ q439) (va_Nw.use rfl (M.2.2.1.1 _ (List.mem_of_getElem? (i := 8) rfl))) hce hcv hcl ?_
      exact wk_X0_sheets_12 M hr htab  (some q9) _ _ _ _ G (gh_sub hl [] rfl) hw
    · replace hw := hX q9
      refine vx_catch (name := "java/lang/IllegalStateException") M.1.2.2.2.1 (tableOf [(0, 9, 12, 19)]) ⟨0, 9, 15, 13⟩ (tableOf []) (htab.trans rfl) (List.forall_mem_cons.mpr ⟨Or.inr ⟨by decide, "java/lang/IndexOutOfBoundsException", gh_Mts M _ q439, M.2.2.1.2.2.1 _ (List.mem_of_getElem? (i := 6) rfl)⟩, fun _ h => absurd h List.not_mem_nil⟩) (by decide) (by decide) (gh_Mts M _ q261) (va_Nw.use rfl (M.2.2.1.1 _ (List.mem_of_getElem? (i := 4) rfl))) hce hcv hcl ?_
      exact wk_X0_sheets_15 M hr htab  (some q9) _ _ _ _ G (gh_sub hl [] rfl) hw
  · refine lv_i2l (v := (r2.toInt64)) hx hb dX0_sheets_7 rfl ?_
    refine gh_jas M G hw dX0_sheets_8 (fun h4 H locs hw G => ?_)
    refine lv_goto (tgt := 18) hx hb dX0_sheets_9 (by decide) ?_
    refine lv_iconst (v := (0 : Int32)) hx hb dX0_sheets_18 (by decide) ?_
    exact gh_iret M G hr rfl hw (by exact Nat.le_of_ble_eq_true rfl) (by exact Nat.le_of_ble_eq_true rfl) dX0_sheets_19
/-! BinderyDeskModel.isJob (I)Z -/
def rm_X3_isJob : Room := { frames := 3, cells := 0, slots := 0, locals := 82 }
def wb_X3_isJob_47 (κ : Nat → Nat)  (Q : Int32 → gh_H → Prop) (X : String → gh_H → Prop) (t0 : Int32) (h : gh_H) : Prop := (narrow .boolean (.int t0) = .int t0 ∧ Q t0 h)
def wb_X3_isJob_32 (κ : Nat → Nat)  (Q : Int32 → gh_H → Prop) (X : String → gh_H → Prop) (v0 : Nat) (t0 : Option Nat) (t1 : Int32) (h : gh_H) : Prop := (gh_PV h t0 [(1, 0)] (.int t1) (fun h1 => (gh_GI h1 (some v0) [(1, 0)] (fun x2 => ((x2 = 0 → wb_X3_isJob_47 κ Q X (1 : Int32) h1) ∧ (¬ x2 = 0 → wb_X3_isJob_47 κ Q X (0 : Int32) h1))))))
def wp_X3_isJob (κ : Nat → Nat) (v0 : Nat) (v1 : Int32) (Q : Int32 → gh_H → Prop) (X : String → gh_H → Prop) (h : gh_H) : Prop := (gh_GI h (some v0) [(1, 2)] (fun x1 => (wp_X3_in κ v1 (0 : Int32) (x1 - (1 : Int32)) (fun r2 h3 => ((r2 = 0 → wb_X3_isJob_32 κ Q X v0 (some v0) (1 : Int32) h3) ∧ (¬ r2 = 0 → (gh_RC h3 (some v0) 1 (fun _ => (wp_X3_isWhole κ v0 v1 (fun r5 h6 => ((r5 = 0 → wb_X3_isJob_32 κ Q X v0 (some v0) (2 : Int32) h6) ∧ (¬ r5 = 0 → wb_X3_isJob_32 κ Q X v0 (some v0) (0 : Int32) h6))) X h3)))))) X h)))
set_option maxHeartbeats 4000000 in
theorem wk_X3_isJob_47 {D : gh_D} {p : Program} {l : Launch} {e : Env} {s : State} {m : MethodId} {args : Array Value} {below : List Frame} {meth : Method} {c : Code} {h0 : gh_H} (M : gh_M D p l s m args meth c RX3 cX3_isJob 2 (gh_A h0 s.heap.size)) (hr : meth.sig.returnType = (some .boolean)) (hex : ∀ x ∈ c.exceptionTable.toList, False)   {Q : Int32 → gh_H → Prop} {X : String → gh_H → Prop}   (t0 : Int32) (H : Heap) (locs : List Loc) (ls : Array Slot) (h : gh_H) (G : gh_Inv D h0 (gh_A h0 s.heap.size) s.heap s H locs h) (hl : gh_L ls 2 []) (hw : wb_X3_isJob_47 D.2.2 Q X t0 h) : W p l e rm_X3_isJob s m args below meth c H locs 0 0 (vx_MQ below (gh_Qi Q D h0 s.heap.size) (gh_X X D h0 s.heap.size) args s 0 0 (gh_A h0 s.heap.size)) (F0 m 47 ls [.int t0]) := by
  unfold wb_X3_isJob_47 at hw
  have hx := M.1.1
  have hb := M.1.2.1
  exact gh_iret M G hr hw.1 hw.2 (by exact Nat.le_of_ble_eq_true rfl) (by exact Nat.le_of_ble_eq_true rfl) dX3_isJob_47
set_option maxHeartbeats 4000000 in
theorem wk_X3_isJob_32 {D : gh_D} {p : Program} {l : Launch} {e : Env} {s : State} {m : MethodId} {args : Array Value} {below : List Frame} {meth : Method} {c : Code} {h0 : gh_H} (M : gh_M D p l s m args meth c RX3 cX3_isJob 2 (gh_A h0 s.heap.size)) (hr : meth.sig.returnType = (some .boolean)) (hex : ∀ x ∈ c.exceptionTable.toList, False)   {Q : Int32 → gh_H → Prop} {X : String → gh_H → Prop}   (v0 : Nat) (t0 : Option Nat) (t1 : Int32) (H : Heap) (locs : List Loc) (ls : Array Slot) (h : gh_H) (G : gh_Inv D h0 (gh_A h0 s.heap.size) s.heap s H locs h) (hl : gh_L ls 2 [(0, 1, va_rf (some v0))]) (hw : wb_X3_isJob_32 D.2.2 Q X v0 t0 t1 h) : W p l e rm_X3_isJob s m args below meth c H locs 0 0 (vx_MQ below (gh_Qi Q D h0 s.heap.size) (gh_X X D h0 s.heap.size) args s 0 0 (gh_A h0 s.heap.size)) (F0 m 32 ls [.int t1, va_rf t0]) := by
  unfold wb_X3_isJob_32 at hw
  have hx := M.1.1
  have hb := M.1.2.1
  refine gh_put M G hw fp_X3_53 rfl rfl dX3_isJob_32 (fun h1 H locs hw G => ?_)
  refine gh_aload_n hx hb dX3_isJob_35 rfl (gh_at hl 0 rfl) ?_
  refine gh_getI M G hw fl_X3_53 dX3_isJob_36 (fun x2 hw => ?_)
  refine lv_if_ne (tgt := 46) hx hb dX3_isJob_39 (by decide) (fun hc => ?_) (fun hc => ?_)
  · replace hw := hw.2 hc
    refine lv_iconst (v := (0 : Int32)) hx hb dX3_isJob_46 (by decide) ?_
    exact wk_X3_isJob_47 M hr hex  (0 : Int32) _ _ _ _ G (gh_sub hl [] rfl) hw
  · replace hw := hw.1 hc
    refine lv_iconst (v := (1 : Int32)) hx hb dX3_isJob_42 (by decide) ?_
    refine lv_goto (tgt := 47) hx hb dX3_isJob_43 (by decide) ?_
    exact wk_X3_isJob_47 M hr hex  (1 : Int32) _ _ _ _ G (gh_sub hl [] rfl) hw
set_option maxHeartbeats 4000000 in
theorem met_X3_isJob (l : Launch) (D : gh_D) (v0 : Nat) (v1 : Int32) (Q : Int32 → gh_H → Prop) (X : String → gh_H → Prop) (h : gh_H) (sz : Nat) (hw : wp_X3_isJob D.2.2 v0 v1 Q X h) (hst : l.stackTraces = false) : vx_Met l yX3_isJob (ws_ yX3_isJob cX3_isJob 2 (some .boolean)) rm_X3_isJob (gh_Pc D h sz [.ref v0, .int v1]) (gh_Qi Q D h sz) (gh_X X D h sz) 0 0 (gh_A h sz) := by
  refine vx_ofW (by decide) rfl (fun p e s m args below meth c s₁ B hml hex hP => ?_)
  obtain ⟨rfl, rfl, hK, hT, hE, G⟩ := gh_start hP
  have M : gh_M D p l s m _ meth c RX3 cX3_isJob 2 (gh_A h s.heap.size) := ⟨⟨B.exec, B.bytes, hml, findClass_of_methodNamed B.named, fun w hw => atoms_spec (ws := ws_ yX3_isJob cX3_isJob 2 (some .boolean)) B.pre w (List.mem_cons_of_mem _ hw)⟩, hK, hT, hE, B.notSynchronized, hst⟩
  have hr := B.returns
  have hx := M.1.1
  have hb := M.1.2.1
  refine gh_enter (vs := [(1, .ref v0), (1, .int v1)]) (gh_w1 rfl (gh_w1 rfl gh_wn)) (Nat.le_of_ble_eq_true rfl) (fun ls hl => ?_)
  replace hl : gh_L ls 2 [(0, 1, va_rf (some v0)), (1, 1, .int v1)] := hl
  unfold wp_X3_isJob at hw
  refine gh_aload_n hx hb dX3_isJob_0 rfl (gh_at hl 0 rfl) ?_
  refine lv_iload_n hx hb dX3_isJob_1 rfl (gh_at hl 1 rfl) ?_
  refine lv_iconst (v := (0 : Int32)) hx hb dX3_isJob_2 (by decide) ?_
  refine gh_aload_n hx hb dX3_isJob_3 rfl (gh_at hl 0 rfl) ?_
  refine gh_getI M G hw fl_X3_68 dX3_isJob_4 (fun x1 hw => ?_)
  refine lv_iconst (v := (1 : Int32)) hx hb dX3_isJob_7 (by decide) ?_
  refine lv_isub hx hb dX3_isJob_8 ?_
  refine gh_ki G (vx_runS M.1 (met_X3_in l D _ _ _ _ _ _ _ hw M.2.2.2.2.2) (va_cwS 3 (gh_Mts M) (lw_S q1669 q1670 q50 q1671) rfl rfl rfl ⟨by decide, by decide, rfl⟩ ⟨Nat.le_of_ble_eq_true rfl, Nat.le_of_ble_eq_true rfl⟩) (gh_pre M G (As := [.int v1, .int (0 : Int32), .int (x1 - (1 : Int32))])) rfl rfl hl.1.1 rfl (lv_room (Nat.le_trans (gh_r1 (gh_cat _) gh_r0) (Nat.le_of_ble_eq_true rfl : 1 ≤ 8))) dX3_isJob_9 ⟨(Nat.le_of_ble_eq_true rfl), (Nat.le_of_ble_eq_true rfl)⟩) (gh_out M hex (by exact Nat.le_of_ble_eq_true rfl) (by exact Nat.le_of_ble_eq_true rfl)) (fun r2 h3 H locs hw G => ?_)
  refine lv_if_ne (tgt := 19) hx hb dX3_isJob_12 (by decide) (fun hc => ?_) (fun hc => ?_)
  · replace hw := hw.2 hc
    refine gh_aload_n hx hb dX3_isJob_19 rfl (gh_at hl 0 rfl) ?_
    refine lv_iload_n hx hb dX3_isJob_20 rfl (gh_at hl 1 rfl) ?_
    obtain ⟨a4, lba4, fsa4, hra4, haa4, hw⟩ := hw
    rw [← Option.some.inj hra4] at haa4
    refine gh_ki G (vx_runV M.1 (met_X3_isWhole l D _ _ _ _ _ _ hw M.2.2.2.2.2) (cwV 1 (gh_Mts M) (lw_V q1676 q1678 qs23 q50 q1679) rfl rfl rfl ⟨rfl, by decide, by decide, rfl⟩ ⟨Nat.le_of_ble_eq_true rfl, Nat.le_of_ble_eq_true rfl⟩) (gh_preV (As := [.int v1]) M G (gh_rec M G haa4 rfl)) rfl rfl hl.1.1 rfl (lv_room (Nat.le_trans (gh_r1 (gh_cat _) gh_r0) (Nat.le_of_ble_eq_true rfl : 1 ≤ 8))) dX3_isJob_21 ⟨(Nat.le_of_ble_eq_true rfl), (Nat.le_of_ble_eq_true rfl)⟩) (gh_out M hex (by exact Nat.le_of_ble_eq_true rfl) (by exact Nat.le_of_ble_eq_true rfl)) (fun r5 h6 H locs hw G => ?_)
    refine lv_if_eq (tgt := 31) hx hb dX3_isJob_24 (by decide) (fun hc => ?_) (fun hc => ?_)
    · replace hw := hw.1 hc
      refine lv_iconst (v := (2 : Int32)) hx hb dX3_isJob_31 (by decide) ?_
      exact wk_X3_isJob_32 M hr hex  v0 (some v0) (2 : Int32) _ _ _ _ G (gh_sub hl [0] rfl) hw
    · replace hw := hw.2 hc
      refine lv_iconst (v := (0 : Int32)) hx hb dX3_isJob_27 (by decide) ?_
      refine lv_goto (tgt := 32) hx hb dX3_isJob_28 (by decide) ?_
      exact wk_X3_isJob_32 M hr hex  v0 (some v0) (0 : Int32) _ _ _ _ G (gh_sub hl [0] rfl) hw
  · replace hw := hw.1 hc
    refine lv_iconst (v := (1 : Int32)) hx hb dX3_isJob_15 (by decide) ?_
    refine lv_goto (tgt := 32) hx hb dX3_isJob_16 (by decide) ?_
    exact wk_X3_isJob_32 M hr hex  v0 (some v0) (1 : Int32) _ _ _ _ G (gh_sub hl [0] rfl) hw
/-! BinderyDeskModel.sheets (I)I -/
def rm_X3_sheets : Room := { frames := 4, cells := 0, slots := 0, locals := 103 }
def wb_X3_sheets_17 (κ : Nat → Nat)  (Q : Int32 → gh_H → Prop) (X : String → gh_H → Prop) (t0 : Int32) (h : gh_H) : Prop := (Q t0 h)
def wp_X3_sheets (κ : Nat → Nat) (v0 : Nat) (v1 : Int32) (Q : Int32 → gh_H → Prop) (X : String → gh_H → Prop) (h : gh_H) : Prop := (gh_RC h (some v0) 1 (fun _ => (wp_X3_isJob κ v0 v1 (fun r2 h3 => ((r2 = 0 → wb_X3_sheets_17 κ Q X (0 : Int32) h3) ∧ (¬ r2 = 0 → (gh_RC h3 (some v0) 1 (fun _ => (wp_X3_count κ v0 v1 (fun r5 h6 => wb_X3_sheets_17 κ Q X r5 h6) X h3)))))) X h)))
set_option maxHeartbeats 4000000 in
theorem wk_X3_sheets_17 {D : gh_D} {p : Program} {l : Launch} {e : Env} {s : State} {m : MethodId} {args : Array Value} {below : List Frame} {meth : Method} {c : Code} {h0 : gh_H} (M : gh_M D p l s m args meth c RX3 cX3_sheets 2 (gh_A h0 s.heap.size)) (hr : meth.sig.returnType = (some .int)) (hex : ∀ x ∈ c.exceptionTable.toList, False)   {Q : Int32 → gh_H → Prop} {X : String → gh_H → Prop}   (t0 : Int32) (H : Heap) (locs : List Loc) (ls : Array Slot) (h : gh_H) (G : gh_Inv D h0 (gh_A h0 s.heap.size) s.heap s H locs h) (hl : gh_L ls 2 []) (hw : wb_X3_sheets_17 D.2.2 Q X t0 h) : W p l e rm_X3_sheets s m args below meth c H locs 0 0 (vx_MQ below (gh_Qi Q D h0 s.heap.size) (gh_X X D h0 s.heap.size) args s 0 0 (gh_A h0 s.heap.size)) (F0 m 17 ls [.int t0]) := by
  unfold wb_X3_sheets_17 at hw
  have hx := M.1.1
  have hb := M.1.2.1
  exact gh_iret M G hr rfl hw (by exact Nat.le_of_ble_eq_true rfl) (by exact Nat.le_of_ble_eq_true rfl) dX3_sheets_17
set_option maxHeartbeats 4000000 in
theorem met_X3_sheets (l : Launch) (D : gh_D) (v0 : Nat) (v1 : Int32) (Q : Int32 → gh_H → Prop) (X : String → gh_H → Prop) (h : gh_H) (sz : Nat) (hw : wp_X3_sheets D.2.2 v0 v1 Q X h) (hst : l.stackTraces = false) : vx_Met l yX3_sheets (ws_ yX3_sheets cX3_sheets 2 (some .int)) rm_X3_sheets (gh_Pc D h sz [.ref v0, .int v1]) (gh_Qi Q D h sz) (gh_X X D h sz) 0 0 (gh_A h sz) := by
  refine vx_ofW (by decide) rfl (fun p e s m args below meth c s₁ B hml hex hP => ?_)
  obtain ⟨rfl, rfl, hK, hT, hE, G⟩ := gh_start hP
  have M : gh_M D p l s m _ meth c RX3 cX3_sheets 2 (gh_A h s.heap.size) := ⟨⟨B.exec, B.bytes, hml, findClass_of_methodNamed B.named, fun w hw => atoms_spec (ws := ws_ yX3_sheets cX3_sheets 2 (some .int)) B.pre w (List.mem_cons_of_mem _ hw)⟩, hK, hT, hE, B.notSynchronized, hst⟩
  have hr := B.returns
  have hx := M.1.1
  have hb := M.1.2.1
  refine gh_enter (vs := [(1, .ref v0), (1, .int v1)]) (gh_w1 rfl (gh_w1 rfl gh_wn)) (Nat.le_of_ble_eq_true rfl) (fun ls hl => ?_)
  replace hl : gh_L ls 2 [(0, 1, va_rf (some v0)), (1, 1, .int v1)] := hl
  unfold wp_X3_sheets at hw
  refine gh_aload_n hx hb dX3_sheets_0 rfl (gh_at hl 0 rfl) ?_
  refine lv_iload_n hx hb dX3_sheets_1 rfl (gh_at hl 1 rfl) ?_
  obtain ⟨a1, lba1, fsa1, hra1, haa1, hw⟩ := hw
  rw [← Option.some.inj hra1] at haa1
  refine gh_ki G (vx_runV M.1 (met_X3_isJob l D _ _ _ _ _ _ hw M.2.2.2.2.2) (cwV 1 (gh_Mts M) (lw_V q1724 q1726 qs30 q50 q1727) rfl rfl rfl ⟨rfl, by decide, by decide, rfl⟩ ⟨Nat.le_of_ble_eq_true rfl, Nat.le_of_ble_eq_true rfl⟩) (gh_preV (As := [.int v1]) M G (gh_rec M G haa1 rfl)) rfl rfl hl.1.1 rfl (lv_room (Nat.le_of_ble_eq_true rfl)) dX3_sheets_2 ⟨(Nat.le_of_ble_eq_true rfl), (Nat.le_of_ble_eq_true rfl)⟩) (gh_out M hex (by exact Nat.le_of_ble_eq_true rfl) (by exact Nat.le_of_ble_eq_true rfl)) (fun r2 h3 H locs hw G => ?_)
  refine lv_if_eq (tgt := 16) hx hb dX3_sheets_5 (by decide) (fun hc => ?_) (fun hc => ?_)
  · replace hw := hw.1 hc
    refine lv_iconst (v := (0 : Int32)) hx hb dX3_sheets_16 (by decide) ?_
    exact wk_X3_sheets_17 M hr hex  (0 : Int32) _ _ _ _ G (gh_sub hl [] rfl) hw
  · replace hw := hw.2 hc
    refine gh_aload_n hx hb dX3_sheets_8 rfl (gh_at hl 0 rfl) ?_
    refine lv_iload_n hx hb dX3_sheets_9 rfl (gh_at hl 1 rfl) ?_
    obtain ⟨a4, lba4, fsa4, hra4, haa4, hw⟩ := hw
    rw [← Option.some.inj hra4] at haa4
    refine gh_ki G (vx_runV M.1 (met_X3_count l D _ _ _ _ _ _ hw M.2.2.2.2.2) (cwV 1 (gh_Mts M) (lw_V q1684 q1686 qs25 q50 q1687) rfl rfl rfl ⟨rfl, by decide, by decide, rfl⟩ ⟨Nat.le_of_ble_eq_true rfl, Nat.le_of_ble_eq_true rfl⟩) (gh_preV (As := [.int v1]) M G (gh_rec M G haa4 rfl)) rfl rfl hl.1.1 rfl (lv_room (Nat.le_of_ble_eq_true rfl)) dX3_sheets_10 ⟨(Nat.le_of_ble_eq_true rfl), (Nat.le_of_ble_eq_true rfl)⟩) (gh_out M hex (by exact Nat.le_of_ble_eq_true rfl) (by exact Nat.le_of_ble_eq_true rfl)) (fun r5 h6 H locs hw G => ?_)
    refine lv_goto (tgt := 17) hx hb dX3_sheets_13 (by decide) ?_
    exact wk_X3_sheets_17 M hr hex  r5 _ _ _ _ G (gh_sub hl [] rfl) hw
/-! BinderyDesk.requireElement (Z)V -/
theorem at_X1_11 {args : Array Value} {s : State} (hts : ∀ w ∈ lw_all, w.before args s = true) (tb : gh_Tb s) : ∀ w ∈ (vx_at0 RX1 11 "java/util/NoSuchElementException" ["java/lang/RuntimeException", "java/lang/Exception"]), w.before args s = true := by
  refine vx_hat (B := [Cond.declares ({ cls := "java/lang/RuntimeException", name := "<init>", desc := "()V" } : MethodName), Cond.declares ({ cls := "java/lang/Exception", name := "<init>", desc := "()V" } : MethodName), Cond.declares ({ cls := "java/lang/Throwable", name := "<init>", desc := "()V" } : MethodName), Cond.castable "java/util/NoSuchElementException" "java/util/NoSuchElementException"]) (fun w hw => hts w (lw_in _ [51, 291, 300, 309, 312, 314, 292, 293, 91, 92, 294, 299, 310, 327, 281, 328, 283, 329, 285, 295, 297, 287, 602, 603, 604, 319, 319, 320, 321, 322, 322, 323, 324, 292, 831, 593, 595, 308, 596, 597, 598, 599, 290, 289, 600] (by decide +kernel) (by decide +kernel) w hw)) (by decide +kernel) ?_
  exact vx_c (va_Nw.use rfl (tb.1 _ (List.mem_of_getElem? (i := 116) rfl))) (vx_c (va_Nw.use rfl (tb.1 _ (List.mem_of_getElem? (i := 114) rfl))) (vx_c (va_Nw.use rfl (tb.1 _ (List.mem_of_getElem? (i := 111) rfl))) (vx_c (va_Nw.use rfl (tb.1 _ (List.mem_of_getElem? (i := 46) rfl))) (vx_n))))
theorem at_X1_11_g : ∀ w ∈ Cond.classLink RX1 9 "java/util/NoSuchElementException" :: Cond.initialized "java/util/NoSuchElementException" :: (vx_at0 RX1 11 "java/util/NoSuchElementException" ["java/lang/RuntimeException", "java/lang/Exception"]), vx_ot w = true := by decide +kernel
def rm_X1_requireElement : Room := { frames := 6, cells := 1, slots := 6, locals := 100 }
def wp_X1_requireElement (κ : Nat → Nat) (v0 : Int32) (Q : gh_H → Prop) (X : String → gh_H → Prop) (h : gh_H) : Prop := ((v0 = 0 → (X "java/util/NoSuchElementException" h)) ∧ (¬ v0 = 0 → (Q h)))
set_option maxHeartbeats 4000000 in
theorem met_X1_requireElement (l : Launch) (D : gh_D) (v0 : Int32) (Q : gh_H → Prop) (X : String → gh_H → Prop) (h : gh_H) (sz : Nat) (hw : wp_X1_requireElement D.2.2 v0 Q X h) (hst : l.stackTraces = false) : vx_Met l yX1_requireElement (ws_ yX1_requireElement cX1_requireElement 1 none) rm_X1_requireElement (gh_Pc D h sz [.int v0]) (gh_Qv Q D h sz) (gh_X X D h sz) 1 6 (gh_A h sz) := by
  refine vx_ofW (by decide) rfl (fun p e s m args below meth c s₁ B hml hex hP => ?_)
  obtain ⟨rfl, rfl, hK, hT, hE, G⟩ := gh_start hP
  have M : gh_M D p l s m _ meth c RX1 cX1_requireElement 1 (gh_A h s.heap.size) := ⟨⟨B.exec, B.bytes, hml, findClass_of_methodNamed B.named, fun w hw => atoms_spec (ws := ws_ yX1_requireElement cX1_requireElement 1 none) B.pre w (List.mem_cons_of_mem _ hw)⟩, hK, hT, hE, B.notSynchronized, hst⟩
  have hr := B.returns
  have hx := M.1.1
  have hb := M.1.2.1
  refine gh_enter (vs := [(1, .int v0)]) (gh_w1 rfl gh_wn) (Nat.le_of_ble_eq_true rfl) (fun ls hl => ?_)
  replace hl : gh_L ls 1 [(0, 1, .int v0)] := hl
  unfold wp_X1_requireElement at hw
  refine lv_iload_n hx hb dX1_requireElement_0 rfl (gh_at hl 0 rfl) ?_
  refine lv_if_ne (tgt := 12) hx hb dX1_requireElement_1 (by decide) (fun hc => ?_) (fun hc => ?_)
  · replace hw := hw.2 hc
    exact gh_vret M G hr hw (by exact Nat.le_of_ble_eq_true rfl) (by exact Nat.le_of_ble_eq_true rfl) dX1_requireElement_12
  · replace hw := hw.1 hc
    exact gh_throw (names := ["java/lang/RuntimeException", "java/lang/Exception"]) M G hex hw (by decide +kernel) (by decide +kernel) q830 q67 (at_X1_11 (gh_Mts M) M.2.2.1) at_X1_11_g hl.1.1 dX1_requireElement_4 dX1_requireElement_7 dX1_requireElement_8 dX1_requireElement_11 (Nat.le_of_ble_eq_true rfl) (Nat.le_trans (Nat.add_le_add_right gh_r0 _) (Nat.le_of_ble_eq_true rfl)) (Nat.le_of_ble_eq_true rfl) (Nat.le_of_ble_eq_true rfl) (Nat.le_of_ble_eq_true rfl) (Nat.le_of_ble_eq_true rfl)
/-! BinderyDesk.jobWithSheet (II)LBinderyDesk$Job; -/
def rm_X1_jobWithSheet : Room := { frames := 9, cells := 3, slots := 18, locals := 164 }
def wb_X1_jobWithSheet_23 (κ : Nat → Nat)  (Q : Option Nat → gh_H → Prop) (X : String → gh_H → Prop) (v3 : Option Nat) (t0 : Int32) (h : gh_H) : Prop := (wp_X1_requireElement κ t0 (fun h1 => (Q v3 h1)) X h)
def wb_X1_jobWithSheet_22 (κ : Nat → Nat)  (Q : Option Nat → gh_H → Prop) (X : String → gh_H → Prop) (v3 : Option Nat) (h : gh_H) : Prop := wb_X1_jobWithSheet_23 κ Q X v3 (0 : Int32) h
def wp_X1_jobWithSheet (κ : Nat → Nat) (v0 : Nat) (v1 : Int32) (v2 : Int32) (Q : Option Nat → gh_H → Prop) (X : String → gh_H → Prop) (h : gh_H) : Prop := (gh_RC h (some v0) 0 (fun _ => (wp_X1_completeJob κ v0 v1 (fun r2 h3 => ((v2 < 0 → wb_X1_jobWithSheet_22 κ Q X r2 h3) ∧ (¬ v2 < 0 → (gh_RC h3 r2 7 (fun a4 => (wp_X7_sheets κ a4 (fun r5 h6 => ((r5 ≤ v2 → wb_X1_jobWithSheet_22 κ Q X (some a4) h6) ∧ (¬ r5 ≤ v2 → wb_X1_jobWithSheet_23 κ Q X (some a4) (1 : Int32) h6))) X h3)))))) X h)))
set_option maxHeartbeats 4000000 in
theorem wk_X1_jobWithSheet_23 {D : gh_D} {p : Program} {l : Launch} {e : Env} {s : State} {m : MethodId} {args : Array Value} {below : List Frame} {meth : Method} {c : Code} {h0 : gh_H} (M : gh_M D p l s m args meth c RX1 cX1_jobWithSheet 4 (gh_A h0 s.heap.size)) (hr : meth.sig.returnType = (some (.object "BinderyDesk$Job"))) (hex : ∀ x ∈ c.exceptionTable.toList, False)   {Q : Option Nat → gh_H → Prop} {X : String → gh_H → Prop}   (v3 : Option Nat) (t0 : Int32) (H : Heap) (locs : List Loc) (ls : Array Slot) (h : gh_H) (G : gh_Inv D h0 (gh_A h0 s.heap.size) s.heap s H locs h) (hl : gh_L ls 4 [(3, 1, va_rf v3)]) (hw : wb_X1_jobWithSheet_23 D.2.2 Q X v3 t0 h) : W p l e rm_X1_jobWithSheet s m args below meth c H locs 2 12 (vx_MQ below (gh_Qq Q D h0 s.heap.size) (gh_X X D h0 s.heap.size) args s 3 18 (gh_A h0 s.heap.size)) (F0 m 23 ls [.int t0]) := by
  unfold wb_X1_jobWithSheet_23 at hw
  have hx := M.1.1
  have hb := M.1.2.1
  refine gh_kv G (vx_runS M.1 (met_X1_requireElement l D _ _ _ _ _ hw M.2.2.2.2.2) (va_cwS 1 (gh_Mts M) (lw_S q827 q828 q41 q829) rfl rfl rfl ⟨by decide, by decide, rfl⟩ ⟨Nat.le_of_ble_eq_true rfl, Nat.le_of_ble_eq_true rfl⟩) (gh_pre M G (As := [.int t0])) rfl rfl hl.1.1 rfl (lv_room (Nat.le_of_ble_eq_true rfl)) dX1_jobWithSheet_23 ⟨(Nat.le_of_ble_eq_true rfl), (Nat.le_of_ble_eq_true rfl)⟩) (gh_out M hex (by exact Nat.le_of_ble_eq_true rfl) (by exact Nat.le_of_ble_eq_true rfl)) (fun h1 H locs hw G => ?_)
  refine gh_aload_n hx hb dX1_jobWithSheet_26 rfl (gh_at hl 0 rfl) ?_
  exact gh_aret M G hr (Or.inl ⟨_, rfl⟩) hw (by exact Nat.le_of_ble_eq_true rfl) (by exact Nat.le_of_ble_eq_true rfl) dX1_jobWithSheet_27
set_option maxHeartbeats 4000000 in
theorem wk_X1_jobWithSheet_22 {D : gh_D} {p : Program} {l : Launch} {e : Env} {s : State} {m : MethodId} {args : Array Value} {below : List Frame} {meth : Method} {c : Code} {h0 : gh_H} (M : gh_M D p l s m args meth c RX1 cX1_jobWithSheet 4 (gh_A h0 s.heap.size)) (hr : meth.sig.returnType = (some (.object "BinderyDesk$Job"))) (hex : ∀ x ∈ c.exceptionTable.toList, False)   {Q : Option Nat → gh_H → Prop} {X : String → gh_H → Prop}   (v3 : Option Nat) (H : Heap) (locs : List Loc) (ls : Array Slot) (h : gh_H) (G : gh_Inv D h0 (gh_A h0 s.heap.size) s.heap s H locs h) (hl : gh_L ls 4 [(3, 1, va_rf v3)]) (hw : wb_X1_jobWithSheet_22 D.2.2 Q X v3 h) : W p l e rm_X1_jobWithSheet s m args below meth c H locs 2 12 (vx_MQ below (gh_Qq Q D h0 s.heap.size) (gh_X X D h0 s.heap.size) args s 3 18 (gh_A h0 s.heap.size)) (F0 m 22 ls []) := by
  unfold wb_X1_jobWithSheet_22 at hw
  have hx := M.1.1
  have hb := M.1.2.1
  refine lv_iconst (v := (0 : Int32)) hx hb dX1_jobWithSheet_22 (by decide) ?_
  exact wk_X1_jobWithSheet_23 M hr hex  v3 (0 : Int32) _ _ _ _ G (gh_sub hl [0] rfl) hw
set_option maxHeartbeats 4000000 in
theorem met_X1_jobWithSheet (l : Launch) (D : gh_D) (v0 : Nat) (v1 : Int32) (v2 : Int32) (Q : Option Nat → gh_H → Prop) (X : String → gh_H → Prop) (h : gh_H) (sz : Nat) (hw : wp_X1_jobWithSheet D.2.2 v0 v1 v2 Q X h) (hst : l.stackTraces = false) : vx_Met l yX1_jobWithSheet (ws_ yX1_jobWithSheet cX1_jobWithSheet 4 (some (.object "BinderyDesk$Job"))) rm_X1_jobWithSheet (gh_Pc D h sz [.ref v0, .int v1, .int v2]) (gh_Qq Q D h sz) (gh_X X D h sz) 3 18 (gh_A h sz) := by
  refine vx_ofW (by decide) rfl (fun p e s m args below meth c s₁ B hml hex hP => ?_)
  obtain ⟨rfl, rfl, hK, hT, hE, G⟩ := gh_start hP
  have M : gh_M D p l s m _ meth c RX1 cX1_jobWithSheet 4 (gh_A h s.heap.size) := ⟨⟨B.exec, B.bytes, hml, findClass_of_methodNamed B.named, fun w hw => atoms_spec (ws := ws_ yX1_jobWithSheet cX1_jobWithSheet 4 (some (.object "BinderyDesk$Job"))) B.pre w (List.mem_cons_of_mem _ hw)⟩, hK, hT, hE, B.notSynchronized, hst⟩
  have hr := B.returns
  have hx := M.1.1
  have hb := M.1.2.1
  refine gh_enter (vs := [(1, .ref v0), (1, .int v1), (1, .int v2)]) (gh_w1 rfl (gh_w1 rfl (gh_w1 rfl gh_wn))) (Nat.le_of_ble_eq_true rfl) (fun ls hl => ?_)
  replace hl : gh_L ls 4 [(0, 1, va_rf (some v0)), (1, 1, .int v1), (2, 1, .int v2)] := hl
  unfold wp_X1_jobWithSheet at hw
  refine gh_aload_n hx hb dX1_jobWithSheet_0 rfl (gh_at hl 0 rfl) ?_
  refine lv_iload_n hx hb dX1_jobWithSheet_1 rfl (gh_at hl 1 rfl) ?_
  obtain ⟨a1, lba1, fsa1, hra1, haa1, hw⟩ := hw
  rw [← Option.some.inj hra1] at haa1
  refine gh_kq G (vx_runV M.1 (met_X1_completeJob l D _ _ _ _ _ _ hw M.2.2.2.2.2) (cwV 1 (gh_Mts M) (lw_V q809 q811 qs6 q41 q812) rfl rfl rfl ⟨rfl, by decide, by decide, rfl⟩ ⟨Nat.le_of_ble_eq_true rfl, Nat.le_of_ble_eq_true rfl⟩) (gh_preV (As := [.int v1]) M G (gh_rec M G haa1 rfl)) rfl rfl hl.1.1 rfl (lv_room (Nat.le_of_ble_eq_true rfl)) dX1_jobWithSheet_2 ⟨(Nat.le_of_ble_eq_true rfl), (Nat.le_of_ble_eq_true rfl)⟩) (gh_out M hex (by exact Nat.le_of_ble_eq_true rfl) (by exact Nat.le_of_ble_eq_true rfl)) (fun r2 h3 H locs hw G => ?_)
  refine gh_astore_n (lv' := [(3, 1, va_rf r2), (0, 1, va_rf (some v0)), (1, 1, .int v1), (2, 1, .int v2)]) hx hb dX1_jobWithSheet_5 rfl hl (by decide) rfl (fun ls hl => ?_)
  refine lv_iload_n hx hb dX1_jobWithSheet_6 rfl (gh_at hl 3 rfl) ?_
  refine lv_if_lt (tgt := 22) hx hb dX1_jobWithSheet_7 (by decide) (fun hc => ?_) (fun hc => ?_)
  · replace hw := hw.1 hc
    exact wk_X1_jobWithSheet_22 M hr hex  r2 _ _ _ _ G (gh_sub hl [0] rfl) hw
  · replace hw := hw.2 hc
    refine lv_iload_n hx hb dX1_jobWithSheet_10 rfl (gh_at hl 3 rfl) ?_
    refine gh_aload_n hx hb dX1_jobWithSheet_11 rfl (gh_at hl 0 rfl) ?_
    obtain ⟨a4, lba4, fsa4, rfl, haa4, hw⟩ := hw
    refine gh_ki G (vx_runV M.1 (met_X7_sheets l D _ _ _ _ _ hw M.2.2.2.2.2) (cwV 0 (gh_Mts M) (lw_V q814 q644 q645 q71 q646) rfl rfl rfl ⟨rfl, by decide, by decide, rfl⟩ ⟨Nat.le_of_ble_eq_true rfl, Nat.le_of_ble_eq_true rfl⟩) (gh_preV (As := []) M G (gh_rec M G haa4 rfl)) rfl rfl hl.1.1 rfl (lv_room (Nat.le_of_ble_eq_true rfl)) dX1_jobWithSheet_12 ⟨(Nat.le_of_ble_eq_true rfl), (Nat.le_of_ble_eq_true rfl)⟩) (gh_out M hex (by exact Nat.le_of_ble_eq_true rfl) (by exact Nat.le_of_ble_eq_true rfl)) (fun r5 h6 H locs hw G => ?_)
    refine lv_icmp_ge (tgt := 22) hx hb dX1_jobWithSheet_15 (by decide) (fun hc => ?_) (fun hc => ?_)
    · replace hw := hw.1 hc
      exact wk_X1_jobWithSheet_22 M hr hex  (some a4) _ _ _ _ G (gh_sub hl [0] rfl) hw
    · replace hw := hw.2 hc
      refine lv_iconst (v := (1 : Int32)) hx hb dX1_jobWithSheet_18 (by decide) ?_
      refine lv_goto (tgt := 23) hx hb dX1_jobWithSheet_19 (by decide) ?_
      exact wk_X1_jobWithSheet_23 M hr hex  (some a4) (1 : Int32) _ _ _ _ G (gh_sub hl [0] rfl) hw
