set_option maxRecDepth 100000
/-! BinderyDeskModel.isContent (I)Z -/
def rm_X3_isContent : Room := { frames := 2, cells := 0, slots := 0, locals := 62 }
def wb_X3_isContent_35 (κ : Nat → Nat)  (Q : Int32 → gh_H → Prop) (X : String → gh_H → Prop) (t0 : Int32) (h : gh_H) : Prop := (narrow .boolean (.int t0) = .int t0 ∧ Q t0 h)
def wb_X3_isContent_20 (κ : Nat → Nat)  (Q : Int32 → gh_H → Prop) (X : String → gh_H → Prop) (v0 : Nat) (t0 : Option Nat) (t1 : Int32) (h : gh_H) : Prop := (gh_PV h t0 [(1, 0)] (.int t1) (fun h1 => (gh_GI h1 (some v0) [(1, 0)] (fun x2 => ((x2 = 0 → wb_X3_isContent_35 κ Q X (1 : Int32) h1) ∧ (¬ x2 = 0 → wb_X3_isContent_35 κ Q X (0 : Int32) h1))))))
def wp_X3_isContent (κ : Nat → Nat) (v0 : Nat) (v1 : Int32) (Q : Int32 → gh_H → Prop) (X : String → gh_H → Prop) (h : gh_H) : Prop := (gh_GI h (some v0) [(1, 1)] (fun x1 => (wp_X3_in κ v1 (0 : Int32) (x1 - (1 : Int32)) (fun r2 h3 => ((r2 = 0 → wb_X3_isContent_20 κ Q X v0 (some v0) (1 : Int32) h3) ∧ (¬ r2 = 0 → wb_X3_isContent_20 κ Q X v0 (some v0) (0 : Int32) h3))) X h)))
set_option maxHeartbeats 4000000 in
theorem wk_X3_isContent_35 {D : gh_D} {p : Program} {l : Launch} {e : Env} {s : State} {m : MethodId} {args : Array Value} {below : List Frame} {meth : Method} {c : Code} {h0 : gh_H} (M : gh_M D p l s m args meth c RX3 cX3_isContent 2 (gh_A h0 s.heap.size)) (hr : meth.sig.returnType = (some .boolean)) (hex : ∀ x ∈ c.exceptionTable.toList, False)   {Q : Int32 → gh_H → Prop} {X : String → gh_H → Prop}   (t0 : Int32) (H : Heap) (locs : List Loc) (ls : Array Slot) (h : gh_H) (G : gh_Inv D h0 (gh_A h0 s.heap.size) s.heap s H locs h) (hl : gh_L ls 2 []) (hw : wb_X3_isContent_35 D.2.2 Q X t0 h) : W p l e rm_X3_isContent s m args below meth c H locs 0 0 (vx_MQ below (gh_Qi Q D h0 s.heap.size) (gh_X X D h0 s.heap.size) args s 0 0 (gh_A h0 s.heap.size)) (F0 m 35 ls [.int t0]) := by
  unfold wb_X3_isContent_35 at hw
  have hx := M.1.1
  have hb := M.1.2.1
  exact gh_iret M G hr hw.1 hw.2 (by exact Nat.le_of_ble_eq_true rfl) (by exact Nat.le_of_ble_eq_true rfl) dX3_isContent_35
set_option maxHeartbeats 4000000 in
theorem wk_X3_isContent_20 {D : gh_D} {p : Program} {l : Launch} {e : Env} {s : State} {m : MethodId} {args : Array Value} {below : List Frame} {meth : Method} {c : Code} {h0 : gh_H} (M : gh_M D p l s m args meth c RX3 cX3_isContent 2 (gh_A h0 s.heap.size)) (hr : meth.sig.returnType = (some .boolean)) (hex : ∀ x ∈ c.exceptionTable.toList, False)   {Q : Int32 → gh_H → Prop} {X : String → gh_H → Prop}   (v0 : Nat) (t0 : Option Nat) (t1 : Int32) (H : Heap) (locs : List Loc) (ls : Array Slot) (h : gh_H) (G : gh_Inv D h0 (gh_A h0 s.heap.size) s.heap s H locs h) (hl : gh_L ls 2 [(0, 1, va_rf (some v0))]) (hw : wb_X3_isContent_20 D.2.2 Q X v0 t0 t1 h) : W p l e rm_X3_isContent s m args below meth c H locs 0 0 (vx_MQ below (gh_Qi Q D h0 s.heap.size) (gh_X X D h0 s.heap.size) args s 0 0 (gh_A h0 s.heap.size)) (F0 m 20 ls [.int t1, va_rf t0]) := by
  unfold wb_X3_isContent_20 at hw
  have hx := M.1.1
  have hb := M.1.2.1
  refine gh_put M G hw fp_X3_53 rfl rfl dX3_isContent_20 (fun h1 H locs hw G => ?_)
  refine gh_aload_n hx hb dX3_isContent_23 rfl (gh_at hl 0 rfl) ?_
  refine gh_getI M G hw fl_X3_53 dX3_isContent_24 (fun x2 hw => ?_)
  refine lv_if_ne (tgt := 34) hx hb dX3_isContent_27 (by decide) (fun hc => ?_) (fun hc => ?_)
  · replace hw := hw.2 hc
    refine lv_iconst (v := (0 : Int32)) hx hb dX3_isContent_34 (by decide) ?_
    exact wk_X3_isContent_35 M hr hex  (0 : Int32) _ _ _ _ G (gh_sub hl [] rfl) hw
  · replace hw := hw.1 hc
    refine lv_iconst (v := (1 : Int32)) hx hb dX3_isContent_30 (by decide) ?_
    refine lv_goto (tgt := 35) hx hb dX3_isContent_31 (by decide) ?_
    exact wk_X3_isContent_35 M hr hex  (1 : Int32) _ _ _ _ G (gh_sub hl [] rfl) hw
set_option maxHeartbeats 4000000 in
theorem met_X3_isContent (l : Launch) (D : gh_D) (v0 : Nat) (v1 : Int32) (Q : Int32 → gh_H → Prop) (X : String → gh_H → Prop) (h : gh_H) (sz : Nat) (hw : wp_X3_isContent D.2.2 v0 v1 Q X h) (hst : l.stackTraces = false) : vx_Met l yX3_isContent (ws_ yX3_isContent cX3_isContent 2 (some .boolean)) rm_X3_isContent (gh_Pc D h sz [.ref v0, .int v1]) (gh_Qi Q D h sz) (gh_X X D h sz) 0 0 (gh_A h sz) := by
  refine vx_ofW (by decide) rfl (fun p e s m args below meth c s₁ B hml hex hP => ?_)
  obtain ⟨rfl, rfl, hK, hT, hE, G⟩ := gh_start hP
  have M : gh_M D p l s m _ meth c RX3 cX3_isContent 2 (gh_A h s.heap.size) := ⟨⟨B.exec, B.bytes, hml, findClass_of_methodNamed B.named, fun w hw => atoms_spec (ws := ws_ yX3_isContent cX3_isContent 2 (some .boolean)) B.pre w (List.mem_cons_of_mem _ hw)⟩, hK, hT, hE, B.notSynchronized, hst⟩
  have hr := B.returns
  have hx := M.1.1
  have hb := M.1.2.1
  refine gh_enter (vs := [(1, .ref v0), (1, .int v1)]) (gh_w1 rfl (gh_w1 rfl gh_wn)) (Nat.le_of_ble_eq_true rfl) (fun ls hl => ?_)
  replace hl : gh_L ls 2 [(0, 1, va_rf (some v0)), (1, 1, .int v1)] := hl
  unfold wp_X3_isContent at hw
  refine gh_aload_n hx hb dX3_isContent_0 rfl (gh_at hl 0 rfl) ?_
  refine lv_iload_n hx hb dX3_isContent_1 rfl (gh_at hl 1 rfl) ?_
  refine lv_iconst (v := (0 : Int32)) hx hb dX3_isContent_2 (by decide) ?_
  refine gh_aload_n hx hb dX3_isContent_3 rfl (gh_at hl 0 rfl) ?_
  refine gh_getI M G hw fl_X3_57 dX3_isContent_4 (fun x1 hw => ?_)
  refine lv_iconst (v := (1 : Int32)) hx hb dX3_isContent_7 (by decide) ?_
  refine lv_isub hx hb dX3_isContent_8 ?_
  refine gh_ki G (vx_runS M.1 (met_X3_in l D _ _ _ _ _ _ _ hw M.2.2.2.2.2) (va_cwS 3 (gh_Mts M) (lw_S q1669 q1670 q50 q1671) rfl rfl rfl ⟨by decide, by decide, rfl⟩ ⟨Nat.le_of_ble_eq_true rfl, Nat.le_of_ble_eq_true rfl⟩) (gh_pre M G (As := [.int v1, .int (0 : Int32), .int (x1 - (1 : Int32))])) rfl rfl hl.1.1 rfl (lv_room (Nat.le_trans (gh_r1 (gh_cat _) gh_r0) (Nat.le_of_ble_eq_true rfl : 1 ≤ 8))) dX3_isContent_9 ⟨(Nat.le_of_ble_eq_true rfl), (Nat.le_of_ble_eq_true rfl)⟩) (gh_out M hex (by exact Nat.le_of_ble_eq_true rfl) (by exact Nat.le_of_ble_eq_true rfl)) (fun r2 h3 H locs hw G => ?_)
  refine lv_if_eq (tgt := 19) hx hb dX3_isContent_12 (by decide) (fun hc => ?_) (fun hc => ?_)
  · replace hw := hw.1 hc
    refine lv_iconst (v := (1 : Int32)) hx hb dX3_isContent_19 (by decide) ?_
    exact wk_X3_isContent_20 M hr hex  v0 (some v0) (1 : Int32) _ _ _ _ G (gh_sub hl [0] rfl) hw
  · replace hw := hw.2 hc
    refine lv_iconst (v := (0 : Int32)) hx hb dX3_isContent_15 (by decide) ?_
    refine lv_goto (tgt := 20) hx hb dX3_isContent_16 (by decide) ?_
    exact wk_X3_isContent_20 M hr hex  v0 (some v0) (0 : Int32) _ _ _ _ G (gh_sub hl [0] rfl) hw
/-! BinderyDeskModel.approve (I)Z -/
def rm_X3_approve : Room := { frames := 3, cells := 0, slots := 0, locals := 83 }
def wp_X3_approve (κ : Nat → Nat) (v0 : Nat) (v1 : Int32) (Q : Int32 → gh_H → Prop) (X : String → gh_H → Prop) (h : gh_H) : Prop := (gh_RC h (some v0) 1 (fun _ => (wp_X3_isContent κ v0 v1 (fun r2 h3 => ((r2 = 0 → (narrow .boolean (.int (0 : Int32)) = .int (0 : Int32) ∧ Q (0 : Int32) h3)) ∧ (¬ r2 = 0 → (gh_GR h3 (some v0) [(1, 17)] (fun x4 => (gh_LZ h3 x4 v1 (fun x5 => (gh_GR h3 (some v0) [(1, 17)] (fun x6 => (gh_SZ h3 x6 v1 (1 : Int32) (fun h7 => (narrow .boolean (.int x5) = .int x5 ∧ Q x5 h7)))))))))))) X h)))
set_option maxHeartbeats 4000000 in
theorem met_X3_approve (l : Launch) (D : gh_D) (v0 : Nat) (v1 : Int32) (Q : Int32 → gh_H → Prop) (X : String → gh_H → Prop) (h : gh_H) (sz : Nat) (hw : wp_X3_approve D.2.2 v0 v1 Q X h) (hst : l.stackTraces = false) : vx_Met l yX3_approve (ws_ yX3_approve cX3_approve 3 (some .boolean)) rm_X3_approve (gh_Pc D h sz [.ref v0, .int v1]) (gh_Qi Q D h sz) (gh_X X D h sz) 0 0 (gh_A h sz) := by
  refine vx_ofW (by decide) rfl (fun p e s m args below meth c s₁ B hml hex hP => ?_)
  obtain ⟨rfl, rfl, hK, hT, hE, G⟩ := gh_start hP
  have M : gh_M D p l s m _ meth c RX3 cX3_approve 3 (gh_A h s.heap.size) := ⟨⟨B.exec, B.bytes, hml, findClass_of_methodNamed B.named, fun w hw => atoms_spec (ws := ws_ yX3_approve cX3_approve 3 (some .boolean)) B.pre w (List.mem_cons_of_mem _ hw)⟩, hK, hT, hE, B.notSynchronized, hst⟩
  have hr := B.returns
  have hx := M.1.1
  have hb := M.1.2.1
  refine gh_enter (vs := [(1, .ref v0), (1, .int v1)]) (gh_w1 rfl (gh_w1 rfl gh_wn)) (Nat.le_of_ble_eq_true rfl) (fun ls hl => ?_)
  replace hl : gh_L ls 3 [(0, 1, va_rf (some v0)), (1, 1, .int v1)] := hl
  unfold wp_X3_approve at hw
  refine gh_aload_n hx hb dX3_approve_0 rfl (gh_at hl 0 rfl) ?_
  refine lv_iload_n hx hb dX3_approve_1 rfl (gh_at hl 1 rfl) ?_
  obtain ⟨a1, lba1, fsa1, hra1, haa1, hw⟩ := hw
  rw [← Option.some.inj hra1] at haa1
  refine gh_ki G (vx_runV M.1 (met_X3_isContent l D _ _ _ _ _ _ hw M.2.2.2.2.2) (cwV 1 (gh_Mts M) (lw_V q1665 q1667 qs22 q50 q1668) rfl rfl rfl ⟨rfl, by decide, by decide, rfl⟩ ⟨Nat.le_of_ble_eq_true rfl, Nat.le_of_ble_eq_true rfl⟩) (gh_preV (As := [.int v1]) M G (gh_rec M G haa1 rfl)) rfl rfl hl.1.1 rfl (lv_room (Nat.le_of_ble_eq_true rfl)) dX3_approve_2 ⟨(Nat.le_of_ble_eq_true rfl), (Nat.le_of_ble_eq_true rfl)⟩) (gh_out M hex (by exact Nat.le_of_ble_eq_true rfl) (by exact Nat.le_of_ble_eq_true rfl)) (fun r2 h3 H locs hw G => ?_)
  refine lv_if_ne (tgt := 10) hx hb dX3_approve_5 (by decide) (fun hc => ?_) (fun hc => ?_)
  · replace hw := hw.2 hc
    refine gh_aload_n hx hb dX3_approve_10 rfl (gh_at hl 0 rfl) ?_
    refine gh_getR M G hw fl_X3_25 dX3_approve_11 (fun x4 hw => ?_)
    refine lv_iload_n hx hb dX3_approve_14 rfl (gh_at hl 1 rfl) ?_
    refine gh_zal M G hw dX3_approve_15 (fun x5 hw => ?_)
    refine gh_istore_n (lv' := [(2, 1, .int x5), (0, 1, va_rf (some v0)), (1, 1, .int v1)]) hx hb dX3_approve_16 rfl hl (by decide) rfl (fun ls hl => ?_)
    refine gh_aload_n hx hb dX3_approve_17 rfl (gh_at hl 1 rfl) ?_
    refine gh_getR M G hw fl_X3_25 dX3_approve_18 (fun x6 hw => ?_)
    refine lv_iload_n hx hb dX3_approve_21 rfl (gh_at hl 2 rfl) ?_
    refine lv_iconst (v := (1 : Int32)) hx hb dX3_approve_22 (by decide) ?_
    refine gh_zas M G hw dX3_approve_23 (fun h7 H locs hw G => ?_)
    refine lv_iload_n hx hb dX3_approve_24 rfl (gh_at hl 0 rfl) ?_
    exact gh_iret M G hr hw.1 hw.2 (by exact Nat.le_of_ble_eq_true rfl) (by exact Nat.le_of_ble_eq_true rfl) dX3_approve_25
  · replace hw := hw.1 hc
    refine lv_iconst (v := (0 : Int32)) hx hb dX3_approve_8 (by decide) ?_
    exact gh_iret M G hr hw.1 hw.2 (by exact Nat.le_of_ble_eq_true rfl) (by exact Nat.le_of_ble_eq_true rfl) dX3_approve_9
/-! BinderyDesk$Correction.<init> (LBinderyDesk$Content;)V -/
theorem fl_X5_7 : gh_FL RX5 7 [(5, 0)] := by
  intro args s hts tb q hq
  simp only [List.mem_cons, List.not_mem_nil, or_false] at hq
  subst hq
  exact ⟨_, "BinderyDesk$Correction", rfl, by decide, Or.inl (hts _ q530), (fun x h => h)⟩
theorem fp_X5_7 : gh_FP RX5 7 [(5, 0)] (.object "BinderyDesk$Content") true := by
  refine ⟨fl_X5_7, fun q hq => ?_⟩
  simp only [List.mem_cons, List.not_mem_nil, or_false] at hq
  subst hq
  exact ⟨_, rfl, rfl, by decide +kernel, fun _ => rfl⟩
def rm_X5_init : Room := { frames := 2, cells := 0, slots := 0, locals := 80 }
def wp_X5_init (κ : Nat → Nat) (v0 : Nat) (v1 : Option Nat) (Q : gh_H → Prop) (X : String → gh_H → Prop) (h : gh_H) : Prop := (gh_PV h (some v0) [(5, 0)] (va_rf v1) (fun h1 => (Q h1)))
set_option maxHeartbeats 4000000 in
theorem met_X5_init (l : Launch) (D : gh_D) (v0 : Nat) (v1 : Option Nat) (Q : gh_H → Prop) (X : String → gh_H → Prop) (h : gh_H) (sz : Nat) (hw : wp_X5_init D.2.2 v0 v1 Q X h) (hst : l.stackTraces = false) : vx_Met l yX5_init (ws_ yX5_init cX5_init 2 none) rm_X5_init (gh_Pc D h sz [.ref v0, va_rf v1]) (gh_Qv Q D h sz) (gh_X X D h sz) 0 0 (gh_A h sz) := by
  refine vx_ofW (by decide) rfl (fun p e s m args below meth c s₁ B hml hex hP => ?_)
  obtain ⟨rfl, rfl, hK, hT, hE, G⟩ := gh_start hP
  have M : gh_M D p l s m _ meth c RX5 cX5_init 2 (gh_A h s.heap.size) := ⟨⟨B.exec, B.bytes, hml, findClass_of_methodNamed B.named, fun w hw => atoms_spec (ws := ws_ yX5_init cX5_init 2 none) B.pre w (List.mem_cons_of_mem _ hw)⟩, hK, hT, hE, B.notSynchronized, hst⟩
  have hr := B.returns
  have hname : meth.name = "<init>" := (name_of_methodNamed B.named B.method).1
  have hx := M.1.1
  have hb := M.1.2.1
  refine gh_enter (vs := [(1, .ref v0), (1, va_rf v1)]) (gh_w1 rfl (gh_w1 (gh_cat _) gh_wn)) (Nat.le_of_ble_eq_true rfl) (fun ls hl => ?_)
  replace hl : gh_L ls 2 [(0, 1, va_rf (some v0)), (1, 1, va_rf v1)] := hl
  unfold wp_X5_init at hw
  refine gh_aload_n hx hb dX5_init_0 rfl (gh_at hl 0 rfl) ?_
  refine W.objInit M.1.1 M.1.2.1 M.1.2.2.2.1 (gh_Mts M _ q529) (gh_Mts M _ q91) (gh_Mts M _ q92) rfl (hl.1.1.trans M.1.2.2.1.symm) rfl dX5_init_1 (Nat.le_of_ble_eq_true rfl) (Nat.le_trans (Nat.add_le_add_right (Nat.add_le_add_left gh_r0 _) _) (Nat.le_of_ble_eq_true rfl)) ?_
  refine gh_aload_n hx hb dX5_init_4 rfl (gh_at hl 0 rfl) ?_
  refine gh_aload_n hx hb dX5_init_5 rfl (gh_at hl 1 rfl) ?_
  refine gh_putF M G hname hw fp_X5_7 (gh_narR _ _) (gh_fitR _ _) dX5_init_6 (fun h1 H locs hw G => ?_)
  exact gh_vret M G hr hw (by exact Nat.le_of_ble_eq_true rfl) (by exact Nat.le_of_ble_eq_true rfl) dX5_init_9
/-! java/util/ArrayList$Itr.<init> (Ljava/util/ArrayList;)V -/
theorem fl_J19_1 : gh_FL RJ19 1 [(9, 3)] := by
  intro args s hts tb q hq
  simp only [List.mem_cons, List.not_mem_nil, or_false] at hq
  subst hq
  exact ⟨_, "java/util/ArrayList$Itr", rfl, by decide, Or.inl (hts _ q553), (fun x h => h)⟩
theorem fp_J19_1 : gh_FP RJ19 1 [(9, 3)] (.object "java/util/ArrayList") true := by
  refine ⟨fl_J19_1, fun q hq => ?_⟩
  simp only [List.mem_cons, List.not_mem_nil, or_false] at hq
  subst hq
  exact ⟨_, rfl, rfl, by decide +kernel, fun _ => rfl⟩
theorem fl_J19_13 : gh_FL RJ19 13 [(9, 1)] := by
  intro args s hts tb q hq
  simp only [List.mem_cons, List.not_mem_nil, or_false] at hq
  subst hq
  exact ⟨_, "java/util/ArrayList$Itr", rfl, by decide, Or.inl (hts _ q551), (fun x h => h)⟩
theorem fp_J19_13 : gh_FP RJ19 13 [(9, 1)] (.int) false := by
  refine ⟨fl_J19_13, fun q hq => ?_⟩
  simp only [List.mem_cons, List.not_mem_nil, or_false] at hq
  subst hq
  exact ⟨_, rfl, rfl, by decide +kernel, fun h => by cases h⟩
theorem fl_J19_17 : gh_FL RJ19 17 [(8, 0)] := by
  intro args s hts tb q hq
  simp only [List.mem_cons, List.not_mem_nil, or_false] at hq
  subst hq
  exact ⟨_, "java/util/ArrayList", rfl, by decide, Or.inl (hts _ q112), (fun x h => u_same (hts _ q113) x h)⟩
theorem fl_J19_22 : gh_FL RJ19 22 [(9, 2)] := by
  intro args s hts tb q hq
  simp only [List.mem_cons, List.not_mem_nil, or_false] at hq
  subst hq
  exact ⟨_, "java/util/ArrayList$Itr", rfl, by decide, Or.inl (hts _ q552), (fun x h => h)⟩
theorem fp_J19_22 : gh_FP RJ19 22 [(9, 2)] (.int) false := by
  refine ⟨fl_J19_22, fun q hq => ?_⟩
  simp only [List.mem_cons, List.not_mem_nil, or_false] at hq
  subst hq
  exact ⟨_, rfl, rfl, by decide +kernel, fun h => by cases h⟩
def rm_J19_init : Room := { frames := 2, cells := 0, slots := 0, locals := 80 }
def wp_J19_init (κ : Nat → Nat) (v0 : Nat) (v1 : Option Nat) (Q : gh_H → Prop) (X : String → gh_H → Prop) (h : gh_H) : Prop := (gh_PV h (some v0) [(9, 3)] (va_rf v1) (fun h1 => (gh_PV h1 (some v0) [(9, 1)] (.int (-1 : Int32)) (fun h2 => (gh_GR h2 (some v0) [(9, 3)] (fun x3 => (gh_GI h2 x3 [(8, 0)] (fun x4 => (gh_PV h2 (some v0) [(9, 2)] (.int x4) (fun h5 => (Q h5)))))))))))
set_option maxHeartbeats 4000000 in
theorem met_J19_init (l : Launch) (D : gh_D) (v0 : Nat) (v1 : Option Nat) (Q : gh_H → Prop) (X : String → gh_H → Prop) (h : gh_H) (sz : Nat) (hw : wp_J19_init D.2.2 v0 v1 Q X h) (hst : l.stackTraces = false) : vx_Met l yJ19_init (ws_ yJ19_init cJ19_init 2 none) rm_J19_init (gh_Pc D h sz [.ref v0, va_rf v1]) (gh_Qv Q D h sz) (gh_X X D h sz) 0 0 (gh_A h sz) := by
  refine vx_ofW (by decide) rfl (fun p e s m args below meth c s₁ B hml hex hP => ?_)
  obtain ⟨rfl, rfl, hK, hT, hE, G⟩ := gh_start hP
  have M : gh_M D p l s m _ meth c RJ19 cJ19_init 2 (gh_A h s.heap.size) := ⟨⟨B.exec, B.bytes, hml, findClass_of_methodNamed B.named, fun w hw => atoms_spec (ws := ws_ yJ19_init cJ19_init 2 none) B.pre w (List.mem_cons_of_mem _ hw)⟩, hK, hT, hE, B.notSynchronized, hst⟩
  have hr := B.returns
  have hname : meth.name = "<init>" := (name_of_methodNamed B.named B.method).1
  have hx := M.1.1
  have hb := M.1.2.1
  refine gh_enter (vs := [(1, .ref v0), (1, va_rf v1)]) (gh_w1 rfl (gh_w1 (gh_cat _) gh_wn)) (Nat.le_of_ble_eq_true rfl) (fun ls hl => ?_)
  replace hl : gh_L ls 2 [(0, 1, va_rf (some v0)), (1, 1, va_rf v1)] := hl
  unfold wp_J19_init at hw
  refine gh_aload_n hx hb dJ19_init_0 rfl (gh_at hl 0 rfl) ?_
  refine gh_aload_n hx hb dJ19_init_1 rfl (gh_at hl 1 rfl) ?_
  refine gh_putF M G hname hw fp_J19_1 (gh_narR _ _) (gh_fitR _ _) dJ19_init_2 (fun h1 H locs hw G => ?_)
  refine gh_aload_n hx hb dJ19_init_5 rfl (gh_at hl 0 rfl) ?_
  refine W.objInit M.1.1 M.1.2.1 M.1.2.2.2.1 (gh_Mts M _ q549) (gh_Mts M _ q91) (gh_Mts M _ q92) rfl (hl.1.1.trans M.1.2.2.1.symm) rfl dJ19_init_6 (Nat.le_of_ble_eq_true rfl) (Nat.le_trans (Nat.add_le_add_right (Nat.add_le_add_left gh_r0 _) _) (Nat.le_of_ble_eq_true rfl)) ?_
  refine gh_aload_n hx hb dJ19_init_9 rfl (gh_at hl 0 rfl) ?_
  refine lv_iconst (v := (-1 : Int32)) hx hb dJ19_init_10 (by decide) ?_
  refine gh_put M G hw fp_J19_13 rfl rfl dJ19_init_11 (fun h2 H locs hw G => ?_)
  refine gh_aload_n hx hb dJ19_init_14 rfl (gh_at hl 0 rfl) ?_
  refine gh_aload_n hx hb dJ19_init_15 rfl (gh_at hl 0 rfl) ?_
  refine gh_getR M G hw fl_J19_1 dJ19_init_16 (fun x3 hw => ?_)
  refine gh_getI M G hw fl_J19_17 dJ19_init_19 (fun x4 hw => ?_)
  refine gh_put M G hw fp_J19_22 rfl rfl dJ19_init_22 (fun h5 H locs hw G => ?_)
  exact gh_vret M G hr hw (by exact Nat.le_of_ble_eq_true rfl) (by exact Nat.le_of_ble_eq_true rfl) dJ19_init_25
/-! java/util/ArrayList.iterator ()Ljava/util/Iterator; -/
theorem nd_J19 : ∀ j, j < 4 → defaultValue (tyJ19 j) = vp_V [.int 0, .int 0, .int 0, va_rf none] j := by
  intro j hj
  rcases (show j = 0 ∨ j = 1 ∨ j = 2 ∨ j = 3 by omega) with rfl | rfl | rfl | rfl <;> rfl
def rm_J2_iterator : Room := { frames := 3, cells := 1, slots := 4, locals := 101 }
def wp_J2_iterator (κ : Nat → Nat) (v0 : Nat) (Q : Option Nat → gh_H → Prop) (X : String → gh_H → Prop) (h : gh_H) : Prop := (gh_NO h 9 [.int 0, .int 0, .int 0, va_rf none] (fun q1 h2 => (wp_J19_init κ q1 (some v0) (fun h3 => (Q (some q1) h3)) X h2)))
set_option maxHeartbeats 4000000 in
theorem met_J2_iterator (l : Launch) (D : gh_D) (v0 : Nat) (Q : Option Nat → gh_H → Prop) (X : String → gh_H → Prop) (h : gh_H) (sz : Nat) (hw : wp_J2_iterator D.2.2 v0 Q X h) (hst : l.stackTraces = false) : vx_Met l yJ2_iterator (ws_ yJ2_iterator cJ2_iterator 1 (some (.object "java/util/Iterator"))) rm_J2_iterator (gh_Pc D h sz [.ref v0]) (gh_Qq Q D h sz) (gh_X X D h sz) 1 4 (gh_A h sz) := by
  refine vx_ofW (by decide) rfl (fun p e s m args below meth c s₁ B hml hex hP => ?_)
  obtain ⟨rfl, rfl, hK, hT, hE, G⟩ := gh_start hP
  have M : gh_M D p l s m _ meth c RJ2 cJ2_iterator 1 (gh_A h s.heap.size) := ⟨⟨B.exec, B.bytes, hml, findClass_of_methodNamed B.named, fun w hw => atoms_spec (ws := ws_ yJ2_iterator cJ2_iterator 1 (some (.object "java/util/Iterator"))) B.pre w (List.mem_cons_of_mem _ hw)⟩, hK, hT, hE, B.notSynchronized, hst⟩
  have hr := B.returns
  have hx := M.1.1
  have hb := M.1.2.1
  refine gh_enter (vs := [(1, .ref v0)]) (gh_w1 rfl gh_wn) (Nat.le_of_ble_eq_true rfl) (fun ls hl => ?_)
  replace hl : gh_L ls 1 [(0, 1, va_rf (some v0))] := hl
  unfold wp_J2_iterator at hw
  refine gh_new (N := 4) (r := (RJ19, TJ19, 4)) (ci := 9) (fs := [.int 0, .int 0, .int 0, va_rf none]) M G hw tyJ19 tyJ19_ok q544 q545 q66 rfl rfl nd_J19 (Nat.le_of_ble_eq_true rfl) (Nat.le_of_ble_eq_true rfl) dJ2_iterator_0 (fun q1 h2 H hw G => ?_)
  refine lv_dup hx hb dJ2_iterator_3 (gh_cat _) ?_
  refine gh_aload_n hx hb dJ2_iterator_4 rfl (gh_at hl 0 rfl) ?_
  refine gh_kv G (vx_runI M.1 (met_J19_init l D _ _ _ _ _ _ hw M.2.2.2.2.2) (cwI 1 (gh_Mts M) (lw_meth q548) rfl rfl rfl (gh_Mts M _ q66) (gh_Mts M _ q546) (gh_Mts M _ q547) rfl ⟨by decide, by decide, rfl⟩ ⟨Nat.le_of_ble_eq_true rfl, Nat.le_of_ble_eq_true rfl⟩) (gh_pre M G (As := .ref q1 :: [va_rf (some v0)])) rfl rfl hl.1.1 rfl (lv_room (Nat.le_trans (gh_r1 (gh_cat _) gh_r0) (Nat.le_of_ble_eq_true rfl : 1 ≤ 8))) dJ2_iterator_5 ⟨(Nat.le_of_ble_eq_true rfl), (Nat.le_of_ble_eq_true rfl)⟩) (gh_out M hex (by exact Nat.le_of_ble_eq_true rfl) (by exact Nat.le_of_ble_eq_true rfl)) (fun h3 H locs hw G => ?_)
  exact gh_aret M G hr (Or.inl ⟨_, rfl⟩) hw (by exact Nat.le_of_ble_eq_true rfl) (by exact Nat.le_of_ble_eq_true rfl) dJ2_iterator_8
/-! java/util/ArrayList$Itr.hasNext ()Z -/
theorem fl_J19_25 : gh_FL RJ19 25 [(9, 0)] := by
  intro args s hts tb q hq
  simp only [List.mem_cons, List.not_mem_nil, or_false] at hq
  subst hq
  exact ⟨_, "java/util/ArrayList$Itr", rfl, by decide, Or.inl (hts _ q550), (fun x h => h)⟩
theorem fl_J19_28 : gh_FL RJ19 28 [(8, 2)] := by
  intro args s hts tb q hq
  simp only [List.mem_cons, List.not_mem_nil, or_false] at hq
  subst hq
  exact ⟨_, "java/util/ArrayList", rfl, by decide, Or.inr ⟨"java/util/ArrayList", va_Nw.use rfl (tb.1 _ (List.mem_of_getElem? (i := 17) rfl))⟩, (fun x h => h)⟩
def rm_J19_hasNext : Room := { frames := 1, cells := 0, slots := 0, locals := 40 }
def wb_J19_hasNext_19 (κ : Nat → Nat)  (Q : Int32 → gh_H → Prop) (X : String → gh_H → Prop) (t0 : Int32) (h : gh_H) : Prop := (narrow .boolean (.int t0) = .int t0 ∧ Q t0 h)
def wp_J19_hasNext (κ : Nat → Nat) (v0 : Nat) (Q : Int32 → gh_H → Prop) (X : String → gh_H → Prop) (h : gh_H) : Prop := (gh_GI h (some v0) [(9, 0)] (fun x1 => (gh_GR h (some v0) [(9, 3)] (fun x2 => (gh_GI h x2 [(8, 2)] (fun x3 => ((x1 = x3 → wb_J19_hasNext_19 κ Q X (0 : Int32) h) ∧ (¬ x1 = x3 → wb_J19_hasNext_19 κ Q X (1 : Int32) h))))))))
set_option maxHeartbeats 4000000 in
theorem wk_J19_hasNext_19 {D : gh_D} {p : Program} {l : Launch} {e : Env} {s : State} {m : MethodId} {args : Array Value} {below : List Frame} {meth : Method} {c : Code} {h0 : gh_H} (M : gh_M D p l s m args meth c RJ19 cJ19_hasNext 1 (gh_A h0 s.heap.size)) (hr : meth.sig.returnType = (some .boolean)) (hex : ∀ x ∈ c.exceptionTable.toList, False)   {Q : Int32 → gh_H → Prop} {X : String → gh_H → Prop}   (t0 : Int32) (H : Heap) (locs : List Loc) (ls : Array Slot) (h : gh_H) (G : gh_Inv D h0 (gh_A h0 s.heap.size) s.heap s H locs h) (hl : gh_L ls 1 []) (hw : wb_J19_hasNext_19 D.2.2 Q X t0 h) : W p l e rm_J19_hasNext s m args below meth c H locs 0 0 (vx_MQ below (gh_Qi Q D h0 s.heap.size) (gh_X X D h0 s.heap.size) args s 0 0 (gh_A h0 s.heap.size)) (F0 m 19 ls [.int t0]) := by
  unfold wb_J19_hasNext_19 at hw
  have hx := M.1.1
  have hb := M.1.2.1
  exact gh_iret M G hr hw.1 hw.2 (by exact Nat.le_of_ble_eq_true rfl) (by exact Nat.le_of_ble_eq_true rfl) dJ19_hasNext_19
set_option maxHeartbeats 4000000 in
theorem met_J19_hasNext (l : Launch) (D : gh_D) (v0 : Nat) (Q : Int32 → gh_H → Prop) (X : String → gh_H → Prop) (h : gh_H) (sz : Nat) (hw : wp_J19_hasNext D.2.2 v0 Q X h) (hst : l.stackTraces = false) : vx_Met l yJ19_hasNext (ws_ yJ19_hasNext cJ19_hasNext 1 (some .boolean)) rm_J19_hasNext (gh_Pc D h sz [.ref v0]) (gh_Qi Q D h sz) (gh_X X D h sz) 0 0 (gh_A h sz) := by
  refine vx_ofW (by decide) rfl (fun p e s m args below meth c s₁ B hml hex hP => ?_)
  obtain ⟨rfl, rfl, hK, hT, hE, G⟩ := gh_start hP
  have M : gh_M D p l s m _ meth c RJ19 cJ19_hasNext 1 (gh_A h s.heap.size) := ⟨⟨B.exec, B.bytes, hml, findClass_of_methodNamed B.named, fun w hw => atoms_spec (ws := ws_ yJ19_hasNext cJ19_hasNext 1 (some .boolean)) B.pre w (List.mem_cons_of_mem _ hw)⟩, hK, hT, hE, B.notSynchronized, hst⟩
  have hr := B.returns
  have hx := M.1.1
  have hb := M.1.2.1
  refine gh_enter (vs := [(1, .ref v0)]) (gh_w1 rfl gh_wn) (Nat.le_of_ble_eq_true rfl) (fun ls hl => ?_)
  replace hl : gh_L ls 1 [(0, 1, va_rf (some v0))] := hl
  unfold wp_J19_hasNext at hw
  refine gh_aload_n hx hb dJ19_hasNext_0 rfl (gh_at hl 0 rfl) ?_
  refine gh_getI M G hw fl_J19_25 dJ19_hasNext_1 (fun x1 hw => ?_)
  refine gh_aload_n hx hb dJ19_hasNext_4 rfl (gh_at hl 0 rfl) ?_
  refine gh_getR M G hw fl_J19_1 dJ19_hasNext_5 (fun x2 hw => ?_)
  refine gh_getI M G hw fl_J19_28 dJ19_hasNext_8 (fun x3 hw => ?_)
  refine lv_icmp_eq (tgt := 18) hx hb dJ19_hasNext_11 (by decide) (fun hc => ?_) (fun hc => ?_)
  · replace hw := hw.1 hc
    refine lv_iconst (v := (0 : Int32)) hx hb dJ19_hasNext_18 (by decide) ?_
    exact wk_J19_hasNext_19 M hr hex  (0 : Int32) _ _ _ _ G (gh_sub hl [] rfl) hw
  · replace hw := hw.2 hc
    refine lv_iconst (v := (1 : Int32)) hx hb dJ19_hasNext_14 (by decide) ?_
    refine lv_goto (tgt := 19) hx hb dJ19_hasNext_15 (by decide) ?_
    exact wk_J19_hasNext_19 M hr hex  (1 : Int32) _ _ _ _ G (gh_sub hl [] rfl) hw
/-! java/util/ArrayList$Itr.checkForComodification ()V -/
def rm_J19_checkForComodification : Room := { frames := 1, cells := 0, slots := 0, locals := 40 }
def wp_J19_checkForComodification (κ : Nat → Nat) (v0 : Nat) (Q : gh_H → Prop) (X : String → gh_H → Prop) (h : gh_H) : Prop := (gh_GR h (some v0) [(9, 3)] (fun x1 => (gh_GI h x1 [(8, 0)] (fun x2 => (gh_GI h (some v0) [(9, 2)] (fun x3 => ((x2 = x3 → (Q h)) ∧ (¬ x2 = x3 → False))))))))
set_option maxHeartbeats 4000000 in
theorem met_J19_checkForComodification (l : Launch) (D : gh_D) (v0 : Nat) (Q : gh_H → Prop) (X : String → gh_H → Prop) (h : gh_H) (sz : Nat) (hw : wp_J19_checkForComodification D.2.2 v0 Q X h) (hst : l.stackTraces = false) : vx_Met l yJ19_checkForComodification (ws_ yJ19_checkForComodification cJ19_checkForComodification 1 none) rm_J19_checkForComodification (gh_Pc D h sz [.ref v0]) (gh_Qv Q D h sz) (gh_X X D h sz) 0 0 (gh_A h sz) := by
  refine vx_ofW (by decide) rfl (fun p e s m args below meth c s₁ B hml hex hP => ?_)
  obtain ⟨rfl, rfl, hK, hT, hE, G⟩ := gh_start hP
  have M : gh_M D p l s m _ meth c RJ19 cJ19_checkForComodification 1 (gh_A h s.heap.size) := ⟨⟨B.exec, B.bytes, hml, findClass_of_methodNamed B.named, fun w hw => atoms_spec (ws := ws_ yJ19_checkForComodification cJ19_checkForComodification 1 none) B.pre w (List.mem_cons_of_mem _ hw)⟩, hK, hT, hE, B.notSynchronized, hst⟩
  have hr := B.returns
  have hx := M.1.1
  have hb := M.1.2.1
  refine gh_enter (vs := [(1, .ref v0)]) (gh_w1 rfl gh_wn) (Nat.le_of_ble_eq_true rfl) (fun ls hl => ?_)
  replace hl : gh_L ls 1 [(0, 1, va_rf (some v0))] := hl
  unfold wp_J19_checkForComodification at hw
  refine gh_aload_n hx hb dJ19_checkForComodification_0 rfl (gh_at hl 0 rfl) ?_
  refine gh_getR M G hw fl_J19_1 dJ19_checkForComodification_1 (fun x1 hw => ?_)
  refine gh_getI M G hw fl_J19_17 dJ19_checkForComodification_4 (fun x2 hw => ?_)
  refine gh_aload_n hx hb dJ19_checkForComodification_7 rfl (gh_at hl 0 rfl) ?_
  refine gh_getI M G hw fl_J19_22 dJ19_checkForComodification_8 (fun x3 hw => ?_)
  refine lv_icmp_eq (tgt := 22) hx hb dJ19_checkForComodification_11 (by decide) (fun hc => ?_) (fun hc => ?_)
  · replace hw := hw.1 hc
    exact gh_vret M G hr hw (by exact Nat.le_of_ble_eq_true rfl) (by exact Nat.le_of_ble_eq_true rfl) dJ19_checkForComodification_22
  · replace hw := hw.2 hc
    exact hw.elim
/-! java/util/ArrayList$Itr.next ()Ljava/lang/Object; -/
theorem fl_J19_37 : gh_FL RJ19 37 [(8, 1)] := by
  intro args s hts tb q hq
  simp only [List.mem_cons, List.not_mem_nil, or_false] at hq
  subst hq
  exact ⟨_, "java/util/ArrayList", rfl, by decide, Or.inl (hts _ q108), (fun x h => h)⟩
theorem fp_J19_25 : gh_FP RJ19 25 [(9, 0)] (.int) false := by
  refine ⟨fl_J19_25, fun q hq => ?_⟩
  simp only [List.mem_cons, List.not_mem_nil, or_false] at hq
  subst hq
  exact ⟨_, rfl, rfl, by decide +kernel, fun h => by cases h⟩
theorem at_J19_36 {args : Array Value} {s : State} (hts : ∀ w ∈ lw_all, w.before args s = true) (tb : gh_Tb s) : ∀ w ∈ (vx_at0 RJ19 36 "java/util/NoSuchElementException" ["java/lang/RuntimeException", "java/lang/Exception"]), w.before args s = true := by
  refine vx_hat (B := [Cond.declares ({ cls := "java/lang/RuntimeException", name := "<init>", desc := "()V" } : MethodName), Cond.declares ({ cls := "java/lang/Exception", name := "<init>", desc := "()V" } : MethodName), Cond.declares ({ cls := "java/lang/Throwable", name := "<init>", desc := "()V" } : MethodName), Cond.castable "java/util/NoSuchElementException" "java/util/NoSuchElementException"]) (fun w hw => hts w (lw_in _ [51, 291, 300, 309, 312, 314, 292, 293, 91, 92, 294, 299, 310, 327, 281, 328, 283, 329, 285, 295, 297, 287, 602, 603, 604, 319, 319, 320, 321, 322, 322, 323, 324, 292, 601, 593, 595, 308, 596, 597, 598, 599, 290, 289, 600] (by decide +kernel) (by decide +kernel) w hw)) (by decide +kernel) ?_
  exact vx_c (va_Nw.use rfl (tb.1 _ (List.mem_of_getElem? (i := 116) rfl))) (vx_c (va_Nw.use rfl (tb.1 _ (List.mem_of_getElem? (i := 114) rfl))) (vx_c (va_Nw.use rfl (tb.1 _ (List.mem_of_getElem? (i := 111) rfl))) (vx_c (va_Nw.use rfl (tb.1 _ (List.mem_of_getElem? (i := 46) rfl))) (vx_n))))
theorem at_J19_36_g : ∀ w ∈ Cond.classLink RJ19 34 "java/util/NoSuchElementException" :: Cond.initialized "java/util/NoSuchElementException" :: (vx_at0 RJ19 36 "java/util/NoSuchElementException" ["java/lang/RuntimeException", "java/lang/Exception"]), vx_ot w = true := by decide +kernel
def rm_J19_next : Room := { frames := 6, cells := 1, slots := 6, locals := 100 }
def wp_J19_next (κ : Nat → Nat) (v0 : Nat) (Q : Option Nat → gh_H → Prop) (X : String → gh_H → Prop) (h : gh_H) : Prop := (gh_RC h (some v0) 9 (fun _ => (wp_J19_checkForComodification κ v0 (fun h2 => (gh_GI h2 (some v0) [(9, 0)] (fun x3 => (gh_GR h2 (some v0) [(9, 3)] (fun x4 => (gh_GI h2 x4 [(8, 2)] (fun x5 => ((x3 < x5 → (gh_GR h2 (some v0) [(9, 3)] (fun x6 => (gh_GR h2 x6 [(8, 1)] (fun x7 => (gh_LN h2 x7 (fun x8 => ((x3 < x8 → (gh_PV h2 (some v0) [(9, 0)] (.int (x3 + (1 : Int32))) (fun h9 => (gh_PV h9 (some v0) [(9, 1)] (.int x3) (fun h10 => (gh_LR h10 x7 x3 (fun x11 => (Q x11 h10)))))))) ∧ (¬ x3 < x8 → False))))))))) ∧ (¬ x3 < x5 → (X "java/util/NoSuchElementException" h2)))))))))) X h)))
set_option maxHeartbeats 4000000 in
theorem met_J19_next (l : Launch) (D : gh_D) (v0 : Nat) (Q : Option Nat → gh_H → Prop) (X : String → gh_H → Prop) (h : gh_H) (sz : Nat) (hw : wp_J19_next D.2.2 v0 Q X h) (hst : l.stackTraces = false) : vx_Met l yJ19_next (ws_ yJ19_next cJ19_next 3 (some (.object "java/lang/Object"))) rm_J19_next (gh_Pc D h sz [.ref v0]) (gh_Qq Q D h sz) (gh_X X D h sz) 1 6 (gh_A h sz) := by
  refine vx_ofW (by decide) rfl (fun p e s m args below meth c s₁ B hml hex hP => ?_)
  obtain ⟨rfl, rfl, hK, hT, hE, G⟩ := gh_start hP
  have M : gh_M D p l s m _ meth c RJ19 cJ19_next 3 (gh_A h s.heap.size) := ⟨⟨B.exec, B.bytes, hml, findClass_of_methodNamed B.named, fun w hw => atoms_spec (ws := ws_ yJ19_next cJ19_next 3 (some (.object "java/lang/Object"))) B.pre w (List.mem_cons_of_mem _ hw)⟩, hK, hT, hE, B.notSynchronized, hst⟩
  have hr := B.returns
  have hx := M.1.1
  have hb := M.1.2.1
  refine gh_enter (vs := [(1, .ref v0)]) (gh_w1 rfl gh_wn) (Nat.le_of_ble_eq_true rfl) (fun ls hl => ?_)
  replace hl : gh_L ls 3 [(0, 1, va_rf (some v0))] := hl
  unfold wp_J19_next at hw
  refine gh_aload_n hx hb dJ19_next_0 rfl (gh_at hl 0 rfl) ?_
  obtain ⟨a1, lba1, fsa1, hra1, haa1, hw⟩ := hw
  rw [← Option.some.inj hra1] at haa1
  refine gh_kv G (vx_runV M.1 (met_J19_checkForComodification l D _ _ _ _ _ hw M.2.2.2.2.2) (cwV 0 (gh_Mts M) (lw_V q588 q589 q590 q66 q591) rfl rfl rfl ⟨rfl, by decide, by decide, rfl⟩ ⟨Nat.le_of_ble_eq_true rfl, Nat.le_of_ble_eq_true rfl⟩) (gh_preV (As := []) M G (gh_rec M G haa1 rfl)) rfl rfl hl.1.1 rfl (lv_room (Nat.le_of_ble_eq_true rfl)) dJ19_next_1 ⟨(Nat.le_of_ble_eq_true rfl), (Nat.le_of_ble_eq_true rfl)⟩) (gh_out M hex (by exact Nat.le_of_ble_eq_true rfl) (by exact Nat.le_of_ble_eq_true rfl)) (fun h2 H locs hw G => ?_)
  refine gh_aload_n hx hb dJ19_next_4 rfl (gh_at hl 0 rfl) ?_
  refine gh_getI M G hw fl_J19_25 dJ19_next_5 (fun x3 hw => ?_)
  refine gh_istore_n (lv' := [(1, 1, .int x3), (0, 1, va_rf (some v0))]) hx hb dJ19_next_8 rfl hl (by decide) rfl (fun ls hl => ?_)
  refine lv_iload_n hx hb dJ19_next_9 rfl (gh_at hl 0 rfl) ?_
  refine gh_aload_n hx hb dJ19_next_10 rfl (gh_at hl 1 rfl) ?_
  refine gh_getR M G hw fl_J19_1 dJ19_next_11 (fun x4 hw => ?_)
  refine gh_getI M G hw fl_J19_28 dJ19_next_14 (fun x5 hw => ?_)
  refine lv_icmp_lt (tgt := 28) hx hb dJ19_next_17 (by decide) (fun hc => ?_) (fun hc => ?_)
  · replace hw := hw.1 hc
    refine gh_aload_n hx hb dJ19_next_28 rfl (gh_at hl 1 rfl) ?_
    refine gh_getR M G hw fl_J19_1 dJ19_next_29 (fun x6 hw => ?_)
    refine gh_getR M G hw fl_J19_37 dJ19_next_32 (fun x7 hw => ?_)
    refine gh_astore_n (lv' := [(2, 1, va_rf x7), (1, 1, .int x3), (0, 1, va_rf (some v0))]) hx hb dJ19_next_35 rfl hl (by decide) rfl (fun ls hl => ?_)
    refine lv_iload_n hx hb dJ19_next_36 rfl (gh_at hl 1 rfl) ?_
    refine gh_aload_n hx hb dJ19_next_37 rfl (gh_at hl 0 rfl) ?_
    refine gh_len M G hw dJ19_next_38 (fun x8 hw => ?_)
    refine lv_icmp_lt (tgt := 50) hx hb dJ19_next_39 (by decide) (fun hc => ?_) (fun hc => ?_)
    · replace hw := hw.1 hc
      refine gh_aload_n hx hb dJ19_next_50 rfl (gh_at hl 2 rfl) ?_
      refine lv_iload_n hx hb dJ19_next_51 rfl (gh_at hl 1 rfl) ?_
      refine lv_iconst (v := (1 : Int32)) hx hb dJ19_next_52 (by decide) ?_
      refine lv_iadd hx hb dJ19_next_53 ?_
      refine gh_put M G hw fp_J19_25 rfl rfl dJ19_next_54 (fun h9 H locs hw G => ?_)
      refine gh_aload_n hx hb dJ19_next_57 rfl (gh_at hl 0 rfl) ?_
      refine gh_aload_n hx hb dJ19_next_58 rfl (gh_at hl 2 rfl) ?_
      refine lv_iload_n hx hb dJ19_next_59 rfl (gh_at hl 1 rfl) ?_
      refine lv_dup_x1 hx hb dJ19_next_60 rfl (gh_cat _) ?_
      refine gh_put M G hw fp_J19_13 rfl rfl dJ19_next_61 (fun h10 H locs hw G => ?_)
      refine gh_ral M G hw dJ19_next_64 (fun x11 hw => ?_)
      exact gh_aret M G hr (Or.inl ⟨_, rfl⟩) hw (by exact Nat.le_of_ble_eq_true rfl) (by exact Nat.le_of_ble_eq_true rfl) dJ19_next_65
    · replace hw := hw.2 hc
      exact hw.elim
  · replace hw := hw.2 hc
    exact gh_throw (names := ["java/lang/RuntimeException", "java/lang/Exception"]) M G hex hw (by decide +kernel) (by decide +kernel) q592 q67 (at_J19_36 (gh_Mts M) M.2.2.1) at_J19_36_g hl.1.1 dJ19_next_20 dJ19_next_23 dJ19_next_24 dJ19_next_27 (Nat.le_of_ble_eq_true rfl) (Nat.le_trans (Nat.add_le_add_right gh_r0 _) (Nat.le_of_ble_eq_true rfl)) (Nat.le_of_ble_eq_true rfl) (Nat.le_of_ble_eq_true rfl) (Nat.le_of_ble_eq_true rfl) (Nat.le_of_ble_eq_true rfl)
/-! java/util/ArrayList.isEmpty ()Z -/
def rm_J2_isEmpty : Room := { frames := 1, cells := 0, slots := 0, locals := 40 }
def wb_J2_isEmpty_12 (κ : Nat → Nat)  (Q : Int32 → gh_H → Prop) (X : String → gh_H → Prop) (t0 : Int32) (h : gh_H) : Prop := (narrow .boolean (.int t0) = .int t0 ∧ Q t0 h)
def wp_J2_isEmpty (κ : Nat → Nat) (v0 : Nat) (Q : Int32 → gh_H → Prop) (X : String → gh_H → Prop) (h : gh_H) : Prop := (gh_GI h (some v0) [(8, 2)] (fun x1 => ((x1 = 0 → wb_J2_isEmpty_12 κ Q X (1 : Int32) h) ∧ (¬ x1 = 0 → wb_J2_isEmpty_12 κ Q X (0 : Int32) h))))
set_option maxHeartbeats 4000000 in
theorem wk_J2_isEmpty_12 {D : gh_D} {p : Program} {l : Launch} {e : Env} {s : State} {m : MethodId} {args : Array Value} {below : List Frame} {meth : Method} {c : Code} {h0 : gh_H} (M : gh_M D p l s m args meth c RJ2 cJ2_isEmpty 1 (gh_A h0 s.heap.size)) (hr : meth.sig.returnType = (some .boolean)) (hex : ∀ x ∈ c.exceptionTable.toList, False)   {Q : Int32 → gh_H → Prop} {X : String → gh_H → Prop}   (t0 : Int32) (H : Heap) (locs : List Loc) (ls : Array Slot) (h : gh_H) (G : gh_Inv D h0 (gh_A h0 s.heap.size) s.heap s H locs h) (hl : gh_L ls 1 []) (hw : wb_J2_isEmpty_12 D.2.2 Q X t0 h) : W p l e rm_J2_isEmpty s m args below meth c H locs 0 0 (vx_MQ below (gh_Qi Q D h0 s.heap.size) (gh_X X D h0 s.heap.size) args s 0 0 (gh_A h0 s.heap.size)) (F0 m 12 ls [.int t0]) := by
  unfold wb_J2_isEmpty_12 at hw
  have hx := M.1.1
  have hb := M.1.2.1
  exact gh_iret M G hr hw.1 hw.2 (by exact Nat.le_of_ble_eq_true rfl) (by exact Nat.le_of_ble_eq_true rfl) dJ2_isEmpty_12
set_option maxHeartbeats 4000000 in
theorem met_J2_isEmpty (l : Launch) (D : gh_D) (v0 : Nat) (Q : Int32 → gh_H → Prop) (X : String → gh_H → Prop) (h : gh_H) (sz : Nat) (hw : wp_J2_isEmpty D.2.2 v0 Q X h) (hst : l.stackTraces = false) : vx_Met l yJ2_isEmpty (ws_ yJ2_isEmpty cJ2_isEmpty 1 (some .boolean)) rm_J2_isEmpty (gh_Pc D h sz [.ref v0]) (gh_Qi Q D h sz) (gh_X X D h sz) 0 0 (gh_A h sz) := by
  refine vx_ofW (by decide) rfl (fun p e s m args below meth c s₁ B hml hex hP => ?_)
  obtain ⟨rfl, rfl, hK, hT, hE, G⟩ := gh_start hP
  have M : gh_M D p l s m _ meth c RJ2 cJ2_isEmpty 1 (gh_A h s.heap.size) := ⟨⟨B.exec, B.bytes, hml, findClass_of_methodNamed B.named, fun w hw => atoms_spec (ws := ws_ yJ2_isEmpty cJ2_isEmpty 1 (some .boolean)) B.pre w (List.mem_cons_of_mem _ hw)⟩, hK, hT, hE, B.notSynchronized, hst⟩
  have hr := B.returns
  have hx := M.1.1
  have hb := M.1.2.1
  refine gh_enter (vs := [(1, .ref v0)]) (gh_w1 rfl gh_wn) (Nat.le_of_ble_eq_true rfl) (fun ls hl => ?_)
  replace hl : gh_L ls 1 [(0, 1, va_rf (some v0))] := hl
  unfold wp_J2_isEmpty at hw
  refine gh_aload_n hx hb dJ2_isEmpty_0 rfl (gh_at hl 0 rfl) ?_
  refine gh_getI M G hw fl_J2_48 dJ2_isEmpty_1 (fun x1 hw => ?_)
  refine lv_if_ne (tgt := 11) hx hb dJ2_isEmpty_4 (by decide) (fun hc => ?_) (fun hc => ?_)
  · replace hw := hw.2 hc
    refine lv_iconst (v := (0 : Int32)) hx hb dJ2_isEmpty_11 (by decide) ?_
    exact wk_J2_isEmpty_12 M hr hex  (0 : Int32) _ _ _ _ G (gh_sub hl [] rfl) hw
  · replace hw := hw.1 hc
    refine lv_iconst (v := (1 : Int32)) hx hb dJ2_isEmpty_7 (by decide) ?_
    refine lv_goto (tgt := 12) hx hb dJ2_isEmpty_8 (by decide) ?_
    exact wk_J2_isEmpty_12 M hr hex  (1 : Int32) _ _ _ _ G (gh_sub hl [] rfl) hw
/-! BinderyDesk$Job.isComplete ()Z -/
theorem fl_X7_12 : gh_FL RX7 12 [(7, 1)] := by
  intro args s hts tb q hq
  simp only [List.mem_cons, List.not_mem_nil, or_false] at hq
  subst hq
  exact ⟨_, "BinderyDesk$Job", rfl, by decide, Or.inl (hts _ q773), (fun x h => h)⟩
theorem fl_X7_21 : gh_FL RX7 21 [(7, 0)] := by
  intro args s hts tb q hq
  simp only [List.mem_cons, List.not_mem_nil, or_false] at hq
  subst hq
  exact ⟨_, "BinderyDesk$Job", rfl, by decide, Or.inl (hts _ q771), (fun x h => h)⟩
theorem fl_X7_44 : gh_FL RX7 44 [(16, 1), (17, 1), (18, 1)] := by
  intro args s hts tb q hq
  simp only [List.mem_cons, List.not_mem_nil, or_false] at hq
  rcases hq with rfl | rfl | rfl
  · exact ⟨_, "BinderyDesk$Binding", rfl, by decide, Or.inr ⟨"BinderyDesk", va_Nw.use rfl (tb.1 _ (List.mem_of_getElem? (i := 159) rfl))⟩, (fun x h => h)⟩
  · exact ⟨_, "BinderyDesk$Binding", rfl, by decide, Or.inr ⟨"BinderyDesk", va_Nw.use rfl (tb.1 _ (List.mem_of_getElem? (i := 159) rfl))⟩, (fun x h => h)⟩
  · exact ⟨_, "BinderyDesk$Binding", rfl, by decide, Or.inr ⟨"BinderyDesk", va_Nw.use rfl (tb.1 _ (List.mem_of_getElem? (i := 159) rfl))⟩, (fun x h => h)⟩
def rm_X7_isComplete : Room := { frames := 2, cells := 0, slots := 0, locals := 60 }
def wb_X7_isComplete_37 (κ : Nat → Nat)  (Q : Int32 → gh_H → Prop) (X : String → gh_H → Prop) (t0 : Int32) (h : gh_H) : Prop := (narrow .boolean (.int t0) = .int t0 ∧ Q t0 h)
def wb_X7_isComplete_36 (κ : Nat → Nat)  (Q : Int32 → gh_H → Prop) (X : String → gh_H → Prop)  (h : gh_H) : Prop := wb_X7_isComplete_37 κ Q X (0 : Int32) h
def wp_X7_isComplete (κ : Nat → Nat) (v0 : Nat) (Q : Int32 → gh_H → Prop) (X : String → gh_H → Prop) (h : gh_H) : Prop := (gh_GR h (some v0) [(7, 1)] (fun x1 => (gh_RC h x1 8 (fun a2 => (wp_J2_isEmpty κ a2 (fun r3 h4 => ((r3 = 0 → (gh_GR h4 (some v0) [(7, 1)] (fun x5 => (gh_RC h4 x5 8 (fun a6 => (wp_J2_size κ a6 (fun r7 h8 => (gh_GR h8 (some v0) [(7, 0)] (fun x9 => (gh_GI h8 x9 [(16, 1), (17, 1), (18, 1)] (fun x10 => ((¬ x10 = 0) ∧ (((r7 - r7 / x10 * x10) = 0 → wb_X7_isComplete_37 κ Q X (1 : Int32) h8) ∧ (¬ (r7 - r7 / x10 * x10) = 0 → wb_X7_isComplete_36 κ Q X h8)))))))) X h4)))))) ∧ (¬ r3 = 0 → wb_X7_isComplete_36 κ Q X h4))) X h)))))
set_option maxHeartbeats 4000000 in
theorem wk_X7_isComplete_37 {D : gh_D} {p : Program} {l : Launch} {e : Env} {s : State} {m : MethodId} {args : Array Value} {below : List Frame} {meth : Method} {c : Code} {h0 : gh_H} (M : gh_M D p l s m args meth c RX7 cX7_isComplete 1 (gh_A h0 s.heap.size)) (hr : meth.sig.returnType = (some .boolean)) (hex : ∀ x ∈ c.exceptionTable.toList, False)   {Q : Int32 → gh_H → Prop} {X : String → gh_H → Prop}   (t0 : Int32) (H : Heap) (locs : List Loc) (ls : Array Slot) (h : gh_H) (G : gh_Inv D h0 (gh_A h0 s.heap.size) s.heap s H locs h) (hl : gh_L ls 1 []) (hw : wb_X7_isComplete_37 D.2.2 Q X t0 h) : W p l e rm_X7_isComplete s m args below meth c H locs 0 0 (vx_MQ below (gh_Qi Q D h0 s.heap.size) (gh_X X D h0 s.heap.size) args s 0 0 (gh_A h0 s.heap.size)) (F0 m 37 ls [.int t0]) := by
  unfold wb_X7_isComplete_37 at hw
  have hx := M.1.1
  have hb := M.1.2.1
  exact gh_iret M G hr hw.1 hw.2 (by exact Nat.le_of_ble_eq_true rfl) (by exact Nat.le_of_ble_eq_true rfl) dX7_isComplete_37
set_option maxHeartbeats 4000000 in
theorem wk_X7_isComplete_36 {D : gh_D} {p : Program} {l : Launch} {e : Env} {s : State} {m : MethodId} {args : Array Value} {below : List Frame} {meth : Method} {c : Code} {h0 : gh_H} (M : gh_M D p l s m args meth c RX7 cX7_isComplete 1 (gh_A h0 s.heap.size)) (hr : meth.sig.returnType = (some .boolean)) (hex : ∀ x ∈ c.exceptionTable.toList, False)   {Q : Int32 → gh_H → Prop} {X : String → gh_H → Prop}    (H : Heap) (locs : List Loc) (ls : Array Slot) (h : gh_H) (G : gh_Inv D h0 (gh_A h0 s.heap.size) s.heap s H locs h) (hl : gh_L ls 1 []) (hw : wb_X7_isComplete_36 D.2.2 Q X h) : W p l e rm_X7_isComplete s m args below meth c H locs 0 0 (vx_MQ below (gh_Qi Q D h0 s.heap.size) (gh_X X D h0 s.heap.size) args s 0 0 (gh_A h0 s.heap.size)) (F0 m 36 ls []) := by
  unfold wb_X7_isComplete_36 at hw
  have hx := M.1.1
  have hb := M.1.2.1
  refine lv_iconst (v := (0 : Int32)) hx hb dX7_isComplete_36 (by decide) ?_
  exact wk_X7_isComplete_37 M hr hex  (0 : Int32) _ _ _ _ G (gh_sub hl [] rfl) hw
set_option maxHeartbeats 4000000 in
theorem met_X7_isComplete (l : Launch) (D : gh_D) (v0 : Nat) (Q : Int32 → gh_H → Prop) (X : String → gh_H → Prop) (h : gh_H) (sz : Nat) (hw : wp_X7_isComplete D.2.2 v0 Q X h) (hst : l.stackTraces = false) : vx_Met l yX7_isComplete (ws_ yX7_isComplete cX7_isComplete 1 (some .boolean)) rm_X7_isComplete (gh_Pc D h sz [.ref v0]) (gh_Qi Q D h sz) (gh_X X D h sz) 0 0 (gh_A h sz) := by
  refine vx_ofW (by decide) rfl (fun p e s m args below meth c s₁ B hml hex hP => ?_)
  obtain ⟨rfl, rfl, hK, hT, hE, G⟩ := gh_start hP
  have M : gh_M D p l s m _ meth c RX7 cX7_isComplete 1 (gh_A h s.heap.size) := ⟨⟨B.exec, B.bytes, hml, findClass_of_methodNamed B.named, fun w hw => atoms_spec (ws := ws_ yX7_isComplete cX7_isComplete 1 (some .boolean)) B.pre w (List.mem_cons_of_mem _ hw)⟩, hK, hT, hE, B.notSynchronized, hst⟩
  have hr := B.returns
  have hx := M.1.1
  have hb := M.1.2.1
  refine gh_enter (vs := [(1, .ref v0)]) (gh_w1 rfl gh_wn) (Nat.le_of_ble_eq_true rfl) (fun ls hl => ?_)
  replace hl : gh_L ls 1 [(0, 1, va_rf (some v0))] := hl
  unfold wp_X7_isComplete at hw
  refine gh_aload_n hx hb dX7_isComplete_0 rfl (gh_at hl 0 rfl) ?_
  refine gh_getR M G hw fl_X7_12 dX7_isComplete_1 (fun x1 hw => ?_)
  obtain ⟨a2, lba2, fsa2, rfl, haa2, hw⟩ := hw
  refine gh_kFi G (vx_runF (C := "java/util/ArrayList") (M.2.1.1.1 8 _ rfl).2 M.1 (met_J2_isEmpty l D _ _ _ _ _ hw M.2.2.2.2.2) (va_cwF 0 (gh_Mts M) (gh_gF q633 q636 q638 q44 q640) rfl rfl rfl (M.2.2.1.2.1 _ (List.mem_of_getElem? (i := 8) rfl)) ⟨by decide, by decide, rfl⟩ ⟨Nat.le_of_ble_eq_true rfl, Nat.le_of_ble_eq_true rfl⟩) (gh_preV (As := []) M G (gh_rec M G haa2 rfl)) rfl rfl hl.1.1 rfl (lv_room (Nat.le_of_ble_eq_true rfl)) dX7_isComplete_4 ⟨(Nat.le_of_ble_eq_true rfl), (Nat.le_of_ble_eq_true rfl)⟩) (gh_out M hex (by exact Nat.le_of_ble_eq_true rfl) (by exact Nat.le_of_ble_eq_true rfl)) (fun r3 h4 H locs hw G => ?_)
  refine lv_if_ne (tgt := 36) hx hb dX7_isComplete_9 (by decide) (fun hc => ?_) (fun hc => ?_)
  · replace hw := hw.2 hc
    exact wk_X7_isComplete_36 M hr hex   _ _ _ _ G (gh_sub hl [] rfl) hw
  · replace hw := hw.1 hc
    refine gh_aload_n hx hb dX7_isComplete_12 rfl (gh_at hl 0 rfl) ?_
    refine gh_getR M G hw fl_X7_12 dX7_isComplete_13 (fun x5 hw => ?_)
    obtain ⟨a6, lba6, fsa6, rfl, haa6, hw⟩ := hw
    refine gh_kFi G (vx_runF (C := "java/util/ArrayList") (M.2.1.1.1 8 _ rfl).2 M.1 (met_J2_size l D _ _ _ _ _ hw M.2.2.2.2.2) (va_cwF 0 (gh_Mts M) (gh_gF q642 q243 q245 q44 q247) rfl rfl rfl (M.2.2.1.2.1 _ (List.mem_of_getElem? (i := 4) rfl)) ⟨by decide, by decide, rfl⟩ ⟨Nat.le_of_ble_eq_true rfl, Nat.le_of_ble_eq_true rfl⟩) (gh_preV (As := []) M G (gh_rec M G haa6 rfl)) rfl rfl hl.1.1 rfl (lv_room (Nat.le_of_ble_eq_true rfl)) dX7_isComplete_16 ⟨(Nat.le_of_ble_eq_true rfl), (Nat.le_of_ble_eq_true rfl)⟩) (gh_out M hex (by exact Nat.le_of_ble_eq_true rfl) (by exact Nat.le_of_ble_eq_true rfl)) (fun r7 h8 H locs hw G => ?_)
    refine gh_aload_n hx hb dX7_isComplete_21 rfl (gh_at hl 0 rfl) ?_
    refine gh_getR M G hw fl_X7_21 dX7_isComplete_22 (fun x9 hw => ?_)
    refine gh_getI M G hw fl_X7_44 dX7_isComplete_25 (fun x10 hw => ?_)
    refine lv_irem hx hb dX7_isComplete_28 hw.1 ?_
    replace hw := hw.2
    refine lv_if_ne (tgt := 36) hx hb dX7_isComplete_29 (by decide) (fun hc => ?_) (fun hc => ?_)
    · replace hw := hw.2 hc
      exact wk_X7_isComplete_36 M hr hex   _ _ _ _ G (gh_sub hl [] rfl) hw
    · replace hw := hw.1 hc
      refine lv_iconst (v := (1 : Int32)) hx hb dX7_isComplete_32 (by decide) ?_
      refine lv_goto (tgt := 37) hx hb dX7_isComplete_33 (by decide) ?_
      exact wk_X7_isComplete_37 M hr hex  (1 : Int32) _ _ _ _ G (gh_sub hl [] rfl) hw
/-! BinderyDesk$Job.sheets ()I -/
def rm_X7_sheets : Room := { frames := 2, cells := 0, slots := 0, locals := 60 }
def wp_X7_sheets (κ : Nat → Nat) (v0 : Nat) (Q : Int32 → gh_H → Prop) (X : String → gh_H → Prop) (h : gh_H) : Prop := (gh_GR h (some v0) [(7, 1)] (fun x1 => (gh_RC h x1 8 (fun a2 => (wp_J2_size κ a2 (fun r3 h4 => (gh_GR h4 (some v0) [(7, 0)] (fun x5 => (gh_GI h4 x5 [(16, 1), (17, 1), (18, 1)] (fun x6 => ((¬ x6 = 0) ∧ (Q (r3 / x6) h4))))))) X h)))))
set_option maxHeartbeats 4000000 in
theorem met_X7_sheets (l : Launch) (D : gh_D) (v0 : Nat) (Q : Int32 → gh_H → Prop) (X : String → gh_H → Prop) (h : gh_H) (sz : Nat) (hw : wp_X7_sheets D.2.2 v0 Q X h) (hst : l.stackTraces = false) : vx_Met l yX7_sheets (ws_ yX7_sheets cX7_sheets 1 (some .int)) rm_X7_sheets (gh_Pc D h sz [.ref v0]) (gh_Qi Q D h sz) (gh_X X D h sz) 0 0 (gh_A h sz) := by
  refine vx_ofW (by decide) rfl (fun p e s m args below meth c s₁ B hml hex hP => ?_)
  obtain ⟨rfl, rfl, hK, hT, hE, G⟩ := gh_start hP
  have M : gh_M D p l s m _ meth c RX7 cX7_sheets 1 (gh_A h s.heap.size) := ⟨⟨B.exec, B.bytes, hml, findClass_of_methodNamed B.named, fun w hw => atoms_spec (ws := ws_ yX7_sheets cX7_sheets 1 (some .int)) B.pre w (List.mem_cons_of_mem _ hw)⟩, hK, hT, hE, B.notSynchronized, hst⟩
  have hr := B.returns
  have hx := M.1.1
  have hb := M.1.2.1
  refine gh_enter (vs := [(1, .ref v0)]) (gh_w1 rfl gh_wn) (Nat.le_of_ble_eq_true rfl) (fun ls hl => ?_)
  replace hl : gh_L ls 1 [(0, 1, va_rf (some v0))] := hl
  unfold wp_X7_sheets at hw
  refine gh_aload_n hx hb dX7_sheets_0 rfl (gh_at hl 0 rfl) ?_
  refine gh_getR M G hw fl_X7_12 dX7_sheets_1 (fun x1 hw => ?_)
  obtain ⟨a2, lba2, fsa2, rfl, haa2, hw⟩ := hw
  refine gh_kFi G (vx_runF (C := "java/util/ArrayList") (M.2.1.1.1 8 _ rfl).2 M.1 (met_J2_size l D _ _ _ _ _ hw M.2.2.2.2.2) (va_cwF 0 (gh_Mts M) (gh_gF q642 q243 q245 q44 q247) rfl rfl rfl (M.2.2.1.2.1 _ (List.mem_of_getElem? (i := 4) rfl)) ⟨by decide, by decide, rfl⟩ ⟨Nat.le_of_ble_eq_true rfl, Nat.le_of_ble_eq_true rfl⟩) (gh_preV (As := []) M G (gh_rec M G haa2 rfl)) rfl rfl hl.1.1 rfl (lv_room (Nat.le_of_ble_eq_true rfl)) dX7_sheets_4 ⟨(Nat.le_of_ble_eq_true rfl), (Nat.le_of_ble_eq_true rfl)⟩) (gh_out M hex (by exact Nat.le_of_ble_eq_true rfl) (by exact Nat.le_of_ble_eq_true rfl)) (fun r3 h4 H locs hw G => ?_)
  refine gh_aload_n hx hb dX7_sheets_9 rfl (gh_at hl 0 rfl) ?_
  refine gh_getR M G hw fl_X7_21 dX7_sheets_10 (fun x5 hw => ?_)
  refine gh_getI M G hw fl_X7_44 dX7_sheets_13 (fun x6 hw => ?_)
  refine lv_idiv hx hb dX7_sheets_16 hw.1 ?_
  replace hw := hw.2
  exact gh_iret M G hr rfl hw (by exact Nat.le_of_ble_eq_true rfl) (by exact Nat.le_of_ble_eq_true rfl) dX7_sheets_17
/-! BinderyDesk$Binding$1.pageAt (III)I -/
def rm_X11_pageAt : Room := { frames := 1, cells := 0, slots := 0, locals := 40 }
def wp_X11_pageAt (κ : Nat → Nat) (v0 : Nat) (v1 : Int32) (v2 : Int32) (v3 : Int32) (Q : Int32 → gh_H → Prop) (X : String → gh_H → Prop) (h : gh_H) : Prop := ((v3 = (0 : Int32) → (Q (v1 - ((2 : Int32) * v2)) h)) ∧ (v3 = (3 : Int32) → (Q ((v1 - ((2 : Int32) * v2)) - (1 : Int32)) h)) ∧ (¬ v3 = (0 : Int32) ∧ ¬ v3 = (3 : Int32) → (Q (((2 : Int32) * v2) + v3) h)))
set_option maxHeartbeats 4000000 in
theorem met_X11_pageAt (l : Launch) (D : gh_D) (v0 : Nat) (v1 : Int32) (v2 : Int32) (v3 : Int32) (Q : Int32 → gh_H → Prop) (X : String → gh_H → Prop) (h : gh_H) (sz : Nat) (hw : wp_X11_pageAt D.2.2 v0 v1 v2 v3 Q X h) (hst : l.stackTraces = false) : gh_Met0 l yX11_pageAt (ws_ yX11_pageAt cX11_pageAt 4 (some .int)) rm_X11_pageAt (gh_Pc D h sz [.ref v0, .int v1, .int v2, .int v3]) (gh_Qi Q D h sz) (gh_X X D h sz) 0 0 (gh_A h sz) := by
  refine gh_ofW0 (by decide) rfl (fun p e s m args below meth c bx bn br bs bb hml bw hex hP => ?_)
  obtain ⟨rfl, rfl, hK, hT, hE, G⟩ := gh_start hP
  have M : gh_M D p l s m _ meth c RX11 cX11_pageAt 4 (gh_A h s.heap.size) := ⟨⟨bx, bb, hml, findClass_of_methodNamed bn, fun w hw => bw w (List.mem_cons_of_mem _ hw)⟩, hK, hT, hE, bs, hst⟩
  have hr := br
  have hx := M.1.1
  have hb := M.1.2.1
  refine gh_enter (vs := [(1, .ref v0), (1, .int v1), (1, .int v2), (1, .int v3)]) (gh_w1 rfl (gh_w1 rfl (gh_w1 rfl (gh_w1 rfl gh_wn)))) (Nat.le_of_ble_eq_true rfl) (fun ls hl => ?_)
  replace hl : gh_L ls 4 [(0, 1, va_rf (some v0)), (1, 1, .int v1), (2, 1, .int v2), (3, 1, .int v3)] := hl
  unfold wp_X11_pageAt at hw
  refine lv_iload_n hx hb dX11_pageAt_0 rfl (gh_at hl 3 rfl) ?_
  by_cases hc0 : v3 = (0 : Int32)
  · replace hw := hw.1 hc0
    refine lv_lookup (tgt := 28) (off := 27) hx hb dX11_pageAt_1 (by decide) (by rw [hc0]; rfl) (by decide) ?_
    refine lv_iload_n hx hb dX11_pageAt_28 rfl (gh_at hl 1 rfl) ?_
    refine lv_iconst (v := (2 : Int32)) hx hb dX11_pageAt_29 (by decide) ?_
    refine lv_iload_n hx hb dX11_pageAt_30 rfl (gh_at hl 2 rfl) ?_
    refine lv_imul hx hb dX11_pageAt_31 ?_
    refine lv_isub hx hb dX11_pageAt_32 ?_
    exact gh_iret M G hr rfl hw (by exact Nat.le_of_ble_eq_true rfl) (by exact Nat.le_of_ble_eq_true rfl) dX11_pageAt_33
  by_cases hc1 : v3 = (3 : Int32)
  · replace hw := hw.2.1 hc1
    refine lv_lookup (tgt := 34) (off := 33) hx hb dX11_pageAt_1 (by decide) (by rw [hc1]; rfl) (by decide) ?_
    refine lv_iload_n hx hb dX11_pageAt_34 rfl (gh_at hl 1 rfl) ?_
    refine lv_iconst (v := (2 : Int32)) hx hb dX11_pageAt_35 (by decide) ?_
    refine lv_iload_n hx hb dX11_pageAt_36 rfl (gh_at hl 2 rfl) ?_
    refine lv_imul hx hb dX11_pageAt_37 ?_
    refine lv_isub hx hb dX11_pageAt_38 ?_
    refine lv_iconst (v := (1 : Int32)) hx hb dX11_pageAt_39 (by decide) ?_
    refine lv_isub hx hb dX11_pageAt_40 ?_
    exact gh_iret M G hr rfl hw (by exact Nat.le_of_ble_eq_true rfl) (by exact Nat.le_of_ble_eq_true rfl) dX11_pageAt_41
  replace hw := hw.2.2 ⟨hc0, hc1⟩
  refine lv_lookup (tgt := 42) (off := 41) hx hb dX11_pageAt_1 (by decide) (by have q0 := fun z : v3.toInt = 0 => hc0 (Int32.toInt_inj.mp (z.trans rfl)); have q1 := fun z : v3.toInt = 3 => hc1 (Int32.toInt_inj.mp (z.trans rfl)); simp only [Op.lookupswitch.offset]; rw [if_neg (fun z => q0 z.symm)]; rw [if_neg (fun z => q1 z.symm)]) (by decide) ?_
  refine lv_iconst (v := (2 : Int32)) hx hb dX11_pageAt_42 (by decide) ?_
  refine lv_iload_n hx hb dX11_pageAt_43 rfl (gh_at hl 2 rfl) ?_
  refine lv_imul hx hb dX11_pageAt_44 ?_
  refine lv_iload_n hx hb dX11_pageAt_45 rfl (gh_at hl 3 rfl) ?_
  refine lv_iadd hx hb dX11_pageAt_46 ?_
  exact gh_iret M G hr rfl hw (by exact Nat.le_of_ble_eq_true rfl) (by exact Nat.le_of_ble_eq_true rfl) dX11_pageAt_47
/-! BinderyDesk$Binding$2.pageAt (III)I -/
def rm_X12_pageAt : Room := { frames := 1, cells := 0, slots := 0, locals := 40 }
def wb_X12_pageAt_12 (κ : Nat → Nat)  (Q : Int32 → gh_H → Prop) (X : String → gh_H → Prop) (t0 : Int32) (t1 : Int32) (h : gh_H) : Prop := (Q (t0 + t1) h)
def wp_X12_pageAt (κ : Nat → Nat) (v0 : Nat) (v1 : Int32) (v2 : Int32) (v3 : Int32) (Q : Int32 → gh_H → Prop) (X : String → gh_H → Prop) (h : gh_H) : Prop := ((v3 = 0 → wb_X12_pageAt_12 κ Q X ((4 : Int32) * v2) (4 : Int32) h) ∧ (¬ v3 = 0 → wb_X12_pageAt_12 κ Q X ((4 : Int32) * v2) v3 h))
set_option maxHeartbeats 4000000 in
theorem wk_X12_pageAt_12 {D : gh_D} {p : Program} {l : Launch} {e : Env} {s : State} {m : MethodId} {args : Array Value} {below : List Frame} {meth : Method} {c : Code} {h0 : gh_H} (M : gh_M D p l s m args meth c RX12 cX12_pageAt 4 (gh_A h0 s.heap.size)) (hr : meth.sig.returnType = (some .int)) (hex : ∀ x ∈ c.exceptionTable.toList, False)   {Q : Int32 → gh_H → Prop} {X : String → gh_H → Prop}   (t0 : Int32) (t1 : Int32) (H : Heap) (locs : List Loc) (ls : Array Slot) (h : gh_H) (G : gh_Inv D h0 (gh_A h0 s.heap.size) s.heap s H locs h) (hl : gh_L ls 4 []) (hw : wb_X12_pageAt_12 D.2.2 Q X t0 t1 h) : W p l e rm_X12_pageAt s m args below meth c H locs 0 0 (vx_MQ below (gh_Qi Q D h0 s.heap.size) (gh_X X D h0 s.heap.size) args s 0 0 (gh_A h0 s.heap.size)) (F0 m 12 ls [.int t1, .int t0]) := by
  unfold wb_X12_pageAt_12 at hw
  have hx := M.1.1
  have hb := M.1.2.1
  refine lv_iadd hx hb dX12_pageAt_12 ?_
  exact gh_iret M G hr rfl hw (by exact Nat.le_of_ble_eq_true rfl) (by exact Nat.le_of_ble_eq_true rfl) dX12_pageAt_13
set_option maxHeartbeats 4000000 in
theorem met_X12_pageAt (l : Launch) (D : gh_D) (v0 : Nat) (v1 : Int32) (v2 : Int32) (v3 : Int32) (Q : Int32 → gh_H → Prop) (X : String → gh_H → Prop) (h : gh_H) (sz : Nat) (hw : wp_X12_pageAt D.2.2 v0 v1 v2 v3 Q X h) (hst : l.stackTraces = false) : gh_Met0 l yX12_pageAt (ws_ yX12_pageAt cX12_pageAt 4 (some .int)) rm_X12_pageAt (gh_Pc D h sz [.ref v0, .int v1, .int v2, .int v3]) (gh_Qi Q D h sz) (gh_X X D h sz) 0 0 (gh_A h sz) := by
  refine gh_ofW0 (by decide) rfl (fun p e s m args below meth c bx bn br bs bb hml bw hex hP => ?_)
  obtain ⟨rfl, rfl, hK, hT, hE, G⟩ := gh_start hP
  have M : gh_M D p l s m _ meth c RX12 cX12_pageAt 4 (gh_A h s.heap.size) := ⟨⟨bx, bb, hml, findClass_of_methodNamed bn, fun w hw => bw w (List.mem_cons_of_mem _ hw)⟩, hK, hT, hE, bs, hst⟩
  have hr := br
  have hx := M.1.1
  have hb := M.1.2.1
  refine gh_enter (vs := [(1, .ref v0), (1, .int v1), (1, .int v2), (1, .int v3)]) (gh_w1 rfl (gh_w1 rfl (gh_w1 rfl (gh_w1 rfl gh_wn)))) (Nat.le_of_ble_eq_true rfl) (fun ls hl => ?_)
  replace hl : gh_L ls 4 [(0, 1, va_rf (some v0)), (1, 1, .int v1), (2, 1, .int v2), (3, 1, .int v3)] := hl
  unfold wp_X12_pageAt at hw
  refine lv_iconst (v := (4 : Int32)) hx hb dX12_pageAt_0 (by decide) ?_
  refine lv_iload_n hx hb dX12_pageAt_1 rfl (gh_at hl 2 rfl) ?_
  refine lv_imul hx hb dX12_pageAt_2 ?_
  refine lv_iload_n hx hb dX12_pageAt_3 rfl (gh_at hl 3 rfl) ?_
  refine lv_if_ne (tgt := 11) hx hb dX12_pageAt_4 (by decide) (fun hc => ?_) (fun hc => ?_)
  · replace hw := hw.2 hc
    refine lv_iload_n hx hb dX12_pageAt_11 rfl (gh_at hl 3 rfl) ?_
    exact wk_X12_pageAt_12 M hr hex  ((4 : Int32) * v2) v3 _ _ _ _ G (gh_sub hl [] rfl) hw
  · replace hw := hw.1 hc
    refine lv_iconst (v := (4 : Int32)) hx hb dX12_pageAt_7 (by decide) ?_
    refine lv_goto (tgt := 12) hx hb dX12_pageAt_8 (by decide) ?_
    exact wk_X12_pageAt_12 M hr hex  ((4 : Int32) * v2) (4 : Int32) _ _ _ _ G (gh_sub hl [] rfl) hw
/-! BinderyDesk$Binding$3.pageAt (III)I -/
def rm_X13_pageAt : Room := { frames := 1, cells := 0, slots := 0, locals := 40 }
def wp_X13_pageAt (κ : Nat → Nat) (v0 : Nat) (v1 : Int32) (v2 : Int32) (v3 : Int32) (Q : Int32 → gh_H → Prop) (X : String → gh_H → Prop) (h : gh_H) : Prop := (Q ((((2 : Int32) * v2) + v3) + (1 : Int32)) h)
set_option maxHeartbeats 4000000 in
theorem met_X13_pageAt (l : Launch) (D : gh_D) (v0 : Nat) (v1 : Int32) (v2 : Int32) (v3 : Int32) (Q : Int32 → gh_H → Prop) (X : String → gh_H → Prop) (h : gh_H) (sz : Nat) (hw : wp_X13_pageAt D.2.2 v0 v1 v2 v3 Q X h) (hst : l.stackTraces = false) : gh_Met0 l yX13_pageAt (ws_ yX13_pageAt cX13_pageAt 4 (some .int)) rm_X13_pageAt (gh_Pc D h sz [.ref v0, .int v1, .int v2, .int v3]) (gh_Qi Q D h sz) (gh_X X D h sz) 0 0 (gh_A h sz) := by
  refine gh_ofW0 (by decide) rfl (fun p e s m args below meth c bx bn br bs bb hml bw hex hP => ?_)
  obtain ⟨rfl, rfl, hK, hT, hE, G⟩ := gh_start hP
  have M : gh_M D p l s m _ meth c RX13 cX13_pageAt 4 (gh_A h s.heap.size) := ⟨⟨bx, bb, hml, findClass_of_methodNamed bn, fun w hw => bw w (List.mem_cons_of_mem _ hw)⟩, hK, hT, hE, bs, hst⟩
  have hr := br
  have hx := M.1.1
  have hb := M.1.2.1
  refine gh_enter (vs := [(1, .ref v0), (1, .int v1), (1, .int v2), (1, .int v3)]) (gh_w1 rfl (gh_w1 rfl (gh_w1 rfl (gh_w1 rfl gh_wn)))) (Nat.le_of_ble_eq_true rfl) (fun ls hl => ?_)
  replace hl : gh_L ls 4 [(0, 1, va_rf (some v0)), (1, 1, .int v1), (2, 1, .int v2), (3, 1, .int v3)] := hl
  unfold wp_X13_pageAt at hw
  refine lv_iconst (v := (2 : Int32)) hx hb dX13_pageAt_0 (by decide) ?_
  refine lv_iload_n hx hb dX13_pageAt_1 rfl (gh_at hl 2 rfl) ?_
  refine lv_imul hx hb dX13_pageAt_2 ?_
  refine lv_iload_n hx hb dX13_pageAt_3 rfl (gh_at hl 3 rfl) ?_
  refine lv_iadd hx hb dX13_pageAt_4 ?_
  refine lv_iconst (v := (1 : Int32)) hx hb dX13_pageAt_5 (by decide) ?_
  refine lv_iadd hx hb dX13_pageAt_6 ?_
  exact gh_iret M G hr rfl hw (by exact Nat.le_of_ble_eq_true rfl) (by exact Nat.le_of_ble_eq_true rfl) dX13_pageAt_7
/-! BinderyDesk$Job.pageAt (II)I -/
def rm_X7_pageAt : Room := { frames := 2, cells := 0, slots := 0, locals := 63 }
def wb_X7_pageAt_18 (κ : Nat → Nat)  (Q : Int32 → gh_H → Prop) (X : String → gh_H → Prop) (t0 : Int32) (h : gh_H) : Prop := (Q t0 h)
def wp_X7_pageAt (κ : Nat → Nat) (v0 : Nat) (v1 : Int32) (v2 : Int32) (Q : Int32 → gh_H → Prop) (X : String → gh_H → Prop) (h : gh_H) : Prop := (gh_GR h (some v0) [(7, 0)] (fun x1 => (gh_GR h (some v0) [(7, 1)] (fun x2 => (gh_RC h x2 8 (fun a3 => (wp_J2_size κ a3 (fun r4 h5 => ((gh_RC h5 x1 16 (fun a6 => (wp_X11_pageAt κ a6 r4 v1 v2 (fun r7 h8 => wb_X7_pageAt_18 κ Q X r7 h8) X h5))) ∨ (gh_RC h5 x1 17 (fun a9 => (wp_X12_pageAt κ a9 r4 v1 v2 (fun r10 h11 => wb_X7_pageAt_18 κ Q X r10 h11) X h5))) ∨ (gh_RC h5 x1 18 (fun a12 => (wp_X13_pageAt κ a12 r4 v1 v2 (fun r13 h14 => wb_X7_pageAt_18 κ Q X r13 h14) X h5))))) X h)))))))
set_option maxHeartbeats 4000000 in
theorem wk_X7_pageAt_18 {D : gh_D} {p : Program} {l : Launch} {e : Env} {s : State} {m : MethodId} {args : Array Value} {below : List Frame} {meth : Method} {c : Code} {h0 : gh_H} (M : gh_M D p l s m args meth c RX7 cX7_pageAt 3 (gh_A h0 s.heap.size)) (hr : meth.sig.returnType = (some .int)) (hex : ∀ x ∈ c.exceptionTable.toList, False)   {Q : Int32 → gh_H → Prop} {X : String → gh_H → Prop}   (t0 : Int32) (H : Heap) (locs : List Loc) (ls : Array Slot) (h : gh_H) (G : gh_Inv D h0 (gh_A h0 s.heap.size) s.heap s H locs h) (hl : gh_L ls 3 []) (hw : wb_X7_pageAt_18 D.2.2 Q X t0 h) : W p l e rm_X7_pageAt s m args below meth c H locs 0 0 (vx_MQ below (gh_Qi Q D h0 s.heap.size) (gh_X X D h0 s.heap.size) args s 0 0 (gh_A h0 s.heap.size)) (F0 m 18 ls [.int t0]) := by
  unfold wb_X7_pageAt_18 at hw
  have hx := M.1.1
  have hb := M.1.2.1
  exact gh_iret M G hr rfl hw (by exact Nat.le_of_ble_eq_true rfl) (by exact Nat.le_of_ble_eq_true rfl) dX7_pageAt_18
set_option maxHeartbeats 4000000 in
theorem met_X7_pageAt (l : Launch) (D : gh_D) (v0 : Nat) (v1 : Int32) (v2 : Int32) (Q : Int32 → gh_H → Prop) (X : String → gh_H → Prop) (h : gh_H) (sz : Nat) (hw : wp_X7_pageAt D.2.2 v0 v1 v2 Q X h) (hst : l.stackTraces = false) : vx_Met l yX7_pageAt (ws_ yX7_pageAt cX7_pageAt 3 (some .int)) rm_X7_pageAt (gh_Pc D h sz [.ref v0, .int v1, .int v2]) (gh_Qi Q D h sz) (gh_X X D h sz) 0 0 (gh_A h sz) := by
  refine vx_ofW (by decide) rfl (fun p e s m args below meth c s₁ B hml hex hP => ?_)
  obtain ⟨rfl, rfl, hK, hT, hE, G⟩ := gh_start hP
  have M : gh_M D p l s m _ meth c RX7 cX7_pageAt 3 (gh_A h s.heap.size) := ⟨⟨B.exec, B.bytes, hml, findClass_of_methodNamed B.named, fun w hw => atoms_spec (ws := ws_ yX7_pageAt cX7_pageAt 3 (some .int)) B.pre w (List.mem_cons_of_mem _ hw)⟩, hK, hT, hE, B.notSynchronized, hst⟩
  have hr := B.returns
  have hx := M.1.1
  have hb := M.1.2.1
  refine gh_enter (vs := [(1, .ref v0), (1, .int v1), (1, .int v2)]) (gh_w1 rfl (gh_w1 rfl (gh_w1 rfl gh_wn))) (Nat.le_of_ble_eq_true rfl) (fun ls hl => ?_)
  replace hl : gh_L ls 3 [(0, 1, va_rf (some v0)), (1, 1, .int v1), (2, 1, .int v2)] := hl
  unfold wp_X7_pageAt at hw
  refine gh_aload_n hx hb dX7_pageAt_0 rfl (gh_at hl 0 rfl) ?_
  refine gh_getR M G hw fl_X7_21 dX7_pageAt_1 (fun x1 hw => ?_)
  refine gh_aload_n hx hb dX7_pageAt_4 rfl (gh_at hl 0 rfl) ?_
  refine gh_getR M G hw fl_X7_12 dX7_pageAt_5 (fun x2 hw => ?_)
  obtain ⟨a3, lba3, fsa3, rfl, haa3, hw⟩ := hw
  refine gh_kFi G (vx_runF (C := "java/util/ArrayList") (M.2.1.1.1 8 _ rfl).2 M.1 (met_J2_size l D _ _ _ _ _ hw M.2.2.2.2.2) (va_cwF 0 (gh_Mts M) (gh_gF q642 q243 q245 q44 q247) rfl rfl rfl (M.2.2.1.2.1 _ (List.mem_of_getElem? (i := 4) rfl)) ⟨by decide, by decide, rfl⟩ ⟨Nat.le_of_ble_eq_true rfl, Nat.le_of_ble_eq_true rfl⟩) (gh_preV (As := []) M G (gh_rec M G haa3 rfl)) rfl rfl hl.1.1 rfl (lv_room (Nat.le_trans (gh_r1 (gh_cat _) gh_r0) (Nat.le_of_ble_eq_true rfl : 1 ≤ 8))) dX7_pageAt_8 ⟨(Nat.le_of_ble_eq_true rfl), (Nat.le_of_ble_eq_true rfl)⟩) (gh_out M hex (by exact Nat.le_of_ble_eq_true rfl) (by exact Nat.le_of_ble_eq_true rfl)) (fun r4 h5 H locs hw G => ?_)
  refine lv_iload_n hx hb dX7_pageAt_13 rfl (gh_at hl 1 rfl) ?_
  refine lv_iload_n hx hb dX7_pageAt_14 rfl (gh_at hl 2 rfl) ?_
  rcases hw with hw | hw | hw
  · obtain ⟨a6, lba6, fsa6, rfl, haa6, hw⟩ := hw
    refine gh_ki G (gh_runU0 (C := "BinderyDesk$Binding$1") M (met_X11_pageAt l D _ _ _ _ _ _ _ _ hw M.2.2.2.2.2) (lw_meth q664) rfl rfl rfl ⟨Nat.le_of_ble_eq_true rfl, Nat.le_of_ble_eq_true rfl⟩ q659 q661 (List.mem_of_getElem? (i := 155) rfl) q662 q663 ⟨by decide, by decide, rfl⟩ (gh_preV (As := [.int r4, .int v1, .int v2]) M G (gh_rec M G haa6 rfl)) rfl hl.1.1 rfl (Nat.le_of_ble_eq_true rfl) dX7_pageAt_15 ⟨(Nat.le_of_ble_eq_true rfl), (Nat.le_of_ble_eq_true rfl)⟩) (gh_out M hex (by exact Nat.le_of_ble_eq_true rfl) (by exact Nat.le_of_ble_eq_true rfl)) (fun r7 h8 H locs hw G => ?_)
    exact wk_X7_pageAt_18 M hr hex  r7 _ _ _ _ G (gh_sub hl [] rfl) hw
  · obtain ⟨a9, lba9, fsa9, rfl, haa9, hw⟩ := hw
    refine gh_ki G (gh_runU0 (C := "BinderyDesk$Binding$2") M (met_X12_pageAt l D _ _ _ _ _ _ _ _ hw M.2.2.2.2.2) (lw_meth q667) rfl rfl rfl ⟨Nat.le_of_ble_eq_true rfl, Nat.le_of_ble_eq_true rfl⟩ q659 q661 (List.mem_of_getElem? (i := 155) rfl) q665 q666 ⟨by decide, by decide, rfl⟩ (gh_preV (As := [.int r4, .int v1, .int v2]) M G (gh_rec M G haa9 rfl)) rfl hl.1.1 rfl (Nat.le_of_ble_eq_true rfl) dX7_pageAt_15 ⟨(Nat.le_of_ble_eq_true rfl), (Nat.le_of_ble_eq_true rfl)⟩) (gh_out M hex (by exact Nat.le_of_ble_eq_true rfl) (by exact Nat.le_of_ble_eq_true rfl)) (fun r10 h11 H locs hw G => ?_)
    exact wk_X7_pageAt_18 M hr hex  r10 _ _ _ _ G (gh_sub hl [] rfl) hw
  · obtain ⟨a12, lba12, fsa12, rfl, haa12, hw⟩ := hw
    refine gh_ki G (gh_runU0 (C := "BinderyDesk$Binding$3") M (met_X13_pageAt l D _ _ _ _ _ _ _ _ hw M.2.2.2.2.2) (lw_meth q670) rfl rfl rfl ⟨Nat.le_of_ble_eq_true rfl, Nat.le_of_ble_eq_true rfl⟩ q659 q661 (List.mem_of_getElem? (i := 155) rfl) q668 q669 ⟨by decide, by decide, rfl⟩ (gh_preV (As := [.int r4, .int v1, .int v2]) M G (gh_rec M G haa12 rfl)) rfl hl.1.1 rfl (Nat.le_of_ble_eq_true rfl) dX7_pageAt_15 ⟨(Nat.le_of_ble_eq_true rfl), (Nat.le_of_ble_eq_true rfl)⟩) (gh_out M hex (by exact Nat.le_of_ble_eq_true rfl) (by exact Nat.le_of_ble_eq_true rfl)) (fun r13 h14 H locs hw G => ?_)
    exact wk_X7_pageAt_18 M hr hex  r13 _ _ _ _ G (gh_sub hl [] rfl) hw
/-! BinderyDesk$Job.contentAt (II)LBinderyDesk$Content; -/
def rm_X7_contentAt : Room := { frames := 4, cells := 0, slots := 0, locals := 104 }
def wp_X7_contentAt (κ : Nat → Nat) (v0 : Nat) (v1 : Int32) (v2 : Int32) (Q : Option Nat → gh_H → Prop) (X : String → gh_H → Prop) (h : gh_H) : Prop := (gh_GR h (some v0) [(7, 1)] (fun x1 => (gh_RC h (some v0) 7 (fun _ => (wp_X7_pageAt κ v0 v1 v2 (fun r3 h4 => (gh_RC h4 x1 8 (fun a5 => (wp_J2_get κ a5 (r3 - (1 : Int32)) (fun r6 h7 => (gh_CK h7 r6 [4] (Q r6 h7))) X h4)))) X h)))))
set_option maxHeartbeats 4000000 in
theorem met_X7_contentAt (l : Launch) (D : gh_D) (v0 : Nat) (v1 : Int32) (v2 : Int32) (Q : Option Nat → gh_H → Prop) (X : String → gh_H → Prop) (h : gh_H) (sz : Nat) (hw : wp_X7_contentAt D.2.2 v0 v1 v2 Q X h) (hst : l.stackTraces = false) : vx_Met l yX7_contentAt (ws_ yX7_contentAt cX7_contentAt 3 (some (.object "BinderyDesk$Content"))) rm_X7_contentAt (gh_Pc D h sz [.ref v0, .int v1, .int v2]) (gh_Qq Q D h sz) (gh_X X D h sz) 0 0 (gh_A h sz) := by
  refine vx_ofW (by decide) rfl (fun p e s m args below meth c s₁ B hml hex hP => ?_)
  obtain ⟨rfl, rfl, hK, hT, hE, G⟩ := gh_start hP
  have M : gh_M D p l s m _ meth c RX7 cX7_contentAt 3 (gh_A h s.heap.size) := ⟨⟨B.exec, B.bytes, hml, findClass_of_methodNamed B.named, fun w hw => atoms_spec (ws := ws_ yX7_contentAt cX7_contentAt 3 (some (.object "BinderyDesk$Content"))) B.pre w (List.mem_cons_of_mem _ hw)⟩, hK, hT, hE, B.notSynchronized, hst⟩
  have hr := B.returns
  have hx := M.1.1
  have hb := M.1.2.1
  refine gh_enter (vs := [(1, .ref v0), (1, .int v1), (1, .int v2)]) (gh_w1 rfl (gh_w1 rfl (gh_w1 rfl gh_wn))) (Nat.le_of_ble_eq_true rfl) (fun ls hl => ?_)
  replace hl : gh_L ls 3 [(0, 1, va_rf (some v0)), (1, 1, .int v1), (2, 1, .int v2)] := hl
  unfold wp_X7_contentAt at hw
  refine gh_aload_n hx hb dX7_contentAt_0 rfl (gh_at hl 0 rfl) ?_
  refine gh_getR M G hw fl_X7_12 dX7_contentAt_1 (fun x1 hw => ?_)
  refine gh_aload_n hx hb dX7_contentAt_4 rfl (gh_at hl 0 rfl) ?_
  refine lv_iload_n hx hb dX7_contentAt_5 rfl (gh_at hl 1 rfl) ?_
  refine lv_iload_n hx hb dX7_contentAt_6 rfl (gh_at hl 2 rfl) ?_
  obtain ⟨a2, lba2, fsa2, hra2, haa2, hw⟩ := hw
  rw [← Option.some.inj hra2] at haa2
  refine gh_ki G (vx_runV M.1 (met_X7_pageAt l D _ _ _ _ _ _ _ hw M.2.2.2.2.2) (cwV 2 (gh_Mts M) (lw_V q655 q656 q657 q71 q658) rfl rfl rfl ⟨rfl, by decide, by decide, rfl⟩ ⟨Nat.le_of_ble_eq_true rfl, Nat.le_of_ble_eq_true rfl⟩) (gh_preV (As := [.int v1, .int v2]) M G (gh_rec M G haa2 rfl)) rfl rfl hl.1.1 rfl (lv_room (Nat.le_trans (gh_r1 (gh_cat _) gh_r0) (Nat.le_of_ble_eq_true rfl : 1 ≤ 8))) dX7_contentAt_7 ⟨(Nat.le_of_ble_eq_true rfl), (Nat.le_of_ble_eq_true rfl)⟩) (gh_out M hex (by exact Nat.le_of_ble_eq_true rfl) (by exact Nat.le_of_ble_eq_true rfl)) (fun r3 h4 H locs hw G => ?_)
  refine lv_iconst (v := (1 : Int32)) hx hb dX7_contentAt_10 (by decide) ?_
  refine lv_isub hx hb dX7_contentAt_11 ?_
  obtain ⟨a5, lba5, fsa5, rfl, haa5, hw⟩ := hw
  refine gh_kFq G (vx_runF (C := "java/util/ArrayList") (M.2.1.1.1 8 _ rfl).2 M.1 (met_J2_get l D _ _ _ _ _ _ hw M.2.2.2.2.2) (va_cwF 1 (gh_Mts M) (gh_gF q672 q502 q504 q44 q506) rfl rfl rfl (M.2.2.1.2.1 _ (List.mem_of_getElem? (i := 6) rfl)) ⟨by decide, by decide, rfl⟩ ⟨Nat.le_of_ble_eq_true rfl, Nat.le_of_ble_eq_true rfl⟩) (gh_preV (As := [.int (r3 - (1 : Int32))]) M G (gh_rec M G haa5 rfl)) rfl rfl hl.1.1 rfl (lv_room (Nat.le_of_ble_eq_true rfl)) dX7_contentAt_12 ⟨(Nat.le_of_ble_eq_true rfl), (Nat.le_of_ble_eq_true rfl)⟩) (gh_out M hex (by exact Nat.le_of_ble_eq_true rfl) (by exact Nat.le_of_ble_eq_true rfl)) (fun r6 h7 H locs hw G => ?_)
  refine gh_cast (cis := [4]) M G hw q673 (List.forall_mem_cons.mpr ⟨⟨_, rfl, Or.inl ⟨rfl, rfl⟩⟩, fun _ h => absurd h List.not_mem_nil⟩) dX7_contentAt_17 (fun hw => ?_)
  exact gh_aret M G hr (Or.inl ⟨_, rfl⟩) hw (by exact Nat.le_of_ble_eq_true rfl) (by exact Nat.le_of_ble_eq_true rfl) dX7_contentAt_20
/-! BinderyDesk$Job.shows (ILBinderyDesk$Content;)Z -/
def rm_X7_shows : Room := { frames := 5, cells := 0, slots := 0, locals := 126 }
def wb_X7_shows_34 (κ : Nat → Nat) (K5 : Nat → Int32 → Option Nat → Int32 → Int32 → gh_H → Prop) (Q : Int32 → gh_H → Prop) (X : String → gh_H → Prop) (v0 : Nat) (v1 : Int32) (v2 : Option Nat) (v4 : Int32) (t0 : Int32) (t1 : Int32) (h : gh_H) : Prop := K5 v0 v1 v2 (t0 ||| t1) (v4 + (1 : Int32)) h
def wb_X7_shows_5 (κ : Nat → Nat) (K5 : Nat → Int32 → Option Nat → Int32 → Int32 → gh_H → Prop) (Q : Int32 → gh_H → Prop) (X : String → gh_H → Prop) (v0 : Nat) (v1 : Int32) (v2 : Option Nat) (v3 : Int32) (v4 : Int32) (h : gh_H) : Prop := (gh_GR h (some v0) [(7, 0)] (fun x1 => (gh_GI h x1 [(16, 1), (17, 1), (18, 1)] (fun x2 => ((x2 ≤ v4 → (narrow .boolean (.int v3) = .int v3 ∧ Q v3 h)) ∧ (¬ x2 ≤ v4 → (gh_RC h (some v0) 7 (fun _ => (wp_X7_contentAt κ v0 v1 v4 (fun r4 h5 => ((r4 = v2 → wb_X7_shows_34 κ K5 Q X v0 v1 v2 v4 v3 (1 : Int32) h5) ∧ (¬ r4 = v2 → wb_X7_shows_34 κ K5 Q X v0 v1 v2 v4 v3 (0 : Int32) h5))) X h)))))))))
def wl_X7_shows_5 (κ : Nat → Nat)  (Q : Int32 → gh_H → Prop) (X : String → gh_H → Prop) : Nat → Nat → Int32 → Option Nat → Int32 → Int32 → gh_H → Prop
  | 0 => fun _ _ _ _ _ _ => False
  | n + 1 => fun v0 v1 v2 v3 v4 h => wb_X7_shows_5 κ (wl_X7_shows_5 κ Q X n) Q X v0 v1 v2 v3 v4 h
def wp_X7_shows (κ : Nat → Nat) (v0 : Nat) (v1 : Int32) (v2 : Option Nat) (Q : Int32 → gh_H → Prop) (X : String → gh_H → Prop) (h : gh_H) : Prop := (∃ n : Nat, wl_X7_shows_5 κ Q X n v0 v1 v2 (0 : Int32) (0 : Int32) h)
set_option maxHeartbeats 4000000 in
theorem wk_X7_shows_34 {D : gh_D} {p : Program} {l : Launch} {e : Env} {s : State} {m : MethodId} {args : Array Value} {below : List Frame} {meth : Method} {c : Code} {h0 : gh_H} (M : gh_M D p l s m args meth c RX7 cX7_shows 5 (gh_A h0 s.heap.size)) (hr : meth.sig.returnType = (some .boolean)) (hex : ∀ x ∈ c.exceptionTable.toList, False) {K5 : Nat → Int32 → Option Nat → Int32 → Int32 → gh_H → Prop}  {Q : Int32 → gh_H → Prop} {X : String → gh_H → Prop} (k5 : ∀ (v0 : Nat) (v1 : Int32) (v2 : Option Nat) (v3 : Int32) (v4 : Int32) (H : Heap) (locs : List Loc) (ls : Array Slot) (h : gh_H) (_ : gh_Inv D h0 (gh_A h0 s.heap.size) s.heap s H locs h) (_ : gh_L ls 5 [(0, 1, va_rf (some v0)), (1, 1, .int v1), (2, 1, va_rf v2), (3, 1, .int v3), (4, 1, .int v4)]) (_ : K5 v0 v1 v2 v3 v4 h), W p l e rm_X7_shows s m args below meth c H locs 0 0 (vx_MQ below (gh_Qi Q D h0 s.heap.size) (gh_X X D h0 s.heap.size) args s 0 0 (gh_A h0 s.heap.size)) (F0 m 5 ls []))  (v0 : Nat) (v1 : Int32) (v2 : Option Nat) (v4 : Int32) (t0 : Int32) (t1 : Int32) (H : Heap) (locs : List Loc) (ls : Array Slot) (h : gh_H) (G : gh_Inv D h0 (gh_A h0 s.heap.size) s.heap s H locs h) (hl : gh_L ls 5 [(0, 1, va_rf (some v0)), (1, 1, .int v1), (2, 1, va_rf v2), (4, 1, .int v4)]) (hw : wb_X7_shows_34 D.2.2 K5 Q X v0 v1 v2 v4 t0 t1 h) : W p l e rm_X7_shows s m args below meth c H locs 0 0 (vx_MQ below (gh_Qi Q D h0 s.heap.size) (gh_X X D h0 s.heap.size) args s 0 0 (gh_A h0 s.heap.size)) (F0 m 34 ls [.int t1, .int t0]) := by
  unfold wb_X7_shows_34 at hw
  have hx := M.1.1
  have hb := M.1.2.1
  refine lv_ior hx hb dX7_shows_34 ?_
  refine gh_istore_n (lv' := [(3, 1, .int (t0 ||| t1)), (0, 1, va_rf (some v0)), (1, 1, .int v1), (2, 1, va_rf v2), (4, 1, .int v4)]) hx hb dX7_shows_35 rfl hl (by decide) rfl (fun ls hl => ?_)
  refine gh_iinc (k := 4) (v := (v4 + (1 : Int32))) (lv' := [(4, 1, .int (v4 + (1 : Int32))), (3, 1, .int (t0 ||| t1)), (0, 1, va_rf (some v0)), (1, 1, .int v1), (2, 1, va_rf v2)]) hx hb dX7_shows_36 hl rfl rfl (by decide) rfl (fun ls hl => ?_)
  refine lv_goto (tgt := 5) hx hb dX7_shows_39 (by decide) ?_
  exact k5 v0 v1 v2 (t0 ||| t1) (v4 + (1 : Int32)) _ _ _ _ G (gh_sub hl [2, 3, 4, 1, 0] rfl) hw
set_option maxHeartbeats 4000000 in
theorem wk1_X7_shows_5 {D : gh_D} {p : Program} {l : Launch} {e : Env} {s : State} {m : MethodId} {args : Array Value} {below : List Frame} {meth : Method} {c : Code} {h0 : gh_H} (M : gh_M D p l s m args meth c RX7 cX7_shows 5 (gh_A h0 s.heap.size)) (hr : meth.sig.returnType = (some .boolean)) (hex : ∀ x ∈ c.exceptionTable.toList, False) {K5 : Nat → Int32 → Option Nat → Int32 → Int32 → gh_H → Prop}  {Q : Int32 → gh_H → Prop} {X : String → gh_H → Prop} (k5 : ∀ (v0 : Nat) (v1 : Int32) (v2 : Option Nat) (v3 : Int32) (v4 : Int32) (H : Heap) (locs : List Loc) (ls : Array Slot) (h : gh_H) (_ : gh_Inv D h0 (gh_A h0 s.heap.size) s.heap s H locs h) (_ : gh_L ls 5 [(0, 1, va_rf (some v0)), (1, 1, .int v1), (2, 1, va_rf v2), (3, 1, .int v3), (4, 1, .int v4)]) (_ : K5 v0 v1 v2 v3 v4 h), W p l e rm_X7_shows s m args below meth c H locs 0 0 (vx_MQ below (gh_Qi Q D h0 s.heap.size) (gh_X X D h0 s.heap.size) args s 0 0 (gh_A h0 s.heap.size)) (F0 m 5 ls []))  (v0 : Nat) (v1 : Int32) (v2 : Option Nat) (v3 : Int32) (v4 : Int32) (H : Heap) (locs : List Loc) (ls : Array Slot) (h : gh_H) (G : gh_Inv D h0 (gh_A h0 s.heap.size) s.heap s H locs h) (hl : gh_L ls 5 [(0, 1, va_rf (some v0)), (1, 1, .int v1), (2, 1, va_rf v2), (3, 1, .int v3), (4, 1, .int v4)]) (hw : wb_X7_shows_5 D.2.2 K5 Q X v0 v1 v2 v3 v4 h) : W p l e rm_X7_shows s m args below meth c H locs 0 0 (vx_MQ below (gh_Qi Q D h0 s.heap.size) (gh_X X D h0 s.heap.size) args s 0 0 (gh_A h0 s.heap.size)) (F0 m 5 ls []) := by
  unfold wb_X7_shows_5 at hw
  have hx := M.1.1
  have hb := M.1.2.1
  refine lv_iload hx hb dX7_shows_5 (gh_at hl 4 rfl) ?_
  refine gh_aload_n hx hb dX7_shows_7 rfl (gh_at hl 0 rfl) ?_
  refine gh_getR M G hw fl_X7_21 dX7_shows_8 (fun x1 hw => ?_)
  refine gh_getI M G hw fl_X7_44 dX7_shows_11 (fun x2 hw => ?_)
  refine lv_icmp_ge (tgt := 42) hx hb dX7_shows_14 (by decide) (fun hc => ?_) (fun hc => ?_)
  · replace hw := hw.1 hc
    refine lv_iload_n hx hb dX7_shows_42 rfl (gh_at hl 3 rfl) ?_
    exact gh_iret M G hr hw.1 hw.2 (by exact Nat.le_of_ble_eq_true rfl) (by exact Nat.le_of_ble_eq_true rfl) dX7_shows_43
  · replace hw := hw.2 hc
    refine lv_iload_n hx hb dX7_shows_17 rfl (gh_at hl 3 rfl) ?_
    refine gh_aload_n hx hb dX7_shows_18 rfl (gh_at hl 0 rfl) ?_
    refine lv_iload_n hx hb dX7_shows_19 rfl (gh_at hl 1 rfl) ?_
    refine lv_iload hx hb dX7_shows_20 (gh_at hl 4 rfl) ?_
    obtain ⟨a3, lba3, fsa3, hra3, haa3, hw⟩ := hw
    rw [← Option.some.inj hra3] at haa3
    refine gh_kq G (vx_runV M.1 (met_X7_contentAt l D _ _ _ _ _ _ _ hw M.2.2.2.2.2) (cwV 2 (gh_Mts M) (lw_V q651 q652 q653 q71 q654) rfl rfl rfl ⟨rfl, by decide, by decide, rfl⟩ ⟨Nat.le_of_ble_eq_true rfl, Nat.le_of_ble_eq_true rfl⟩) (gh_preV (As := [.int v1, .int v4]) M G (gh_rec M G haa3 rfl)) rfl rfl hl.1.1 rfl (lv_room (Nat.le_of_ble_eq_true rfl)) dX7_shows_22 ⟨(Nat.le_of_ble_eq_true rfl), (Nat.le_of_ble_eq_true rfl)⟩) (gh_out M hex (by exact Nat.le_of_ble_eq_true rfl) (by exact Nat.le_of_ble_eq_true rfl)) (fun r4 h5 H locs hw G => ?_)
    refine gh_aload_n hx hb dX7_shows_25 rfl (gh_at hl 2 rfl) ?_
    refine lv_acmp_ne (rx := r4) (ry := v2) (tgt := 33) hx hb dX7_shows_26 (by decide) (fun hc => ?_) (fun hc => ?_)
    · replace hw := hw.2 hc
      refine lv_iconst (v := (0 : Int32)) hx hb dX7_shows_33 (by decide) ?_
      exact wk_X7_shows_34 M hr hex k5 v0 v1 v2 v4 v3 (0 : Int32) _ _ _ _ G (gh_sub hl [0, 1, 2, 4] rfl) hw
    · replace hw := hw.1 hc
      refine lv_iconst (v := (1 : Int32)) hx hb dX7_shows_29 (by decide) ?_
      refine lv_goto (tgt := 34) hx hb dX7_shows_30 (by decide) ?_
      exact wk_X7_shows_34 M hr hex k5 v0 v1 v2 v4 v3 (1 : Int32) _ _ _ _ G (gh_sub hl [0, 1, 2, 4] rfl) hw
theorem wk_X7_shows_5 {D : gh_D} {p : Program} {l : Launch} {e : Env} {s : State} {m : MethodId} {args : Array Value} {below : List Frame} {meth : Method} {c : Code} {h0 : gh_H} (M : gh_M D p l s m args meth c RX7 cX7_shows 5 (gh_A h0 s.heap.size)) (hr : meth.sig.returnType = (some .boolean)) (hex : ∀ x ∈ c.exceptionTable.toList, False)   {Q : Int32 → gh_H → Prop} {X : String → gh_H → Prop}   : ∀ (n : Nat) (v0 : Nat) (v1 : Int32) (v2 : Option Nat) (v3 : Int32) (v4 : Int32) (H : Heap) (locs : List Loc) (ls : Array Slot) (h : gh_H) (_ : gh_Inv D h0 (gh_A h0 s.heap.size) s.heap s H locs h) (_ : gh_L ls 5 [(0, 1, va_rf (some v0)), (1, 1, .int v1), (2, 1, va_rf v2), (3, 1, .int v3), (4, 1, .int v4)]) (_ : wl_X7_shows_5 D.2.2 Q X n v0 v1 v2 v3 v4 h), W p l e rm_X7_shows s m args below meth c H locs 0 0 (vx_MQ below (gh_Qi Q D h0 s.heap.size) (gh_X X D h0 s.heap.size) args s 0 0 (gh_A h0 s.heap.size)) (F0 m 5 ls []) := by
  intro fu
  induction fu with
  | zero => intro v0 v1 v2 v3 v4 H locs ls h G hl hw; exact False.elim hw
  | succ n1 ih =>
    intro v0 v1 v2 v3 v4 H locs ls h G hl hw
    exact wk1_X7_shows_5 M hr hex ih  v0 v1 v2 v3 v4 _ _ _ _ G hl hw
set_option maxHeartbeats 4000000 in
theorem met_X7_shows (l : Launch) (D : gh_D) (v0 : Nat) (v1 : Int32) (v2 : Option Nat) (Q : Int32 → gh_H → Prop) (X : String → gh_H → Prop) (h : gh_H) (sz : Nat) (hw : wp_X7_shows D.2.2 v0 v1 v2 Q X h) (hst : l.stackTraces = false) : vx_Met l yX7_shows (ws_ yX7_shows cX7_shows 5 (some .boolean)) rm_X7_shows (gh_Pc D h sz [.ref v0, .int v1, va_rf v2]) (gh_Qi Q D h sz) (gh_X X D h sz) 0 0 (gh_A h sz) := by
  refine vx_ofW (by decide) rfl (fun p e s m args below meth c s₁ B hml hex hP => ?_)
  obtain ⟨rfl, rfl, hK, hT, hE, G⟩ := gh_start hP
  have M : gh_M D p l s m _ meth c RX7 cX7_shows 5 (gh_A h s.heap.size) := ⟨⟨B.exec, B.bytes, hml, findClass_of_methodNamed B.named, fun w hw => atoms_spec (ws := ws_ yX7_shows cX7_shows 5 (some .boolean)) B.pre w (List.mem_cons_of_mem _ hw)⟩, hK, hT, hE, B.notSynchronized, hst⟩
  have hr := B.returns
  have hx := M.1.1
  have hb := M.1.2.1
  refine gh_enter (vs := [(1, .ref v0), (1, .int v1), (1, va_rf v2)]) (gh_w1 rfl (gh_w1 rfl (gh_w1 (gh_cat _) gh_wn))) (Nat.le_of_ble_eq_true rfl) (fun ls hl => ?_)
  replace hl : gh_L ls 5 [(0, 1, va_rf (some v0)), (1, 1, .int v1), (2, 1, va_rf v2)] := hl
  unfold wp_X7_shows at hw
  refine lv_iconst (v := (0 : Int32)) hx hb dX7_shows_0 (by decide) ?_
  refine gh_istore_n (lv' := [(3, 1, .int (0 : Int32)), (0, 1, va_rf (some v0)), (1, 1, .int v1), (2, 1, va_rf v2)]) hx hb dX7_shows_1 rfl hl (by decide) rfl (fun ls hl => ?_)
  refine lv_iconst (v := (0 : Int32)) hx hb dX7_shows_2 (by decide) ?_
  refine gh_istore (lv' := [(4, 1, .int (0 : Int32)), (3, 1, .int (0 : Int32)), (0, 1, va_rf (some v0)), (1, 1, .int v1), (2, 1, va_rf v2)]) hx hb dX7_shows_3 hl (by decide) rfl (fun ls hl => ?_)
  obtain ⟨n, hw⟩ := hw
  exact wk_X7_shows_5 M hr hex  n v0 v1 v2 (0 : Int32) (0 : Int32) _ _ _ _ G (gh_sub hl [2, 3, 4, 1, 0] rfl) hw
/-! BinderyDesk$Counter.count ()J -/
theorem fl_X2_7 : gh_FL RX2 7 [(2, 0), (3, 0)] := by
  intro args s hts tb q hq
  simp only [List.mem_cons, List.not_mem_nil, or_false] at hq
  rcases hq with rfl | rfl
  · exact ⟨_, "BinderyDesk$Counter", rfl, by decide, Or.inl (hts _ q178), (fun x h => h)⟩
  · exact ⟨_, "BinderyDesk$Counter", rfl, by decide, Or.inl (hts _ q178), (fun x h => h)⟩
def rm_X2_count : Room := { frames := 1, cells := 0, slots := 0, locals := 40 }
def wp_X2_count (κ : Nat → Nat) (v0 : Nat) (Q : Int64 → gh_H → Prop) (X : String → gh_H → Prop) (h : gh_H) : Prop := (gh_GJ h (some v0) [(2, 0), (3, 0)] (fun x1 => (Q x1 h)))
set_option maxHeartbeats 4000000 in
theorem met_X2_count (l : Launch) (D : gh_D) (v0 : Nat) (Q : Int64 → gh_H → Prop) (X : String → gh_H → Prop) (h : gh_H) (sz : Nat) (hw : wp_X2_count D.2.2 v0 Q X h) (hst : l.stackTraces = false) : vx_Met l yX2_count (ws_ yX2_count cX2_count 1 (some .long)) rm_X2_count (gh_Pc D h sz [.ref v0]) (gh_Ql Q D h sz) (gh_X X D h sz) 0 0 (gh_A h sz) := by
  refine vx_ofW (by decide) rfl (fun p e s m args below meth c s₁ B hml hex hP => ?_)
  obtain ⟨rfl, rfl, hK, hT, hE, G⟩ := gh_start hP
  have M : gh_M D p l s m _ meth c RX2 cX2_count 1 (gh_A h s.heap.size) := ⟨⟨B.exec, B.bytes, hml, findClass_of_methodNamed B.named, fun w hw => atoms_spec (ws := ws_ yX2_count cX2_count 1 (some .long)) B.pre w (List.mem_cons_of_mem _ hw)⟩, hK, hT, hE, B.notSynchronized, hst⟩
  have hr := B.returns
  have hx := M.1.1
  have hb := M.1.2.1
  refine gh_enter (vs := [(1, .ref v0)]) (gh_w1 rfl gh_wn) (Nat.le_of_ble_eq_true rfl) (fun ls hl => ?_)
  replace hl : gh_L ls 1 [(0, 1, va_rf (some v0))] := hl
  unfold wp_X2_count at hw
  refine gh_aload_n hx hb dX2_count_0 rfl (gh_at hl 0 rfl) ?_
  refine gh_getJ M G hw fl_X2_7 dX2_count_1 (fun x1 hw => ?_)
  exact gh_lret M G hr hw (by exact Nat.le_of_ble_eq_true rfl) (by exact Nat.le_of_ble_eq_true rfl) dX2_count_4
/-! BinderyDesk$Pile.stock ()I -/
def rm_X8_stock : Room := { frames := 2, cells := 0, slots := 0, locals := 60 }
def wp_X8_stock (κ : Nat → Nat) (v0 : Nat) (Q : Int32 → gh_H → Prop) (X : String → gh_H → Prop) (h : gh_H) : Prop := (gh_RC h (some v0) 3 (fun _ => (wp_X2_count κ v0 (fun r2 h3 => (Q (r2.toInt32) h3)) X h)))
set_option maxHeartbeats 4000000 in
theorem met_X8_stock (l : Launch) (D : gh_D) (v0 : Nat) (Q : Int32 → gh_H → Prop) (X : String → gh_H → Prop) (h : gh_H) (sz : Nat) (hw : wp_X8_stock D.2.2 v0 Q X h) (hst : l.stackTraces = false) : vx_Met l yX8_stock (ws_ yX8_stock cX8_stock 1 (some .int)) rm_X8_stock (gh_Pc D h sz [.ref v0]) (gh_Qi Q D h sz) (gh_X X D h sz) 0 0 (gh_A h sz) := by
  refine vx_ofW (by decide) rfl (fun p e s m args below meth c s₁ B hml hex hP => ?_)
  obtain ⟨rfl, rfl, hK, hT, hE, G⟩ := gh_start hP
  have M : gh_M D p l s m _ meth c RX8 cX8_stock 1 (gh_A h s.heap.size) := ⟨⟨B.exec, B.bytes, hml, findClass_of_methodNamed B.named, fun w hw => atoms_spec (ws := ws_ yX8_stock cX8_stock 1 (some .int)) B.pre w (List.mem_cons_of_mem _ hw)⟩, hK, hT, hE, B.notSynchronized, hst⟩
  have hr := B.returns
  have hx := M.1.1
  have hb := M.1.2.1
  refine gh_enter (vs := [(1, .ref v0)]) (gh_w1 rfl gh_wn) (Nat.le_of_ble_eq_true rfl) (fun ls hl => ?_)
  replace hl : gh_L ls 1 [(0, 1, va_rf (some v0))] := hl
  unfold wp_X8_stock at hw
  refine gh_aload_n hx hb dX8_stock_0 rfl (gh_at hl 0 rfl) ?_
  obtain ⟨a1, lba1, fsa1, hra1, haa1, hw⟩ := hw
  rw [← Option.some.inj hra1] at haa1
  refine gh_kl G (vx_runU (C := "BinderyDesk$SheetPile") M.1 (met_X2_count l D _ _ _ _ _ hw M.2.2.2.2.2) (va_cwU 0 (gh_Mts M) (gh_gU q685 q686 q688 q253 q49 q257) rfl rfl rfl rfl ⟨by decide, by decide, rfl⟩ ⟨Nat.le_of_ble_eq_true rfl, Nat.le_of_ble_eq_true rfl⟩) (gh_preV (As := []) M G (gh_rec M G haa1 rfl)) rfl rfl hl.1.1 rfl (lv_room (Nat.le_of_ble_eq_true rfl)) dX8_stock_1 ⟨(Nat.le_of_ble_eq_true rfl), (Nat.le_of_ble_eq_true rfl)⟩) (gh_out M hex (by exact Nat.le_of_ble_eq_true rfl) (by exact Nat.le_of_ble_eq_true rfl)) (fun r2 h3 H locs hw G => ?_)
  refine lv_l2i (v := (r2.toInt32)) hx hb dX8_stock_4 rfl ?_
  exact gh_iret M G hr rfl hw (by exact Nat.le_of_ble_eq_true rfl) (by exact Nat.le_of_ble_eq_true rfl) dX8_stock_5
/-! BinderyDesk$Counter.add (I)V -/
theorem fp_X2_7 : gh_FP RX2 7 [(2, 0), (3, 0)] (.long) false := by
  refine ⟨fl_X2_7, fun q hq => ?_⟩
  simp only [List.mem_cons, List.not_mem_nil, or_false] at hq
  rcases hq with rfl | rfl
  · exact ⟨_, rfl, rfl, by decide +kernel, fun h => by cases h⟩
  · exact ⟨_, rfl, rfl, by decide +kernel, fun h => by cases h⟩
def rm_X2_add : Room := { frames := 1, cells := 0, slots := 0, locals := 40 }
def wp_X2_add (κ : Nat → Nat) (v0 : Nat) (v1 : Int32) (Q : gh_H → Prop) (X : String → gh_H → Prop) (h : gh_H) : Prop := (gh_GJ h (some v0) [(2, 0), (3, 0)] (fun x1 => (gh_PV h (some v0) [(2, 0), (3, 0)] (.long (x1 + (v1.toInt64))) (fun h2 => (Q h2)))))
set_option maxHeartbeats 4000000 in
theorem met_X2_add (l : Launch) (D : gh_D) (v0 : Nat) (v1 : Int32) (Q : gh_H → Prop) (X : String → gh_H → Prop) (h : gh_H) (sz : Nat) (hw : wp_X2_add D.2.2 v0 v1 Q X h) (hst : l.stackTraces = false) : vx_Met l yX2_add (ws_ yX2_add cX2_add 2 none) rm_X2_add (gh_Pc D h sz [.ref v0, .int v1]) (gh_Qv Q D h sz) (gh_X X D h sz) 0 0 (gh_A h sz) := by
  refine vx_ofW (by decide) rfl (fun p e s m args below meth c s₁ B hml hex hP => ?_)
  obtain ⟨rfl, rfl, hK, hT, hE, G⟩ := gh_start hP
  have M : gh_M D p l s m _ meth c RX2 cX2_add 2 (gh_A h s.heap.size) := ⟨⟨B.exec, B.bytes, hml, findClass_of_methodNamed B.named, fun w hw => atoms_spec (ws := ws_ yX2_add cX2_add 2 none) B.pre w (List.mem_cons_of_mem _ hw)⟩, hK, hT, hE, B.notSynchronized, hst⟩
  have hr := B.returns
  have hx := M.1.1
  have hb := M.1.2.1
  refine gh_enter (vs := [(1, .ref v0), (1, .int v1)]) (gh_w1 rfl (gh_w1 rfl gh_wn)) (Nat.le_of_ble_eq_true rfl) (fun ls hl => ?_)
  replace hl : gh_L ls 2 [(0, 1, va_rf (some v0)), (1, 1, .int v1)] := hl
  unfold wp_X2_add at hw
  refine gh_aload_n hx hb dX2_add_0 rfl (gh_at hl 0 rfl) ?_
  refine lv_dup hx hb dX2_add_1 (gh_cat _) ?_
  refine gh_getJ M G hw fl_X2_7 dX2_add_2 (fun x1 hw => ?_)
  refine lv_iload_n hx hb dX2_add_5 rfl (gh_at hl 1 rfl) ?_
  refine lv_i2l (v := (v1.toInt64)) hx hb dX2_add_6 rfl ?_
  refine lv_ladd hx hb dX2_add_7 ?_
  refine gh_put M G hw fp_X2_7 rfl rfl dX2_add_8 (fun h2 H locs hw G => ?_)
  exact gh_vret M G hr hw (by exact Nat.le_of_ble_eq_true rfl) (by exact Nat.le_of_ble_eq_true rfl) dX2_add_11
/-! BinderyDesk$SheetPile.take (I)V -/
def rm_X9_take : Room := { frames := 2, cells := 0, slots := 0, locals := 61 }
def wp_X9_take (κ : Nat → Nat) (v0 : Nat) (v1 : Int32) (Q : gh_H → Prop) (X : String → gh_H → Prop) (h : gh_H) : Prop := (gh_RC h (some v0) 3 (fun _ => (wp_X2_add κ v0 (-v1) (fun h2 => (Q h2)) X h)))
set_option maxHeartbeats 4000000 in
theorem met_X9_take (l : Launch) (D : gh_D) (v0 : Nat) (v1 : Int32) (Q : gh_H → Prop) (X : String → gh_H → Prop) (h : gh_H) (sz : Nat) (hw : wp_X9_take D.2.2 v0 v1 Q X h) (hst : l.stackTraces = false) : vx_Met l yX9_take (ws_ yX9_take cX9_take 2 none) rm_X9_take (gh_Pc D h sz [.ref v0, .int v1]) (gh_Qv Q D h sz) (gh_X X D h sz) 0 0 (gh_A h sz) := by
  refine vx_ofW (by decide) rfl (fun p e s m args below meth c s₁ B hml hex hP => ?_)
  obtain ⟨rfl, rfl, hK, hT, hE, G⟩ := gh_start hP
  have M : gh_M D p l s m _ meth c RX9 cX9_take 2 (gh_A h s.heap.size) := ⟨⟨B.exec, B.bytes, hml, findClass_of_methodNamed B.named, fun w hw => atoms_spec (ws := ws_ yX9_take cX9_take 2 none) B.pre w (List.mem_cons_of_mem _ hw)⟩, hK, hT, hE, B.notSynchronized, hst⟩
  have hr := B.returns
  have hx := M.1.1
  have hb := M.1.2.1
  refine gh_enter (vs := [(1, .ref v0), (1, .int v1)]) (gh_w1 rfl (gh_w1 rfl gh_wn)) (Nat.le_of_ble_eq_true rfl) (fun ls hl => ?_)
  replace hl : gh_L ls 2 [(0, 1, va_rf (some v0)), (1, 1, .int v1)] := hl
  unfold wp_X9_take at hw
  refine gh_aload_n hx hb dX9_take_0 rfl (gh_at hl 0 rfl) ?_
  refine lv_iload_n hx hb dX9_take_1 rfl (gh_at hl 1 rfl) ?_
  refine lv_ineg hx hb dX9_take_2 ?_
  obtain ⟨a1, lba1, fsa1, hra1, haa1, hw⟩ := hw
  rw [← Option.some.inj hra1] at haa1
  refine gh_kv G (gh_runSP (C := "BinderyDesk$SheetPile") M (met_X2_add l D _ _ _ _ _ _ hw M.2.2.2.2.2) (lw_meth q699) rfl rfl rfl ⟨Nat.le_of_ble_eq_true rfl, Nat.le_of_ble_eq_true rfl⟩ q693 q694 q696 q697 rfl q698 q49 (by decide) rfl (gh_preV (As := [.int (-v1)]) M G (gh_rec M G haa1 rfl)) rfl hl.1.1 rfl (Nat.le_of_ble_eq_true rfl) dX9_take_3 ⟨(Nat.le_of_ble_eq_true rfl), (Nat.le_of_ble_eq_true rfl)⟩) (gh_out M hex (by exact Nat.le_of_ble_eq_true rfl) (by exact Nat.le_of_ble_eq_true rfl)) (fun h2 H locs hw G => ?_)
  exact gh_vret M G hr hw (by exact Nat.le_of_ble_eq_true rfl) (by exact Nat.le_of_ble_eq_true rfl) dX9_take_6
/-! BinderyDesk$SheetPile.takeAll ()I -/
def rm_X9_takeAll : Room := { frames := 3, cells := 0, slots := 0, locals := 82 }
def wp_X9_takeAll (κ : Nat → Nat) (v0 : Nat) (Q : Int32 → gh_H → Prop) (X : String → gh_H → Prop) (h : gh_H) : Prop := (gh_RC h (some v0) 3 (fun _ => (wp_X8_stock κ v0 (fun r2 h3 => (gh_RC h3 (some v0) 3 (fun _ => (wp_X9_take κ v0 r2 (fun h5 => (Q r2 h5)) X h3)))) X h)))
set_option maxHeartbeats 4000000 in
theorem met_X9_takeAll (l : Launch) (D : gh_D) (v0 : Nat) (Q : Int32 → gh_H → Prop) (X : String → gh_H → Prop) (h : gh_H) (sz : Nat) (hw : wp_X9_takeAll D.2.2 v0 Q X h) (hst : l.stackTraces = false) : vx_Met l yX9_takeAll (ws_ yX9_takeAll cX9_takeAll 2 (some .int)) rm_X9_takeAll (gh_Pc D h sz [.ref v0]) (gh_Qi Q D h sz) (gh_X X D h sz) 0 0 (gh_A h sz) := by
  refine vx_ofW (by decide) rfl (fun p e s m args below meth c s₁ B hml hex hP => ?_)
  obtain ⟨rfl, rfl, hK, hT, hE, G⟩ := gh_start hP
  have M : gh_M D p l s m _ meth c RX9 cX9_takeAll 2 (gh_A h s.heap.size) := ⟨⟨B.exec, B.bytes, hml, findClass_of_methodNamed B.named, fun w hw => atoms_spec (ws := ws_ yX9_takeAll cX9_takeAll 2 (some .int)) B.pre w (List.mem_cons_of_mem _ hw)⟩, hK, hT, hE, B.notSynchronized, hst⟩
  have hr := B.returns
  have hx := M.1.1
  have hb := M.1.2.1
  refine gh_enter (vs := [(1, .ref v0)]) (gh_w1 rfl gh_wn) (Nat.le_of_ble_eq_true rfl) (fun ls hl => ?_)
  replace hl : gh_L ls 2 [(0, 1, va_rf (some v0))] := hl
  unfold wp_X9_takeAll at hw
  refine gh_aload_n hx hb dX9_takeAll_0 rfl (gh_at hl 0 rfl) ?_
  obtain ⟨a1, lba1, fsa1, hra1, haa1, hw⟩ := hw
  rw [← Option.some.inj hra1] at haa1
  refine gh_ki G (vx_runU (C := "BinderyDesk$SheetPile") M.1 (met_X8_stock l D _ _ _ _ _ hw M.2.2.2.2.2) (va_cwU 0 (gh_Mts M) (gh_gU q679 q680 q682 q683 q72 q684) rfl rfl rfl rfl ⟨by decide, by decide, rfl⟩ ⟨Nat.le_of_ble_eq_true rfl, Nat.le_of_ble_eq_true rfl⟩) (gh_preV (As := []) M G (gh_rec M G haa1 rfl)) rfl rfl hl.1.1 rfl (lv_room (Nat.le_of_ble_eq_true rfl)) dX9_takeAll_1 ⟨(Nat.le_of_ble_eq_true rfl), (Nat.le_of_ble_eq_true rfl)⟩) (gh_out M hex (by exact Nat.le_of_ble_eq_true rfl) (by exact Nat.le_of_ble_eq_true rfl)) (fun r2 h3 H locs hw G => ?_)
  refine gh_istore_n (lv' := [(1, 1, .int r2), (0, 1, va_rf (some v0))]) hx hb dX9_takeAll_4 rfl hl (by decide) rfl (fun ls hl => ?_)
  refine gh_aload_n hx hb dX9_takeAll_5 rfl (gh_at hl 1 rfl) ?_
  refine lv_iload_n hx hb dX9_takeAll_6 rfl (gh_at hl 0 rfl) ?_
  obtain ⟨a4, lba4, fsa4, hra4, haa4, hw⟩ := hw
  rw [← Option.some.inj hra4] at haa4
  refine gh_kv G (vx_runV M.1 (met_X9_take l D _ _ _ _ _ _ hw M.2.2.2.2.2) (cwV 1 (gh_Mts M) (lw_V q689 q690 q691 q73 q692) rfl rfl rfl ⟨rfl, by decide, by decide, rfl⟩ ⟨Nat.le_of_ble_eq_true rfl, Nat.le_of_ble_eq_true rfl⟩) (gh_preV (As := [.int r2]) M G (gh_rec M G haa4 rfl)) rfl rfl hl.1.1 rfl (lv_room (Nat.le_of_ble_eq_true rfl)) dX9_takeAll_7 ⟨(Nat.le_of_ble_eq_true rfl), (Nat.le_of_ble_eq_true rfl)⟩) (gh_out M hex (by exact Nat.le_of_ble_eq_true rfl) (by exact Nat.le_of_ble_eq_true rfl)) (fun h5 H locs hw G => ?_)
  refine lv_iload_n hx hb dX9_takeAll_10 rfl (gh_at hl 0 rfl) ?_
  exact gh_iret M G hr rfl hw (by exact Nat.le_of_ble_eq_true rfl) (by exact Nat.le_of_ble_eq_true rfl) dX9_takeAll_11
/-! BinderyDesk$Job.takeOff (LBinderyDesk$Content;)I -/
theorem fl_X7_18 : gh_FL RX7 18 [(7, 2)] := by
  intro args s hts tb q hq
  simp only [List.mem_cons, List.not_mem_nil, or_false] at hq
  subst hq
  exact ⟨_, "BinderyDesk$Job", rfl, by decide, Or.inl (hts _ q775), (fun x h => h)⟩
def rm_X7_takeOff : Room := { frames := 6, cells := 0, slots := 0, locals := 150 }
def wb_X7_takeOff_61 (κ : Nat → Nat)  (Q : Int32 → gh_H → Prop) (X : String → gh_H → Prop) (v2 : Int32) (h : gh_H) : Prop := (Q v2 h)
def wb_X7_takeOff_53 (κ : Nat → Nat) (K4 : Nat → Option Nat → Int32 → Int32 → gh_H → Prop) (Q : Int32 → gh_H → Prop) (X : String → gh_H → Prop) (v0 : Nat) (v1 : Option Nat) (v3 : Int32) (t0 : Int32) (t1 : Int32) (h : gh_H) : Prop := K4 v0 v1 (t0 + t1) (v3 + (1 : Int32)) h
def wb_X7_takeOff_33 (κ : Nat → Nat) (K4 : Nat → Option Nat → Int32 → Int32 → gh_H → Prop) (Q : Int32 → gh_H → Prop) (X : String → gh_H → Prop) (v0 : Nat) (v1 : Option Nat) (v3 : Int32) (t0 : Int32) (h : gh_H) : Prop := (gh_GR h (some v0) [(7, 2)] (fun x1 => (gh_RC h x1 8 (fun a2 => (wp_J2_get κ a2 v3 (fun r3 h4 => (gh_CK h4 r3 [3] (gh_RC h4 r3 3 (fun a5 => (wp_X9_takeAll κ a5 (fun r6 h7 => wb_X7_takeOff_53 κ K4 Q X v0 v1 v3 t0 r6 h7) X h4))))) X h)))))
def wb_X7_takeOff_4 (κ : Nat → Nat) (K4 : Nat → Option Nat → Int32 → Int32 → gh_H → Prop) (Q : Int32 → gh_H → Prop) (X : String → gh_H → Prop) (v0 : Nat) (v1 : Option Nat) (v2 : Int32) (v3 : Int32) (h : gh_H) : Prop := (gh_RC h (some v0) 7 (fun _ => (wp_X7_isComplete κ v0 (fun r2 h3 => ((r2 = 0 → wb_X7_takeOff_61 κ Q X v2 h3) ∧ (¬ r2 = 0 → (gh_RC h3 (some v0) 7 (fun _ => (wp_X7_sheets κ v0 (fun r5 h6 => ((r5 ≤ v3 → wb_X7_takeOff_61 κ Q X v2 h6) ∧ (¬ r5 ≤ v3 → ((v1 = none → wb_X7_takeOff_33 κ K4 Q X v0 v1 v3 v2 h6) ∧ (¬ v1 = none → (gh_RC h6 (some v0) 7 (fun _ => (wp_X7_shows κ v0 v3 v1 (fun r8 h9 => ((r8 = 0 → wb_X7_takeOff_53 κ K4 Q X v0 v1 v3 v2 (0 : Int32) h9) ∧ (¬ r8 = 0 → wb_X7_takeOff_33 κ K4 Q X v0 v1 v3 v2 h9))) X h6)))))))) X h3)))))) X h)))
def wl_X7_takeOff_4 (κ : Nat → Nat)  (Q : Int32 → gh_H → Prop) (X : String → gh_H → Prop) : Nat → Nat → Option Nat → Int32 → Int32 → gh_H → Prop
  | 0 => fun _ _ _ _ _ => False
  | n + 1 => fun v0 v1 v2 v3 h => wb_X7_takeOff_4 κ (wl_X7_takeOff_4 κ Q X n) Q X v0 v1 v2 v3 h
def wp_X7_takeOff (κ : Nat → Nat) (v0 : Nat) (v1 : Option Nat) (Q : Int32 → gh_H → Prop) (X : String → gh_H → Prop) (h : gh_H) : Prop := (∃ n : Nat, wl_X7_takeOff_4 κ Q X n v0 v1 (0 : Int32) (0 : Int32) h)
set_option maxHeartbeats 4000000 in
theorem wk_X7_takeOff_61 {D : gh_D} {p : Program} {l : Launch} {e : Env} {s : State} {m : MethodId} {args : Array Value} {below : List Frame} {meth : Method} {c : Code} {h0 : gh_H} (M : gh_M D p l s m args meth c RX7 cX7_takeOff 4 (gh_A h0 s.heap.size)) (hr : meth.sig.returnType = (some .int)) (hex : ∀ x ∈ c.exceptionTable.toList, False)   {Q : Int32 → gh_H → Prop} {X : String → gh_H → Prop}   (v2 : Int32) (H : Heap) (locs : List Loc) (ls : Array Slot) (h : gh_H) (G : gh_Inv D h0 (gh_A h0 s.heap.size) s.heap s H locs h) (hl : gh_L ls 4 [(2, 1, .int v2)]) (hw : wb_X7_takeOff_61 D.2.2 Q X v2 h) : W p l e rm_X7_takeOff s m args below meth c H locs 0 0 (vx_MQ below (gh_Qi Q D h0 s.heap.size) (gh_X X D h0 s.heap.size) args s 0 0 (gh_A h0 s.heap.size)) (F0 m 61 ls []) := by
  unfold wb_X7_takeOff_61 at hw
  have hx := M.1.1
  have hb := M.1.2.1
  refine lv_iload_n hx hb dX7_takeOff_61 rfl (gh_at hl 0 rfl) ?_
  exact gh_iret M G hr rfl hw (by exact Nat.le_of_ble_eq_true rfl) (by exact Nat.le_of_ble_eq_true rfl) dX7_takeOff_62
set_option maxHeartbeats 4000000 in
theorem wk_X7_takeOff_53 {D : gh_D} {p : Program} {l : Launch} {e : Env} {s : State} {m : MethodId} {args : Array Value} {below : List Frame} {meth : Method} {c : Code} {h0 : gh_H} (M : gh_M D p l s m args meth c RX7 cX7_takeOff 4 (gh_A h0 s.heap.size)) (hr : meth.sig.returnType = (some .int)) (hex : ∀ x ∈ c.exceptionTable.toList, False) {K4 : Nat → Option Nat → Int32 → Int32 → gh_H → Prop}  {Q : Int32 → gh_H → Prop} {X : String → gh_H → Prop} (k4 : ∀ (v0 : Nat) (v1 : Option Nat) (v2 : Int32) (v3 : Int32) (H : Heap) (locs : List Loc) (ls : Array Slot) (h : gh_H) (_ : gh_Inv D h0 (gh_A h0 s.heap.size) s.heap s H locs h) (_ : gh_L ls 4 [(0, 1, va_rf (some v0)), (1, 1, va_rf v1), (2, 1, .int v2), (3, 1, .int v3)]) (_ : K4 v0 v1 v2 v3 h), W p l e rm_X7_takeOff s m args below meth c H locs 0 0 (vx_MQ below (gh_Qi Q D h0 s.heap.size) (gh_X X D h0 s.heap.size) args s 0 0 (gh_A h0 s.heap.size)) (F0 m 4 ls []))  (v0 : Nat) (v1 : Option Nat) (v3 : Int32) (t0 : Int32) (t1 : Int32) (H : Heap) (locs : List Loc) (ls : Array Slot) (h : gh_H) (G : gh_Inv D h0 (gh_A h0 s.heap.size) s.heap s H locs h) (hl : gh_L ls 4 [(0, 1, va_rf (some v0)), (1, 1, va_rf v1), (3, 1, .int v3)]) (hw : wb_X7_takeOff_53 D.2.2 K4 Q X v0 v1 v3 t0 t1 h) : W p l e rm_X7_takeOff s m args below meth c H locs 0 0 (vx_MQ below (gh_Qi Q D h0 s.heap.size) (gh_X X D h0 s.heap.size) args s 0 0 (gh_A h0 s.heap.size)) (F0 m 53 ls [.int t1, .int t0]) := by
  unfold wb_X7_takeOff_53 at hw
  have hx := M.1.1
  have hb := M.1.2.1
  refine lv_iadd hx hb dX7_takeOff_53 ?_
  refine gh_istore_n (lv' := [(2, 1, .int (t0 + t1)), (0, 1, va_rf (some v0)), (1, 1, va_rf v1), (3, 1, .int v3)]) hx hb dX7_takeOff_54 rfl hl (by decide) rfl (fun ls hl => ?_)
  refine gh_iinc (k := 3) (v := (v3 + (1 : Int32))) (lv' := [(3, 1, .int (v3 + (1 : Int32))), (2, 1, .int (t0 + t1)), (0, 1, va_rf (some v0)), (1, 1, va_rf v1)]) hx hb dX7_takeOff_55 hl rfl rfl (by decide) rfl (fun ls hl => ?_)
  refine lv_goto (tgt := 4) hx hb dX7_takeOff_58 (by decide) ?_
  exact k4 v0 v1 (t0 + t1) (v3 + (1 : Int32)) _ _ _ _ G (gh_sub hl [2, 3, 1, 0] rfl) hw
set_option maxHeartbeats 4000000 in
theorem wk_X7_takeOff_33 {D : gh_D} {p : Program} {l : Launch} {e : Env} {s : State} {m : MethodId} {args : Array Value} {below : List Frame} {meth : Method} {c : Code} {h0 : gh_H} (M : gh_M D p l s m args meth c RX7 cX7_takeOff 4 (gh_A h0 s.heap.size)) (hr : meth.sig.returnType = (some .int)) (hex : ∀ x ∈ c.exceptionTable.toList, False) {K4 : Nat → Option Nat → Int32 → Int32 → gh_H → Prop}  {Q : Int32 → gh_H → Prop} {X : String → gh_H → Prop} (k4 : ∀ (v0 : Nat) (v1 : Option Nat) (v2 : Int32) (v3 : Int32) (H : Heap) (locs : List Loc) (ls : Array Slot) (h : gh_H) (_ : gh_Inv D h0 (gh_A h0 s.heap.size) s.heap s H locs h) (_ : gh_L ls 4 [(0, 1, va_rf (some v0)), (1, 1, va_rf v1), (2, 1, .int v2), (3, 1, .int v3)]) (_ : K4 v0 v1 v2 v3 h), W p l e rm_X7_takeOff s m args below meth c H locs 0 0 (vx_MQ below (gh_Qi Q D h0 s.heap.size) (gh_X X D h0 s.heap.size) args s 0 0 (gh_A h0 s.heap.size)) (F0 m 4 ls []))  (v0 : Nat) (v1 : Option Nat) (v3 : Int32) (t0 : Int32) (H : Heap) (locs : List Loc) (ls : Array Slot) (h : gh_H) (G : gh_Inv D h0 (gh_A h0 s.heap.size) s.heap s H locs h) (hl : gh_L ls 4 [(0, 1, va_rf (some v0)), (1, 1, va_rf v1), (3, 1, .int v3)]) (hw : wb_X7_takeOff_33 D.2.2 K4 Q X v0 v1 v3 t0 h) : W p l e rm_X7_takeOff s m args below meth c H locs 0 0 (vx_MQ below (gh_Qi Q D h0 s.heap.size) (gh_X X D h0 s.heap.size) args s 0 0 (gh_A h0 s.heap.size)) (F0 m 33 ls [.int t0]) := by
  unfold wb_X7_takeOff_33 at hw
  have hx := M.1.1
  have hb := M.1.2.1
  refine gh_aload_n hx hb dX7_takeOff_33 rfl (gh_at hl 0 rfl) ?_
  refine gh_getR M G hw fl_X7_18 dX7_takeOff_34 (fun x1 hw => ?_)
  refine lv_iload_n hx hb dX7_takeOff_37 rfl (gh_at hl 2 rfl) ?_
  obtain ⟨a2, lba2, fsa2, rfl, haa2, hw⟩ := hw
  refine gh_kFq G (vx_runF (C := "java/util/ArrayList") (M.2.1.1.1 8 _ rfl).2 M.1 (met_J2_get l D _ _ _ _ _ _ hw M.2.2.2.2.2) (va_cwF 1 (gh_Mts M) (gh_gF q672 q502 q504 q44 q506) rfl rfl rfl (M.2.2.1.2.1 _ (List.mem_of_getElem? (i := 6) rfl)) ⟨by decide, by decide, rfl⟩ ⟨Nat.le_of_ble_eq_true rfl, Nat.le_of_ble_eq_true rfl⟩) (gh_preV (As := [.int v3]) M G (gh_rec M G haa2 rfl)) rfl rfl hl.1.1 rfl (lv_room (Nat.le_of_ble_eq_true rfl)) dX7_takeOff_38 ⟨(Nat.le_of_ble_eq_true rfl), (Nat.le_of_ble_eq_true rfl)⟩) (gh_out M hex (by exact Nat.le_of_ble_eq_true rfl) (by exact Nat.le_of_ble_eq_true rfl)) (fun r3 h4 H locs hw G => ?_)
  refine gh_cast (cis := [3]) M G hw q674 (List.forall_mem_cons.mpr ⟨⟨_, rfl, Or.inl ⟨rfl, rfl⟩⟩, fun _ h => absurd h List.not_mem_nil⟩) dX7_takeOff_43 (fun hw => ?_)
  obtain ⟨a5, lba5, fsa5, rfl, haa5, hw⟩ := hw
  refine gh_ki G (vx_runV M.1 (met_X9_takeAll l D _ _ _ _ _ hw M.2.2.2.2.2) (cwV 0 (gh_Mts M) (lw_V q675 q676 q677 q73 q678) rfl rfl rfl ⟨rfl, by decide, by decide, rfl⟩ ⟨Nat.le_of_ble_eq_true rfl, Nat.le_of_ble_eq_true rfl⟩) (gh_preV (As := []) M G (gh_rec M G haa5 rfl)) rfl rfl hl.1.1 rfl (lv_room (Nat.le_of_ble_eq_true rfl)) dX7_takeOff_46 ⟨(Nat.le_of_ble_eq_true rfl), (Nat.le_of_ble_eq_true rfl)⟩) (gh_out M hex (by exact Nat.le_of_ble_eq_true rfl) (by exact Nat.le_of_ble_eq_true rfl)) (fun r6 h7 H locs hw G => ?_)
  refine lv_goto (tgt := 53) hx hb dX7_takeOff_49 (by decide) ?_
  exact wk_X7_takeOff_53 M hr hex k4 v0 v1 v3 t0 r6 _ _ _ _ G (gh_sub hl [0, 1, 2] rfl) hw
set_option maxHeartbeats 4000000 in
theorem wk1_X7_takeOff_4 {D : gh_D} {p : Program} {l : Launch} {e : Env} {s : State} {m : MethodId} {args : Array Value} {below : List Frame} {meth : Method} {c : Code} {h0 : gh_H} (M : gh_M D p l s m args meth c RX7 cX7_takeOff 4 (gh_A h0 s.heap.size)) (hr : meth.sig.returnType = (some .int)) (hex : ∀ x ∈ c.exceptionTable.toList, False) {K4 : Nat → Option Nat → Int32 → Int32 → gh_H → Prop}  {Q : Int32 → gh_H → Prop} {X : String → gh_H → Prop} (k4 : ∀ (v0 : Nat) (v1 : Option Nat) (v2 : Int32) (v3 : Int32) (H : Heap) (locs : List Loc) (ls : Array Slot) (h : gh_H) (_ : gh_Inv D h0 (gh_A h0 s.heap.size) s.heap s H locs h) (_ : gh_L ls 4 [(0, 1, va_rf (some v0)), (1, 1, va_rf v1), (2, 1, .int v2), (3, 1, .int v3)]) (_ : K4 v0 v1 v2 v3 h), W p l e rm_X7_takeOff s m args below meth c H locs 0 0 (vx_MQ below (gh_Qi Q D h0 s.heap.size) (gh_X X D h0 s.heap.size) args s 0 0 (gh_A h0 s.heap.size)) (F0 m 4 ls []))  (v0 : Nat) (v1 : Option Nat) (v2 : Int32) (v3 : Int32) (H : Heap) (locs : List Loc) (ls : Array Slot) (h : gh_H) (G : gh_Inv D h0 (gh_A h0 s.heap.size) s.heap s H locs h) (hl : gh_L ls 4 [(0, 1, va_rf (some v0)), (1, 1, va_rf v1), (2, 1, .int v2), (3, 1, .int v3)]) (hw : wb_X7_takeOff_4 D.2.2 K4 Q X v0 v1 v2 v3 h) : W p l e rm_X7_takeOff s m args below meth c H locs 0 0 (vx_MQ below (gh_Qi Q D h0 s.heap.size) (gh_X X D h0 s.heap.size) args s 0 0 (gh_A h0 s.heap.size)) (F0 m 4 ls []) := by
  unfold wb_X7_takeOff_4 at hw
  have hx := M.1.1
  have hb := M.1.2.1
  refine gh_aload_n hx hb dX7_takeOff_4 rfl (gh_at hl 0 rfl) ?_
  obtain ⟨a1, lba1, fsa1, hra1, haa1, hw⟩ := hw
  rw [← Option.some.inj hra1] at haa1
  refine gh_ki G (vx_runV M.1 (met_X7_isComplete l D _ _ _ _ _ hw M.2.2.2.2.2) (cwV 0 (gh_Mts M) (lw_V q628 q629 q630 q71 q631) rfl rfl rfl ⟨rfl, by decide, by decide, rfl⟩ ⟨Nat.le_of_ble_eq_true rfl, Nat.le_of_ble_eq_true rfl⟩) (gh_preV (As := []) M G (gh_rec M G haa1 rfl)) rfl rfl hl.1.1 rfl (lv_room (Nat.le_of_ble_eq_true rfl)) dX7_takeOff_5 ⟨(Nat.le_of_ble_eq_true rfl), (Nat.le_of_ble_eq_true rfl)⟩) (gh_out M hex (by exact Nat.le_of_ble_eq_true rfl) (by exact Nat.le_of_ble_eq_true rfl)) (fun r2 h3 H locs hw G => ?_)
  refine lv_if_eq (tgt := 61) hx hb dX7_takeOff_8 (by decide) (fun hc => ?_) (fun hc => ?_)
  · replace hw := hw.1 hc
    exact wk_X7_takeOff_61 M hr hex  v2 _ _ _ _ G (gh_sub hl [2] rfl) hw
  · replace hw := hw.2 hc
    refine lv_iload_n hx hb dX7_takeOff_11 rfl (gh_at hl 3 rfl) ?_
    refine gh_aload_n hx hb dX7_takeOff_12 rfl (gh_at hl 0 rfl) ?_
    obtain ⟨a4, lba4, fsa4, hra4, haa4, hw⟩ := hw
    rw [← Option.some.inj hra4] at haa4
    refine gh_ki G (vx_runV M.1 (met_X7_sheets l D _ _ _ _ _ hw M.2.2.2.2.2) (cwV 0 (gh_Mts M) (lw_V q643 q644 q645 q71 q646) rfl rfl rfl ⟨rfl, by decide, by decide, rfl⟩ ⟨Nat.le_of_ble_eq_true rfl, Nat.le_of_ble_eq_true rfl⟩) (gh_preV (As := []) M G (gh_rec M G haa4 rfl)) rfl rfl hl.1.1 rfl (lv_room (Nat.le_of_ble_eq_true rfl)) dX7_takeOff_13 ⟨(Nat.le_of_ble_eq_true rfl), (Nat.le_of_ble_eq_true rfl)⟩) (gh_out M hex (by exact Nat.le_of_ble_eq_true rfl) (by exact Nat.le_of_ble_eq_true rfl)) (fun r5 h6 H locs hw G => ?_)
    refine lv_icmp_ge (tgt := 61) hx hb dX7_takeOff_16 (by decide) (fun hc => ?_) (fun hc => ?_)
    · replace hw := hw.1 hc
      exact wk_X7_takeOff_61 M hr hex  v2 _ _ _ _ G (gh_sub hl [2] rfl) hw
    · replace hw := hw.2 hc
      refine lv_iload_n hx hb dX7_takeOff_19 rfl (gh_at hl 2 rfl) ?_
      refine gh_aload_n hx hb dX7_takeOff_20 rfl (gh_at hl 1 rfl) ?_
      refine gh_ifnull (tgt := 33) hx hb dX7_takeOff_21 (by decide) (fun hc => ?_) (fun hc => ?_)
      · replace hw := hw.1 hc
        exact wk_X7_takeOff_33 M hr hex k4 v0 v1 v3 v2 _ _ _ _ G (gh_sub hl [0, 1, 3] rfl) hw
      · replace hw := hw.2 hc
        refine gh_aload_n hx hb dX7_takeOff_24 rfl (gh_at hl 0 rfl) ?_
        refine lv_iload_n hx hb dX7_takeOff_25 rfl (gh_at hl 3 rfl) ?_
        refine gh_aload_n hx hb dX7_takeOff_26 rfl (gh_at hl 1 rfl) ?_
        obtain ⟨a7, lba7, fsa7, hra7, haa7, hw⟩ := hw
        rw [← Option.some.inj hra7] at haa7
        refine gh_ki G (vx_runV M.1 (met_X7_shows l D _ _ _ _ _ _ _ hw M.2.2.2.2.2) (cwV 2 (gh_Mts M) (lw_V q647 q648 q649 q71 q650) rfl rfl rfl ⟨rfl, by decide, by decide, rfl⟩ ⟨Nat.le_of_ble_eq_true rfl, Nat.le_of_ble_eq_true rfl⟩) (gh_preV (As := [.int v3, va_rf v1]) M G (gh_rec M G haa7 rfl)) rfl rfl hl.1.1 rfl (lv_room (Nat.le_of_ble_eq_true rfl)) dX7_takeOff_27 ⟨(Nat.le_of_ble_eq_true rfl), (Nat.le_of_ble_eq_true rfl)⟩) (gh_out M hex (by exact Nat.le_of_ble_eq_true rfl) (by exact Nat.le_of_ble_eq_true rfl)) (fun r8 h9 H locs hw G => ?_)
        refine lv_if_eq (tgt := 52) hx hb dX7_takeOff_30 (by decide) (fun hc => ?_) (fun hc => ?_)
        · replace hw := hw.1 hc
          refine lv_iconst (v := (0 : Int32)) hx hb dX7_takeOff_52 (by decide) ?_
          exact wk_X7_takeOff_53 M hr hex k4 v0 v1 v3 v2 (0 : Int32) _ _ _ _ G (gh_sub hl [0, 1, 3] rfl) hw
        · replace hw := hw.2 hc
          exact wk_X7_takeOff_33 M hr hex k4 v0 v1 v3 v2 _ _ _ _ G (gh_sub hl [0, 1, 3] rfl) hw
theorem wk_X7_takeOff_4 {D : gh_D} {p : Program} {l : Launch} {e : Env} {s : State} {m : MethodId} {args : Array Value} {below : List Frame} {meth : Method} {c : Code} {h0 : gh_H} (M : gh_M D p l s m args meth c RX7 cX7_takeOff 4 (gh_A h0 s.heap.size)) (hr : meth.sig.returnType = (some .int)) (hex : ∀ x ∈ c.exceptionTable.toList, False)   {Q : Int32 → gh_H → Prop} {X : String → gh_H → Prop}   : ∀ (n : Nat) (v0 : Nat) (v1 : Option Nat) (v2 : Int32) (v3 : Int32) (H : Heap) (locs : List Loc) (ls : Array Slot) (h : gh_H) (_ : gh_Inv D h0 (gh_A h0 s.heap.size) s.heap s H locs h) (_ : gh_L ls 4 [(0, 1, va_rf (some v0)), (1, 1, va_rf v1), (2, 1, .int v2), (3, 1, .int v3)]) (_ : wl_X7_takeOff_4 D.2.2 Q X n v0 v1 v2 v3 h), W p l e rm_X7_takeOff s m args below meth c H locs 0 0 (vx_MQ below (gh_Qi Q D h0 s.heap.size) (gh_X X D h0 s.heap.size) args s 0 0 (gh_A h0 s.heap.size)) (F0 m 4 ls []) := by
  intro fu
  induction fu with
  | zero => intro v0 v1 v2 v3 H locs ls h G hl hw; exact False.elim hw
  | succ n1 ih =>
    intro v0 v1 v2 v3 H locs ls h G hl hw
    exact wk1_X7_takeOff_4 M hr hex ih  v0 v1 v2 v3 _ _ _ _ G hl hw
set_option maxHeartbeats 4000000 in
theorem met_X7_takeOff (l : Launch) (D : gh_D) (v0 : Nat) (v1 : Option Nat) (Q : Int32 → gh_H → Prop) (X : String → gh_H → Prop) (h : gh_H) (sz : Nat) (hw : wp_X7_takeOff D.2.2 v0 v1 Q X h) (hst : l.stackTraces = false) : vx_Met l yX7_takeOff (ws_ yX7_takeOff cX7_takeOff 4 (some .int)) rm_X7_takeOff (gh_Pc D h sz [.ref v0, va_rf v1]) (gh_Qi Q D h sz) (gh_X X D h sz) 0 0 (gh_A h sz) := by
  refine vx_ofW (by decide) rfl (fun p e s m args below meth c s₁ B hml hex hP => ?_)
  obtain ⟨rfl, rfl, hK, hT, hE, G⟩ := gh_start hP
  have M : gh_M D p l s m _ meth c RX7 cX7_takeOff 4 (gh_A h s.heap.size) := ⟨⟨B.exec, B.bytes, hml, findClass_of_methodNamed B.named, fun w hw => atoms_spec (ws := ws_ yX7_takeOff cX7_takeOff 4 (some .int)) B.pre w (List.mem_cons_of_mem _ hw)⟩, hK, hT, hE, B.notSynchronized, hst⟩
  have hr := B.returns
  have hx := M.1.1
  have hb := M.1.2.1
  refine gh_enter (vs := [(1, .ref v0), (1, va_rf v1)]) (gh_w1 rfl (gh_w1 (gh_cat _) gh_wn)) (Nat.le_of_ble_eq_true rfl) (fun ls hl => ?_)
  replace hl : gh_L ls 4 [(0, 1, va_rf (some v0)), (1, 1, va_rf v1)] := hl
  unfold wp_X7_takeOff at hw
  refine lv_iconst (v := (0 : Int32)) hx hb dX7_takeOff_0 (by decide) ?_
  refine gh_istore_n (lv' := [(2, 1, .int (0 : Int32)), (0, 1, va_rf (some v0)), (1, 1, va_rf v1)]) hx hb dX7_takeOff_1 rfl hl (by decide) rfl (fun ls hl => ?_)
  refine lv_iconst (v := (0 : Int32)) hx hb dX7_takeOff_2 (by decide) ?_
  refine gh_istore_n (lv' := [(3, 1, .int (0 : Int32)), (2, 1, .int (0 : Int32)), (0, 1, va_rf (some v0)), (1, 1, va_rf v1)]) hx hb dX7_takeOff_3 rfl hl (by decide) rfl (fun ls hl => ?_)
  obtain ⟨n, hw⟩ := hw
  exact wk_X7_takeOff_4 M hr hex  n v0 v1 (0 : Int32) (0 : Int32) _ _ _ _ G (gh_sub hl [2, 3, 1, 0] rfl) hw
/-! BinderyDesk.correct (I)I -/
theorem fl_X1_115 : gh_FL RX1 115 [(4, 1)] := by
  intro args s hts tb q hq
  simp only [List.mem_cons, List.not_mem_nil, or_false] at hq
  subst hq
  exact ⟨_, "BinderyDesk$Content", rfl, by decide, Or.inr ⟨"BinderyDesk", va_Nw.use rfl (tb.1 _ (List.mem_of_getElem? (i := 119) rfl))⟩, (fun x h => h)⟩
theorem fp_X1_115 : gh_FP RX1 115 [(4, 1)] (.int) false := by
  refine ⟨fl_X1_115, fun q hq => ?_⟩
  simp only [List.mem_cons, List.not_mem_nil, or_false] at hq
  subst hq
  exact ⟨_, rfl, rfl, by decide +kernel, fun h => by cases h⟩
theorem nd_X5 : ∀ j, j < 1 → defaultValue (tyX5 j) = vp_V [va_rf none] j := by
  intro j hj
  rcases (show j = 0 by omega) with rfl <;> rfl
def rm_X1_correct : Room := { frames := 8, cells := 14, slots := 151, locals := 211 }
def wb_X1_correct_69 (κ : Nat → Nat) (K69 : Nat → Nat → Option Nat → Int32 → Option Nat → gh_H → Prop) (it69 : Nat) (Q : Int32 → gh_H → Prop) (X : String → gh_H → Prop) (v0 : Nat) (v2 : Option Nat) (v3 : Int32) (v4 : Option Nat) (h : gh_H) : Prop := (gh_RC h v4 9 (fun a1 => (wp_J19_hasNext κ a1 (fun r2 h3 => ((r2 = 0 → (gh_GR h3 (some v0) [(0, 6)] (fun x4 => (gh_RC h3 x4 2 (fun a5 => (wp_X2_add κ a5 v3 (fun h6 => (Q v3 h6)) X h3)))))) ∧ (¬ r2 = 0 → (gh_RC h3 (some a1) 9 (fun _ => (wp_J19_next κ a1 (fun r8 h9 => (gh_CK h9 r8 [7] (gh_RC h9 r8 7 (fun a10 => (wp_X7_takeOff κ a10 v2 (fun r11 h12 => K69 (it69 + 1) v0 v2 (v3 + r11) (some a1) h12) X h9))))) X h3)))))) X h)))
def wl_X1_correct_69 (κ : Nat → Nat)  (Q : Int32 → gh_H → Prop) (X : String → gh_H → Prop) : Nat → Nat → Nat → Option Nat → Int32 → Option Nat → gh_H → Prop
  | 0 => fun _ _ _ _ _ _ => False
  | n + 1 => fun it69 v0 v2 v3 v4 h => it69 ≤ 8 ∧ wb_X1_correct_69 κ (wl_X1_correct_69 κ Q X n) it69 Q X v0 v2 v3 v4 h
def wb_X1_correct_20 (κ : Nat → Nat)  (Q : Int32 → gh_H → Prop) (X : String → gh_H → Prop) (v0 : Nat) (v2 : Option Nat) (t0 : Int32) (h : gh_H) : Prop := (wp_X1_requireState κ t0 (fun h1 => (gh_GI h1 v2 [(4, 1)] (fun x2 => (gh_PV h1 v2 [(4, 1)] (.int (x2 + (1 : Int32))) (fun h3 => ((narrow .boolean (.int (0 : Int32)) = .int (0 : Int32) ∧ fits .boolean (.int (0 : Int32)) = true) ∧ (gh_PV h3 v2 [(4, 2)] (.int (0 : Int32)) (fun h4 => (gh_GR h4 (some v0) [(0, 2)] (fun x5 => (gh_NO h4 5 [va_rf none] (fun q6 h7 => (wp_X5_init κ q6 v2 (fun h8 => (gh_RC h8 x5 8 (fun a9 => (wp_J2_add κ a9 (some q6) (fun r10 h11 => (gh_GR h11 (some v0) [(0, 1)] (fun x12 => (gh_RC h11 x12 8 (fun a13 => (wp_J2_iterator κ a13 (fun r14 h15 => (∃ n : Nat, wl_X1_correct_69 κ Q X n 0 v0 v2 (0 : Int32) r14 h15)) X h11)))))) X h8)))) X h7))))))))))))) X h)
def wp_X1_correct (κ : Nat → Nat) (v0 : Nat) (v1 : Int32) (Q : Int32 → gh_H → Prop) (X : String → gh_H → Prop) (h : gh_H) : Prop := (gh_RC h (some v0) 0 (fun _ => (wp_X1_contentNumbered κ v0 v1 (fun r2 h3 => (gh_GI h3 r2 [(4, 1)] (fun x4 => (((99 : Int32) ≤ x4 → wb_X1_correct_20 κ Q X v0 r2 (0 : Int32) h3) ∧ (¬ (99 : Int32) ≤ x4 → wb_X1_correct_20 κ Q X v0 r2 (1 : Int32) h3))))) X h)))
set_option maxHeartbeats 4000000 in
theorem wk1_X1_correct_69 {D : gh_D} {p : Program} {l : Launch} {e : Env} {s : State} {m : MethodId} {args : Array Value} {below : List Frame} {meth : Method} {c : Code} {h0 : gh_H} (M : gh_M D p l s m args meth c RX1 cX1_correct 6 (gh_A h0 s.heap.size)) (hr : meth.sig.returnType = (some .int)) (hex : ∀ x ∈ c.exceptionTable.toList, False) {K69 : Nat → Nat → Option Nat → Int32 → Option Nat → gh_H → Prop} {it69 : Nat} {Q : Int32 → gh_H → Prop} {X : String → gh_H → Prop} (k69 : ∀ (it69 : Nat) (v0 : Nat) (v2 : Option Nat) (v3 : Int32) (v4 : Option Nat) (H : Heap) (locs : List Loc) (ls : Array Slot) (h : gh_H) (_ : gh_Inv D h0 (gh_A h0 s.heap.size) s.heap s H locs h) (_ : gh_L ls 6 [(0, 1, va_rf (some v0)), (2, 1, va_rf v2), (3, 1, .int v3), (4, 1, va_rf v4)]) (_ : K69 it69 v0 v2 v3 v4 h), W p l e rm_X1_correct s m args below meth c H locs (5 + it69 * 1) (97 + it69 * 6) (vx_MQ below (gh_Qi Q D h0 s.heap.size) (gh_X X D h0 s.heap.size) args s 14 151 (gh_A h0 s.heap.size)) (F0 m 69 ls [])) (hit69 : it69 ≤ 8) (v0 : Nat) (v2 : Option Nat) (v3 : Int32) (v4 : Option Nat) (H : Heap) (locs : List Loc) (ls : Array Slot) (h : gh_H) (G : gh_Inv D h0 (gh_A h0 s.heap.size) s.heap s H locs h) (hl : gh_L ls 6 [(0, 1, va_rf (some v0)), (2, 1, va_rf v2), (3, 1, .int v3), (4, 1, va_rf v4)]) (hw : wb_X1_correct_69 D.2.2 K69 it69 Q X v0 v2 v3 v4 h) : W p l e rm_X1_correct s m args below meth c H locs (5 + it69 * 1) (97 + it69 * 6) (vx_MQ below (gh_Qi Q D h0 s.heap.size) (gh_X X D h0 s.heap.size) args s 14 151 (gh_A h0 s.heap.size)) (F0 m 69 ls []) := by
  unfold wb_X1_correct_69 at hw
  have hx := M.1.1
  have hb := M.1.2.1
  refine gh_aload hx hb dX1_correct_69 (gh_at hl 3 rfl) ?_
  obtain ⟨a1, lba1, fsa1, rfl, haa1, hw⟩ := hw
  refine gh_kFi G (vx_runF (C := "java/util/ArrayList$Itr") (M.2.1.1.1 9 _ rfl).2 M.1 (met_J19_hasNext l D _ _ _ _ _ hw M.2.2.2.2.2) (va_cwF 0 (gh_Mts M) (gh_gF q564 q568 q570 q66 q572) rfl rfl rfl (M.2.2.1.2.1 _ (List.mem_of_getElem? (i := 1) rfl)) ⟨by decide, by decide, rfl⟩ ⟨Nat.le_of_ble_eq_true rfl, Nat.le_of_ble_eq_true rfl⟩) (gh_preV (As := []) M G (gh_rec M G haa1 rfl)) rfl rfl hl.1.1 rfl (lv_room (Nat.le_of_ble_eq_true rfl)) dX1_correct_71 ⟨(by show _ ≤ 14; omega), (by show _ ≤ 151; omega)⟩) (gh_out M hex (by omega) (by omega)) (fun r2 h3 H locs hw G => ?_)
  refine W.widen (k := 5 + it69 * 1) (n := 97 + it69 * 6) (by omega) (by omega) ?_
  refine lv_if_eq (tgt := 103) hx hb dX1_correct_76 (by decide) (fun hc => ?_) (fun hc => ?_)
  · replace hw := hw.1 hc
    refine gh_aload_n hx hb dX1_correct_103 rfl (gh_at hl 0 rfl) ?_
    refine gh_getR M G hw fl_X1_54 dX1_correct_104 (fun x4 hw => ?_)
    refine lv_iload_n hx hb dX1_correct_107 rfl (gh_at hl 2 rfl) ?_
    obtain ⟨a5, lba5, fsa5, rfl, haa5, hw⟩ := hw
    refine gh_kv G (vx_runV M.1 (met_X2_add l D _ _ _ _ _ _ hw M.2.2.2.2.2) (cwV 1 (gh_Mts M) (lw_V q700 q698 q1846 q49 q699) rfl rfl rfl ⟨rfl, by decide, by decide, rfl⟩ ⟨Nat.le_of_ble_eq_true rfl, Nat.le_of_ble_eq_true rfl⟩) (gh_preV (As := [.int v3]) M G (gh_rec M G haa5 rfl)) rfl rfl hl.1.1 rfl (lv_room (Nat.le_of_ble_eq_true rfl)) dX1_correct_108 ⟨(by show _ ≤ 14; omega), (by show _ ≤ 151; omega)⟩) (gh_out M hex (by omega) (by omega)) (fun h6 H locs hw G => ?_)
    refine W.widen (k := 5 + it69 * 1) (n := 97 + it69 * 6) (by omega) (by omega) ?_
    refine lv_iload_n hx hb dX1_correct_111 rfl (gh_at hl 2 rfl) ?_
    exact gh_iret M G hr rfl hw (by omega) (by omega) dX1_correct_112
  · replace hw := hw.2 hc
    refine gh_aload hx hb dX1_correct_79 (gh_at hl 3 rfl) ?_
    obtain ⟨a7, lba7, fsa7, hra7, haa7, hw⟩ := hw
    rw [← Option.some.inj hra7] at haa7
    refine gh_kFq G (vx_runF (C := "java/util/ArrayList$Itr") (M.2.1.1.1 9 _ rfl).2 M.1 (met_J19_next l D _ _ _ _ _ hw M.2.2.2.2.2) (va_cwF 0 (gh_Mts M) (gh_gF q580 q583 q585 q66 q587) rfl rfl rfl (M.2.2.1.2.1 _ (List.mem_of_getElem? (i := 2) rfl)) ⟨by decide, by decide, rfl⟩ ⟨Nat.le_of_ble_eq_true rfl, Nat.le_of_ble_eq_true rfl⟩) (gh_preV (As := []) M G (gh_rec M G haa7 rfl)) rfl rfl hl.1.1 rfl (lv_room (Nat.le_of_ble_eq_true rfl)) dX1_correct_81 ⟨(by show _ ≤ 14; omega), (by show _ ≤ 151; omega)⟩) (gh_out M hex (by omega) (by omega)) (fun r8 h9 H locs hw G => ?_)
    refine W.widen (k := 6 + it69 * 1) (n := 103 + it69 * 6) (by omega) (by omega) ?_
    refine gh_cast (cis := [7]) M G hw q623 (List.forall_mem_cons.mpr ⟨⟨_, rfl, Or.inl ⟨rfl, rfl⟩⟩, fun _ h => absurd h List.not_mem_nil⟩) dX1_correct_86 (fun hw => ?_)
    refine gh_astore (lv' := [(5, 1, va_rf r8), (0, 1, va_rf (some v0)), (2, 1, va_rf v2), (3, 1, .int v3), (4, 1, va_rf (some a1))]) hx hb dX1_correct_89 hl (by decide) rfl (fun ls hl => ?_)
    refine lv_iload_n hx hb dX1_correct_91 rfl (gh_at hl 3 rfl) ?_
    refine gh_aload hx hb dX1_correct_92 (gh_at hl 0 rfl) ?_
    refine gh_aload_n hx hb dX1_correct_94 rfl (gh_at hl 2 rfl) ?_
    obtain ⟨a10, lba10, fsa10, rfl, haa10, hw⟩ := hw
    refine gh_ki G (vx_runV M.1 (met_X7_takeOff l D _ _ _ _ _ _ hw M.2.2.2.2.2) (cwV 1 (gh_Mts M) (lw_V q624 q625 q626 q71 q627) rfl rfl rfl ⟨rfl, by decide, by decide, rfl⟩ ⟨Nat.le_of_ble_eq_true rfl, Nat.le_of_ble_eq_true rfl⟩) (gh_preV (As := [va_rf v2]) M G (gh_rec M G haa10 rfl)) rfl rfl hl.1.1 rfl (lv_room (Nat.le_of_ble_eq_true rfl)) dX1_correct_95 ⟨(by show _ ≤ 14; omega), (by show _ ≤ 151; omega)⟩) (gh_out M hex (by omega) (by omega)) (fun r11 h12 H locs hw G => ?_)
    refine W.widen (k := 6 + it69 * 1) (n := 103 + it69 * 6) (by omega) (by omega) ?_
    refine lv_iadd hx hb dX1_correct_98 ?_
    refine gh_istore_n (lv' := [(3, 1, .int (v3 + r11)), (5, 1, va_rf (some a10)), (0, 1, va_rf (some v0)), (2, 1, va_rf v2), (4, 1, va_rf (some a1))]) hx hb dX1_correct_99 rfl hl (by decide) rfl (fun ls hl => ?_)
    refine lv_goto (tgt := 69) hx hb dX1_correct_100 (by decide) ?_
    refine W.widen (k := 5 + (it69 + 1) * 1) (n := 97 + (it69 + 1) * 6) (by omega) (by omega) ?_
    exact k69 (it69 + 1) v0 v2 (v3 + r11) (some a1) _ _ _ _ G (gh_sub hl [2, 3, 0, 4] rfl) hw
theorem wk_X1_correct_69 {D : gh_D} {p : Program} {l : Launch} {e : Env} {s : State} {m : MethodId} {args : Array Value} {below : List Frame} {meth : Method} {c : Code} {h0 : gh_H} (M : gh_M D p l s m args meth c RX1 cX1_correct 6 (gh_A h0 s.heap.size)) (hr : meth.sig.returnType = (some .int)) (hex : ∀ x ∈ c.exceptionTable.toList, False)   {Q : Int32 → gh_H → Prop} {X : String → gh_H → Prop}   : ∀ (n : Nat) (it69 : Nat) (v0 : Nat) (v2 : Option Nat) (v3 : Int32) (v4 : Option Nat) (H : Heap) (locs : List Loc) (ls : Array Slot) (h : gh_H) (_ : gh_Inv D h0 (gh_A h0 s.heap.size) s.heap s H locs h) (_ : gh_L ls 6 [(0, 1, va_rf (some v0)), (2, 1, va_rf v2), (3, 1, .int v3), (4, 1, va_rf v4)]) (_ : wl_X1_correct_69 D.2.2 Q X n it69 v0 v2 v3 v4 h), W p l e rm_X1_correct s m args below meth c H locs (5 + it69 * 1) (97 + it69 * 6) (vx_MQ below (gh_Qi Q D h0 s.heap.size) (gh_X X D h0 s.heap.size) args s 14 151 (gh_A h0 s.heap.size)) (F0 m 69 ls []) := by
  intro fu
  induction fu with
  | zero => intro it69 v0 v2 v3 v4 H locs ls h G hl hw; exact False.elim hw
  | succ n1 ih =>
    intro it69 v0 v2 v3 v4 H locs ls h G hl hw
    obtain ⟨hi, hw⟩ := hw
    exact wk1_X1_correct_69 M hr hex ih hi v0 v2 v3 v4 _ _ _ _ G hl hw
set_option maxHeartbeats 4000000 in
theorem wk_X1_correct_20 {D : gh_D} {p : Program} {l : Launch} {e : Env} {s : State} {m : MethodId} {args : Array Value} {below : List Frame} {meth : Method} {c : Code} {h0 : gh_H} (M : gh_M D p l s m args meth c RX1 cX1_correct 6 (gh_A h0 s.heap.size)) (hr : meth.sig.returnType = (some .int)) (hex : ∀ x ∈ c.exceptionTable.toList, False)   {Q : Int32 → gh_H → Prop} {X : String → gh_H → Prop}   (v0 : Nat) (v2 : Option Nat) (t0 : Int32) (H : Heap) (locs : List Loc) (ls : Array Slot) (h : gh_H) (G : gh_Inv D h0 (gh_A h0 s.heap.size) s.heap s H locs h) (hl : gh_L ls 6 [(0, 1, va_rf (some v0)), (2, 1, va_rf v2)]) (hw : wb_X1_correct_20 D.2.2 Q X v0 v2 t0 h) : W p l e rm_X1_correct s m args below meth c H locs 1 6 (vx_MQ below (gh_Qi Q D h0 s.heap.size) (gh_X X D h0 s.heap.size) args s 14 151 (gh_A h0 s.heap.size)) (F0 m 20 ls [.int t0]) := by
  unfold wb_X1_correct_20 at hw
  have hx := M.1.1
  have hb := M.1.2.1
  refine gh_kv G (vx_runS M.1 (met_X1_requireState l D _ _ _ _ _ hw M.2.2.2.2.2) (va_cwS 1 (gh_Mts M) (lw_S q266 q267 q41 q268) rfl rfl rfl ⟨by decide, by decide, rfl⟩ ⟨Nat.le_of_ble_eq_true rfl, Nat.le_of_ble_eq_true rfl⟩) (gh_pre M G (As := [.int t0])) rfl rfl hl.1.1 rfl (lv_room (Nat.le_of_ble_eq_true rfl)) dX1_correct_20 ⟨(Nat.le_of_ble_eq_true rfl), (Nat.le_of_ble_eq_true rfl)⟩) (gh_out M hex (by exact Nat.le_of_ble_eq_true rfl) (by exact Nat.le_of_ble_eq_true rfl)) (fun h1 H locs hw G => ?_)
  refine gh_aload_n hx hb dX1_correct_23 rfl (gh_at hl 1 rfl) ?_
  refine lv_dup hx hb dX1_correct_24 (gh_cat _) ?_
  refine gh_getI M G hw fl_X1_115 dX1_correct_25 (fun x2 hw => ?_)
  refine lv_iconst (v := (1 : Int32)) hx hb dX1_correct_28 (by decide) ?_
  refine lv_iadd hx hb dX1_correct_29 ?_
  refine gh_put M G hw fp_X1_115 rfl rfl dX1_correct_30 (fun h3 H locs hw G => ?_)
  refine gh_aload_n hx hb dX1_correct_33 rfl (gh_at hl 1 rfl) ?_
  refine lv_iconst (v := (0 : Int32)) hx hb dX1_correct_34 (by decide) ?_
  obtain ⟨hn, hw⟩ := hw
  refine gh_put M G hw fp_X1_111 hn.1 hn.2 dX1_correct_35 (fun h4 H locs hw G => ?_)
  refine gh_aload_n hx hb dX1_correct_38 rfl (gh_at hl 0 rfl) ?_
  refine gh_getR M G hw fl_X1_34 dX1_correct_39 (fun x5 hw => ?_)
  refine gh_new (N := 1) (r := (RX5, TX5, 1)) (ci := 5) (fs := [va_rf none]) M G hw tyX5 tyX5_ok q524 q525 q65 rfl rfl nd_X5 (Nat.le_of_ble_eq_true rfl) (Nat.le_of_ble_eq_true rfl) dX1_correct_42 (fun q6 h7 H hw G => ?_)
  refine lv_dup hx hb dX1_correct_45 (gh_cat _) ?_
  refine gh_aload_n hx hb dX1_correct_46 rfl (gh_at hl 1 rfl) ?_
  refine gh_kv G (vx_runI M.1 (met_X5_init l D _ _ _ _ _ _ hw M.2.2.2.2.2) (cwI 1 (gh_Mts M) (lw_meth q528) rfl rfl rfl (gh_Mts M _ q65) (gh_Mts M _ q526) (gh_Mts M _ q527) rfl ⟨by decide, by decide, rfl⟩ ⟨Nat.le_of_ble_eq_true rfl, Nat.le_of_ble_eq_true rfl⟩) (gh_pre M G (As := .ref q6 :: [va_rf v2])) rfl rfl hl.1.1 rfl (lv_room (Nat.le_trans (gh_r1 (gh_cat _) (gh_r1 (gh_cat _) gh_r0)) (Nat.le_of_ble_eq_true rfl : 2 ≤ 8))) dX1_correct_47 ⟨(Nat.le_of_ble_eq_true rfl), (Nat.le_of_ble_eq_true rfl)⟩) (gh_out M hex (by exact Nat.le_of_ble_eq_true rfl) (by exact Nat.le_of_ble_eq_true rfl)) (fun h8 H locs hw G => ?_)
  obtain ⟨a9, lba9, fsa9, rfl, haa9, hw⟩ := hw
  refine gh_kFi G (vx_runF (C := "java/util/ArrayList") (M.2.1.1.1 8 _ rfl).2 M.1 (met_J2_add l D _ _ _ _ _ _ hw M.2.2.2.2.2) (va_cwF 1 (gh_Mts M) (gh_gF q358 q361 q363 q44 q365) rfl rfl rfl (M.2.2.1.2.1 _ (List.mem_of_getElem? (i := 5) rfl)) ⟨by decide, by decide, rfl⟩ ⟨Nat.le_of_ble_eq_true rfl, Nat.le_of_ble_eq_true rfl⟩) (gh_preV (As := [va_rf (some q6)]) M G (gh_rec M G haa9 rfl)) rfl rfl hl.1.1 rfl (lv_room (Nat.le_of_ble_eq_true rfl)) dX1_correct_50 ⟨(Nat.le_of_ble_eq_true rfl), (Nat.le_of_ble_eq_true rfl)⟩) (gh_out M hex (by exact Nat.le_of_ble_eq_true rfl) (by exact Nat.le_of_ble_eq_true rfl)) (fun r10 h11 H locs hw G => ?_)
  refine lv_pop hx hb dX1_correct_55 rfl ?_
  refine lv_iconst (v := (0 : Int32)) hx hb dX1_correct_56 (by decide) ?_
  refine gh_istore_n (lv' := [(3, 1, .int (0 : Int32)), (0, 1, va_rf (some v0)), (2, 1, va_rf v2)]) hx hb dX1_correct_57 rfl hl (by decide) rfl (fun ls hl => ?_)
  refine gh_aload_n hx hb dX1_correct_58 rfl (gh_at hl 1 rfl) ?_
  refine gh_getR M G hw fl_X1_31 dX1_correct_59 (fun x12 hw => ?_)
  obtain ⟨a13, lba13, fsa13, rfl, haa13, hw⟩ := hw
  refine gh_kFq G (vx_runF (C := "java/util/ArrayList") (M.2.1.1.1 8 _ rfl).2 M.1 (met_J2_iterator l D _ _ _ _ _ hw M.2.2.2.2.2) (va_cwF 0 (gh_Mts M) (gh_gF q536 q539 q541 q44 q543) rfl rfl rfl (M.2.2.1.2.1 _ (List.mem_of_getElem? (i := 7) rfl)) ⟨by decide, by decide, rfl⟩ ⟨Nat.le_of_ble_eq_true rfl, Nat.le_of_ble_eq_true rfl⟩) (gh_preV (As := []) M G (gh_rec M G haa13 rfl)) rfl rfl hl.1.1 rfl (lv_room (Nat.le_of_ble_eq_true rfl)) dX1_correct_62 ⟨(Nat.le_of_ble_eq_true rfl), (Nat.le_of_ble_eq_true rfl)⟩) (gh_out M hex (by exact Nat.le_of_ble_eq_true rfl) (by exact Nat.le_of_ble_eq_true rfl)) (fun r14 h15 H locs hw G => ?_)
  refine gh_astore (lv' := [(4, 1, va_rf r14), (3, 1, .int (0 : Int32)), (0, 1, va_rf (some v0)), (2, 1, va_rf v2)]) hx hb dX1_correct_67 hl (by decide) rfl (fun ls hl => ?_)
  obtain ⟨n, hw⟩ := hw
  refine W.widen (k := 5 + 0 * 1) (n := 97 + 0 * 6) (by omega) (by omega) ?_
  exact wk_X1_correct_69 M hr hex  n 0 v0 v2 (0 : Int32) r14 _ _ _ _ G (gh_sub hl [2, 3, 1, 0] rfl) hw
set_option maxHeartbeats 4000000 in
theorem met_X1_correct (l : Launch) (D : gh_D) (v0 : Nat) (v1 : Int32) (Q : Int32 → gh_H → Prop) (X : String → gh_H → Prop) (h : gh_H) (sz : Nat) (hw : wp_X1_correct D.2.2 v0 v1 Q X h) (hst : l.stackTraces = false) : vx_Met l yX1_correct (ws_ yX1_correct cX1_correct 6 (some .int)) rm_X1_correct (gh_Pc D h sz [.ref v0, .int v1]) (gh_Qi Q D h sz) (gh_X X D h sz) 14 151 (gh_A h sz) := by
  refine vx_ofW (by decide) rfl (fun p e s m args below meth c s₁ B hml hex hP => ?_)
  obtain ⟨rfl, rfl, hK, hT, hE, G⟩ := gh_start hP
  have M : gh_M D p l s m _ meth c RX1 cX1_correct 6 (gh_A h s.heap.size) := ⟨⟨B.exec, B.bytes, hml, findClass_of_methodNamed B.named, fun w hw => atoms_spec (ws := ws_ yX1_correct cX1_correct 6 (some .int)) B.pre w (List.mem_cons_of_mem _ hw)⟩, hK, hT, hE, B.notSynchronized, hst⟩
  have hr := B.returns
  have hx := M.1.1
  have hb := M.1.2.1
  refine gh_enter (vs := [(1, .ref v0), (1, .int v1)]) (gh_w1 rfl (gh_w1 rfl gh_wn)) (Nat.le_of_ble_eq_true rfl) (fun ls hl => ?_)
  replace hl : gh_L ls 6 [(0, 1, va_rf (some v0)), (1, 1, .int v1)] := hl
  unfold wp_X1_correct at hw
  refine gh_aload_n hx hb dX1_correct_0 rfl (gh_at hl 0 rfl) ?_
  refine lv_iload_n hx hb dX1_correct_1 rfl (gh_at hl 1 rfl) ?_
  obtain ⟨a1, lba1, fsa1, hra1, haa1, hw⟩ := hw
  rw [← Option.some.inj hra1] at haa1
  refine gh_kq G (vx_runV M.1 (met_X1_contentNumbered l D _ _ _ _ _ _ hw M.2.2.2.2.2) (cwV 1 (gh_Mts M) (lw_V q476 q478 qs4 q41 q479) rfl rfl rfl ⟨rfl, by decide, by decide, rfl⟩ ⟨Nat.le_of_ble_eq_true rfl, Nat.le_of_ble_eq_true rfl⟩) (gh_preV (As := [.int v1]) M G (gh_rec M G haa1 rfl)) rfl rfl hl.1.1 rfl (lv_room (Nat.le_of_ble_eq_true rfl)) dX1_correct_2 ⟨(Nat.le_of_ble_eq_true rfl), (Nat.le_of_ble_eq_true rfl)⟩) (gh_out M hex (by exact Nat.le_of_ble_eq_true rfl) (by exact Nat.le_of_ble_eq_true rfl)) (fun r2 h3 H locs hw G => ?_)
  refine gh_astore_n (lv' := [(2, 1, va_rf r2), (0, 1, va_rf (some v0)), (1, 1, .int v1)]) hx hb dX1_correct_5 rfl hl (by decide) rfl (fun ls hl => ?_)
  refine gh_aload_n hx hb dX1_correct_6 rfl (gh_at hl 0 rfl) ?_
  refine gh_getI M G hw fl_X1_115 dX1_correct_7 (fun x4 hw => ?_)
  refine lv_bipush (v := (99 : Int32)) hx hb dX1_correct_10 (by decide) ?_
  refine lv_icmp_ge (tgt := 19) hx hb dX1_correct_12 (by decide) (fun hc => ?_) (fun hc => ?_)
  · replace hw := hw.1 hc
    refine lv_iconst (v := (0 : Int32)) hx hb dX1_correct_19 (by decide) ?_
    exact wk_X1_correct_20 M hr hex  v0 r2 (0 : Int32) _ _ _ _ G (gh_sub hl [1, 0] rfl) hw
  · replace hw := hw.2 hc
    refine lv_iconst (v := (1 : Int32)) hx hb dX1_correct_15 (by decide) ?_
    refine lv_goto (tgt := 20) hx hb dX1_correct_16 (by decide) ?_
    exact wk_X1_correct_20 M hr hex  v0 r2 (1 : Int32) _ _ _ _ G (gh_sub hl [1, 0] rfl) hw
/-! BinderyDeskLaw.correct (LBinderyDesk;I[J)I -/
def rm_X0_correct : Room := { frames := 9, cells := 14, slots := 151, locals := 236 }
def wb_X0_correct_12 (κ : Nat → Nat)  (Q : Int32 → gh_H → Prop) (X : String → gh_H → Prop) (t0 : Option Nat) (h : gh_H) : Prop := (Q (1 : Int32) h)
def wb_X0_correct_15 (κ : Nat → Nat)  (Q : Int32 → gh_H → Prop) (X : String → gh_H → Prop) (t0 : Option Nat) (h : gh_H) : Prop := (Q (2 : Int32) h)
def wp_X0_correct (κ : Nat → Nat) (v0 : Option Nat) (v1 : Int32) (v2 : Option Nat) (Q : Int32 → gh_H → Prop) (X : String → gh_H → Prop) (h : gh_H) : Prop := (gh_RC h v0 0 (fun a1 => (wp_X1_correct κ a1 v1 (fun r2 h3 => (gh_SJ h3 v2 (0 : Int32) (r2.toInt64) (fun h4 => (Q (0 : Int32) h4)))) (fun E h9 => (E = "java/lang/IndexOutOfBoundsException" ∧ ∀ q9 : Nat, wb_X0_correct_12 κ Q X (some q9) h9) ∨ (E = "java/lang/IllegalStateException" ∧ ∀ q9 : Nat, wb_X0_correct_15 κ Q X (some q9) h9)) h)))
set_option maxHeartbeats 4000000 in
theorem wk_X0_correct_12 {D : gh_D} {p : Program} {l : Launch} {e : Env} {s : State} {m : MethodId} {args : Array Value} {below : List Frame} {meth : Method} {c : Code} {h0 : gh_H} (M : gh_M D p l s m args meth c RX0 cX0_correct 4 (gh_A h0 s.heap.size)) (hr : meth.sig.returnType = (some .int)) (htab : c.exceptionTable.toList = tableOf [(0, 9, 12, 19), (0, 9, 15, 13)])   {Q : Int32 → gh_H → Prop} {X : String → gh_H → Prop}   (t0 : Option Nat) (H : Heap) (locs : List Loc) (ls : Array Slot) (h : gh_H) (G : gh_Inv D h0 (gh_A h0 s.heap.size) s.heap s H locs h) (hl : gh_L ls 4 []) (hw : wb_X0_correct_12 D.2.2 Q X t0 h) : W p l e rm_X0_correct s m args below meth c H locs 14 151 (vx_MQ below (gh_Qi Q D h0 s.heap.size) (gh_X X D h0 s.heap.size) args s 14 151 (gh_A h0 s.heap.size)) (F0 m 12 ls [va_rf t0]) := by
  unfold wb_X0_correct_12 at hw
  have hx := M.1.1
  have hb := M.1.2.1
  refine gh_astore_n (lv' := [(3, 1, va_rf t0)]) hx hb dX0_correct_12 rfl hl (by decide) rfl (fun ls hl => ?_)
  refine lv_iconst (v := (1 : Int32)) hx hb dX0_correct_13 (by decide) ?_
  exact gh_iret M G hr rfl hw (by exact Nat.le_of_ble_eq_true rfl) (by exact Nat.le_of_ble_eq_true rfl) dX0_correct_14
set_option maxHeartbeats 4000000 in
theorem wk_X0_correct_15 {D : gh_D} {p : Program} {l : Launch} {e : Env} {s : State} {m : MethodId} {args : Array Value} {below : List Frame} {meth : Method} {c : Code} {h0 : gh_H} (M : gh_M D p l s m args meth c RX0 cX0_correct 4 (gh_A h0 s.heap.size)) (hr : meth.sig.returnType = (some .int)) (htab : c.exceptionTable.toList = tableOf [(0, 9, 12, 19), (0, 9, 15, 13)])   {Q : Int32 → gh_H → Prop} {X : String → gh_H → Prop}   (t0 : Option Nat) (H : Heap) (locs : List Loc) (ls : Array Slot) (h : gh_H) (G : gh_Inv D h0 (gh_A h0 s.heap.size) s.heap s H locs h) (hl : gh_L ls 4 []) (hw : wb_X0_correct_15 D.2.2 Q X t0 h) : W p l e rm_X0_correct s m args below meth c H locs 14 151 (vx_MQ below (gh_Qi Q D h0 s.heap.size) (gh_X X D h0 s.heap.size) args s 14 151 (gh_A h0 s.heap.size)) (F0 m 15 ls [va_rf t0]) := by
  unfold wb_X0_correct_15 at hw
  have hx := M.1.1
  have hb := M.1.2.1
  refine gh_astore_n (lv' := [(3, 1, va_rf t0)]) hx hb dX0_correct_15 rfl hl (by decide) rfl (fun ls hl => ?_)
  refine lv_iconst (v := (2 : Int32)) hx hb dX0_correct_16 (by decide) ?_
  exact gh_iret M G hr rfl hw (by exact Nat.le_of_ble_eq_true rfl) (by exact Nat.le_of_ble_eq_true rfl) dX0_correct_17
set_option maxHeartbeats 4000000 in
theorem met_X0_correct (l : Launch) (D : gh_D) (v0 : Option Nat) (v1 : Int32) (v2 : Option Nat) (Q : Int32 → gh_H → Prop) (X : String → gh_H → Prop) (h : gh_H) (sz : Nat) (hw : wp_X0_correct D.2.2 v0 v1 v2 Q X h) (hst : l.stackTraces = false) : vx_Met l yX0_correct (wsW_ yX0_correct cX0_correct 4 (some .int) [(0, 9, 12, 19), (0, 9, 15, 13)]) rm_X0_correct (gh_Pc D h sz [va_rf v0, .int v1, va_rf v2]) (gh_Qi Q D h sz) (gh_X X D h sz) 14 151 (gh_A h sz) := by
  refine vx_ofWH (by decide) rfl (fun p e s m args below meth c s₁ B hml hP => ?_)
  have htab := vx_table (x := yX0_correct) B (atoms_spec (ws := wsW_ yX0_correct cX0_correct 4 (some .int) [(0, 9, 12, 19), (0, 9, 15, 13)]) B.pre _ List.mem_cons_self)
  obtain ⟨rfl, rfl, hK, hT, hE, G⟩ := gh_start hP
  have M : gh_M D p l s m _ meth c RX0 cX0_correct 4 (gh_A h s.heap.size) := ⟨⟨B.exec, B.bytes, hml, findClass_of_methodNamed B.named, fun w hw => atoms_spec (ws := wsW_ yX0_correct cX0_correct 4 (some .int) [(0, 9, 12, 19), (0, 9, 15, 13)]) B.pre w (List.mem_cons_of_mem _ hw)⟩, hK, hT, hE, B.notSynchronized, hst⟩
  have hr := B.returns
  have hx := M.1.1
  have hb := M.1.2.1
  refine gh_enter (vs := [(1, va_rf v0), (1, .int v1), (1, va_rf v2)]) (gh_w1 (gh_cat _) (gh_w1 rfl (gh_w1 (gh_cat _) gh_wn))) (Nat.le_of_ble_eq_true rfl) (fun ls hl => ?_)
  replace hl : gh_L ls 4 [(0, 1, va_rf v0), (1, 1, .int v1), (2, 1, va_rf v2)] := hl
  unfold wp_X0_correct at hw
  refine gh_aload_n hx hb dX0_correct_0 rfl (gh_at hl 2 rfl) ?_
  refine lv_iconst (v := (0 : Int32)) hx hb dX0_correct_1 (by decide) ?_
  refine gh_aload_n hx hb dX0_correct_2 rfl (gh_at hl 0 rfl) ?_
  refine lv_iload_n hx hb dX0_correct_3 rfl (gh_at hl 1 rfl) ?_
  obtain ⟨a1, lba1, fsa1, rfl, haa1, hw⟩ := hw
  refine gh_ki G (vx_runV M.1 (met_X1_correct l D _ _ _ _ _ _ hw M.2.2.2.2.2) (cwV 1 (gh_Mts M) (lw_V q520 q521 q522 q41 q523) rfl rfl rfl ⟨rfl, by decide, by decide, rfl⟩ ⟨Nat.le_of_ble_eq_true rfl, Nat.le_of_ble_eq_true rfl⟩) (gh_preV (As := [.int v1]) M G (gh_rec M G haa1 rfl)) rfl rfl hl.1.1 rfl (lv_room (Nat.le_trans (gh_r1 rfl (gh_r1 (gh_cat _) gh_r0)) (Nat.le_of_ble_eq_true rfl : 2 ≤ 8))) dX0_correct_4 ⟨(Nat.le_of_ble_eq_true rfl), (Nat.le_of_ble_eq_true rfl)⟩) (fun E ce q9 h9 H locs hX G hce hcv hcl => ?_) (fun r2 h3 H locs hw G => ?_)
  · rcases hX with ⟨rfl, hX⟩ | ⟨rfl, hX⟩
    · replace hw := hX q9
      refine vx_catch (name := "java/lang/IndexOutOfBoundsException") M.1.2.2.2.1 (tableOf []) ⟨0, 9, 12, 19⟩ (tableOf [(0, 9, 15, 13)]) (htab.trans rfl) (fun _ h => absurd h List.not_mem_nil) (by decide) (by decide) (gh_Mts M _ q439) (va_Nw.use rfl (M.2.2.1.1 _ (List.mem_of_getElem? (i := 8) rfl))) hce hcv hcl ?_
      exact wk_X0_correct_12 M hr htab  (some q9) _ _ _ _ G (gh_sub hl [] rfl) hw
    · replace hw := hX q9
      refine vx_catch (name := "java/lang/IllegalStateException") M.1.2.2.2.1 (tableOf [(0, 9, 12, 19)]) ⟨0, 9, 15, 13⟩ (tableOf []) (htab.trans rfl) (List.forall_mem_cons.mpr ⟨Or.inr ⟨by decide, "java/lang/IndexOutOfBoundsException", gh_Mts M _ q439, M.2.2.1.2.2.1 _ (List.mem_of_getElem? (i := 6) rfl)⟩, fun _ h => absurd h List.not_mem_nil⟩) (by decide) (by decide) (gh_Mts M _ q261) (va_Nw.use rfl (M.2.2.1.1 _ (List.mem_of_getElem? (i := 4) rfl))) hce hcv hcl ?_
      exact wk_X0_correct_15 M hr htab  (some q9) _ _ _ _ G (gh_sub hl [] rfl) hw
  · refine lv_i2l (v := (r2.toInt64)) hx hb dX0_correct_7 rfl ?_
    refine gh_jas M G hw dX0_correct_8 (fun h4 H locs hw G => ?_)
    refine lv_goto (tgt := 18) hx hb dX0_correct_9 (by decide) ?_
    refine lv_iconst (v := (0 : Int32)) hx hb dX0_correct_18 (by decide) ?_
    exact gh_iret M G hr rfl hw (by exact Nat.le_of_ble_eq_true rfl) (by exact Nat.le_of_ble_eq_true rfl) dX0_correct_19
/-! BinderyDeskModel.places (I)I -/
def rm_X3_places : Room := { frames := 1, cells := 0, slots := 0, locals := 40 }
def wb_X3_places_16 (κ : Nat → Nat)  (Q : Int32 → gh_H → Prop) (X : String → gh_H → Prop) (t0 : Int32) (h : gh_H) : Prop := (Q t0 h)
def wp_X3_places (κ : Nat → Nat) (v0 : Nat) (v1 : Int32) (Q : Int32 → gh_H → Prop) (X : String → gh_H → Prop) (h : gh_H) : Prop := (gh_GR h (some v0) [(1, 13)] (fun x1 => (gh_LI h x1 v1 (fun x2 => ((x2 = (119 : Int32) → wb_X3_places_16 κ Q X (2 : Int32) h) ∧ (¬ x2 = (119 : Int32) → wb_X3_places_16 κ Q X (4 : Int32) h))))))
set_option maxHeartbeats 4000000 in
theorem wk_X3_places_16 {D : gh_D} {p : Program} {l : Launch} {e : Env} {s : State} {m : MethodId} {args : Array Value} {below : List Frame} {meth : Method} {c : Code} {h0 : gh_H} (M : gh_M D p l s m args meth c RX3 cX3_places 2 (gh_A h0 s.heap.size)) (hr : meth.sig.returnType = (some .int)) (hex : ∀ x ∈ c.exceptionTable.toList, False)   {Q : Int32 → gh_H → Prop} {X : String → gh_H → Prop}   (t0 : Int32) (H : Heap) (locs : List Loc) (ls : Array Slot) (h : gh_H) (G : gh_Inv D h0 (gh_A h0 s.heap.size) s.heap s H locs h) (hl : gh_L ls 2 []) (hw : wb_X3_places_16 D.2.2 Q X t0 h) : W p l e rm_X3_places s m args below meth c H locs 0 0 (vx_MQ below (gh_Qi Q D h0 s.heap.size) (gh_X X D h0 s.heap.size) args s 0 0 (gh_A h0 s.heap.size)) (F0 m 16 ls [.int t0]) := by
  unfold wb_X3_places_16 at hw
  have hx := M.1.1
  have hb := M.1.2.1
  exact gh_iret M G hr rfl hw (by exact Nat.le_of_ble_eq_true rfl) (by exact Nat.le_of_ble_eq_true rfl) dX3_places_16
set_option maxHeartbeats 4000000 in
theorem met_X3_places (l : Launch) (D : gh_D) (v0 : Nat) (v1 : Int32) (Q : Int32 → gh_H → Prop) (X : String → gh_H → Prop) (h : gh_H) (sz : Nat) (hw : wp_X3_places D.2.2 v0 v1 Q X h) (hst : l.stackTraces = false) : vx_Met l yX3_places (ws_ yX3_places cX3_places 2 (some .int)) rm_X3_places (gh_Pc D h sz [.ref v0, .int v1]) (gh_Qi Q D h sz) (gh_X X D h sz) 0 0 (gh_A h sz) := by
  refine vx_ofW (by decide) rfl (fun p e s m args below meth c s₁ B hml hex hP => ?_)
  obtain ⟨rfl, rfl, hK, hT, hE, G⟩ := gh_start hP
  have M : gh_M D p l s m _ meth c RX3 cX3_places 2 (gh_A h s.heap.size) := ⟨⟨B.exec, B.bytes, hml, findClass_of_methodNamed B.named, fun w hw => atoms_spec (ws := ws_ yX3_places cX3_places 2 (some .int)) B.pre w (List.mem_cons_of_mem _ hw)⟩, hK, hT, hE, B.notSynchronized, hst⟩
  have hr := B.returns
  have hx := M.1.1
  have hb := M.1.2.1
  refine gh_enter (vs := [(1, .ref v0), (1, .int v1)]) (gh_w1 rfl (gh_w1 rfl gh_wn)) (Nat.le_of_ble_eq_true rfl) (fun ls hl => ?_)
  replace hl : gh_L ls 2 [(0, 1, va_rf (some v0)), (1, 1, .int v1)] := hl
  unfold wp_X3_places at hw
  refine gh_aload_n hx hb dX3_places_0 rfl (gh_at hl 0 rfl) ?_
  refine gh_getR M G hw fl_X3_13 dX3_places_1 (fun x1 hw => ?_)
  refine lv_iload_n hx hb dX3_places_4 rfl (gh_at hl 1 rfl) ?_
  refine gh_ial M G hw dX3_places_5 (fun x2 hw => ?_)
  refine lv_bipush (v := (119 : Int32)) hx hb dX3_places_6 (by decide) ?_
  refine lv_icmp_ne (tgt := 15) hx hb dX3_places_8 (by decide) (fun hc => ?_) (fun hc => ?_)
  · replace hw := hw.2 hc
    refine lv_iconst (v := (4 : Int32)) hx hb dX3_places_15 (by decide) ?_
    exact wk_X3_places_16 M hr hex  (4 : Int32) _ _ _ _ G (gh_sub hl [] rfl) hw
  · replace hw := hw.1 hc
    refine lv_iconst (v := (2 : Int32)) hx hb dX3_places_11 (by decide) ?_
    refine lv_goto (tgt := 16) hx hb dX3_places_12 (by decide) ?_
    exact wk_X3_places_16 M hr hex  (2 : Int32) _ _ _ _ G (gh_sub hl [] rfl) hw
/-! BinderyDeskModel.isWhole (I)Z -/
def rm_X3_isWhole : Room := { frames := 2, cells := 0, slots := 0, locals := 61 }
def wb_X3_isWhole_29 (κ : Nat → Nat)  (Q : Int32 → gh_H → Prop) (X : String → gh_H → Prop) (t0 : Int32) (h : gh_H) : Prop := (narrow .boolean (.int t0) = .int t0 ∧ Q t0 h)
def wb_X3_isWhole_28 (κ : Nat → Nat)  (Q : Int32 → gh_H → Prop) (X : String → gh_H → Prop)  (h : gh_H) : Prop := wb_X3_isWhole_29 κ Q X (0 : Int32) h
def wp_X3_isWhole (κ : Nat → Nat) (v0 : Nat) (v1 : Int32) (Q : Int32 → gh_H → Prop) (X : String → gh_H → Prop) (h : gh_H) : Prop := (gh_GR h (some v0) [(1, 14)] (fun x1 => (gh_LI h x1 v1 (fun x2 => ((x2 ≤ 0 → wb_X3_isWhole_28 κ Q X h) ∧ (¬ x2 ≤ 0 → (gh_GR h (some v0) [(1, 14)] (fun x3 => (gh_LI h x3 v1 (fun x4 => (gh_RC h (some v0) 1 (fun _ => (wp_X3_places κ v0 v1 (fun r6 h7 => ((¬ r6 = 0) ∧ (((x4 - x4 / r6 * r6) = 0 → wb_X3_isWhole_29 κ Q X (1 : Int32) h7) ∧ (¬ (x4 - x4 / r6 * r6) = 0 → wb_X3_isWhole_28 κ Q X h7)))) X h)))))))))))))
set_option maxHeartbeats 4000000 in
theorem wk_X3_isWhole_29 {D : gh_D} {p : Program} {l : Launch} {e : Env} {s : State} {m : MethodId} {args : Array Value} {below : List Frame} {meth : Method} {c : Code} {h0 : gh_H} (M : gh_M D p l s m args meth c RX3 cX3_isWhole 2 (gh_A h0 s.heap.size)) (hr : meth.sig.returnType = (some .boolean)) (hex : ∀ x ∈ c.exceptionTable.toList, False)   {Q : Int32 → gh_H → Prop} {X : String → gh_H → Prop}   (t0 : Int32) (H : Heap) (locs : List Loc) (ls : Array Slot) (h : gh_H) (G : gh_Inv D h0 (gh_A h0 s.heap.size) s.heap s H locs h) (hl : gh_L ls 2 []) (hw : wb_X3_isWhole_29 D.2.2 Q X t0 h) : W p l e rm_X3_isWhole s m args below meth c H locs 0 0 (vx_MQ below (gh_Qi Q D h0 s.heap.size) (gh_X X D h0 s.heap.size) args s 0 0 (gh_A h0 s.heap.size)) (F0 m 29 ls [.int t0]) := by
  unfold wb_X3_isWhole_29 at hw
  have hx := M.1.1
  have hb := M.1.2.1
  exact gh_iret M G hr hw.1 hw.2 (by exact Nat.le_of_ble_eq_true rfl) (by exact Nat.le_of_ble_eq_true rfl) dX3_isWhole_29
set_option maxHeartbeats 4000000 in
theorem wk_X3_isWhole_28 {D : gh_D} {p : Program} {l : Launch} {e : Env} {s : State} {m : MethodId} {args : Array Value} {below : List Frame} {meth : Method} {c : Code} {h0 : gh_H} (M : gh_M D p l s m args meth c RX3 cX3_isWhole 2 (gh_A h0 s.heap.size)) (hr : meth.sig.returnType = (some .boolean)) (hex : ∀ x ∈ c.exceptionTable.toList, False)   {Q : Int32 → gh_H → Prop} {X : String → gh_H → Prop}    (H : Heap) (locs : List Loc) (ls : Array Slot) (h : gh_H) (G : gh_Inv D h0 (gh_A h0 s.heap.size) s.heap s H locs h) (hl : gh_L ls 2 []) (hw : wb_X3_isWhole_28 D.2.2 Q X h) : W p l e rm_X3_isWhole s m args below meth c H locs 0 0 (vx_MQ below (gh_Qi Q D h0 s.heap.size) (gh_X X D h0 s.heap.size) args s 0 0 (gh_A h0 s.heap.size)) (F0 m 28 ls []) := by
  unfold wb_X3_isWhole_28 at hw
  have hx := M.1.1
  have hb := M.1.2.1
  refine lv_iconst (v := (0 : Int32)) hx hb dX3_isWhole_28 (by decide) ?_
  exact wk_X3_isWhole_29 M hr hex  (0 : Int32) _ _ _ _ G (gh_sub hl [] rfl) hw
set_option maxHeartbeats 4000000 in
theorem met_X3_isWhole (l : Launch) (D : gh_D) (v0 : Nat) (v1 : Int32) (Q : Int32 → gh_H → Prop) (X : String → gh_H → Prop) (h : gh_H) (sz : Nat) (hw : wp_X3_isWhole D.2.2 v0 v1 Q X h) (hst : l.stackTraces = false) : vx_Met l yX3_isWhole (ws_ yX3_isWhole cX3_isWhole 2 (some .boolean)) rm_X3_isWhole (gh_Pc D h sz [.ref v0, .int v1]) (gh_Qi Q D h sz) (gh_X X D h sz) 0 0 (gh_A h sz) := by
  refine vx_ofW (by decide) rfl (fun p e s m args below meth c s₁ B hml hex hP => ?_)
  obtain ⟨rfl, rfl, hK, hT, hE, G⟩ := gh_start hP
  have M : gh_M D p l s m _ meth c RX3 cX3_isWhole 2 (gh_A h s.heap.size) := ⟨⟨B.exec, B.bytes, hml, findClass_of_methodNamed B.named, fun w hw => atoms_spec (ws := ws_ yX3_isWhole cX3_isWhole 2 (some .boolean)) B.pre w (List.mem_cons_of_mem _ hw)⟩, hK, hT, hE, B.notSynchronized, hst⟩
  have hr := B.returns
  have hx := M.1.1
  have hb := M.1.2.1
  refine gh_enter (vs := [(1, .ref v0), (1, .int v1)]) (gh_w1 rfl (gh_w1 rfl gh_wn)) (Nat.le_of_ble_eq_true rfl) (fun ls hl => ?_)
  replace hl : gh_L ls 2 [(0, 1, va_rf (some v0)), (1, 1, .int v1)] := hl
  unfold wp_X3_isWhole at hw
  refine gh_aload_n hx hb dX3_isWhole_0 rfl (gh_at hl 0 rfl) ?_
  refine gh_getR M G hw fl_X3_16 dX3_isWhole_1 (fun x1 hw => ?_)
  refine lv_iload_n hx hb dX3_isWhole_4 rfl (gh_at hl 1 rfl) ?_
  refine gh_ial M G hw dX3_isWhole_5 (fun x2 hw => ?_)
  refine lv_if_le (tgt := 28) hx hb dX3_isWhole_6 (by decide) (fun hc => ?_) (fun hc => ?_)
  · replace hw := hw.1 hc
    exact wk_X3_isWhole_28 M hr hex   _ _ _ _ G (gh_sub hl [] rfl) hw
  · replace hw := hw.2 hc
    refine gh_aload_n hx hb dX3_isWhole_9 rfl (gh_at hl 0 rfl) ?_
    refine gh_getR M G hw fl_X3_16 dX3_isWhole_10 (fun x3 hw => ?_)
    refine lv_iload_n hx hb dX3_isWhole_13 rfl (gh_at hl 1 rfl) ?_
    refine gh_ial M G hw dX3_isWhole_14 (fun x4 hw => ?_)
    refine gh_aload_n hx hb dX3_isWhole_15 rfl (gh_at hl 0 rfl) ?_
    refine lv_iload_n hx hb dX3_isWhole_16 rfl (gh_at hl 1 rfl) ?_
    obtain ⟨a5, lba5, fsa5, hra5, haa5, hw⟩ := hw
    rw [← Option.some.inj hra5] at haa5
    refine gh_ki G (vx_runV M.1 (met_X3_places l D _ _ _ _ _ _ hw M.2.2.2.2.2) (cwV 1 (gh_Mts M) (lw_V q1680 q1682 qs24 q50 q1683) rfl rfl rfl ⟨rfl, by decide, by decide, rfl⟩ ⟨Nat.le_of_ble_eq_true rfl, Nat.le_of_ble_eq_true rfl⟩) (gh_preV (As := [.int v1]) M G (gh_rec M G haa5 rfl)) rfl rfl hl.1.1 rfl (lv_room (Nat.le_of_ble_eq_true rfl)) dX3_isWhole_17 ⟨(Nat.le_of_ble_eq_true rfl), (Nat.le_of_ble_eq_true rfl)⟩) (gh_out M hex (by exact Nat.le_of_ble_eq_true rfl) (by exact Nat.le_of_ble_eq_true rfl)) (fun r6 h7 H locs hw G => ?_)
    refine lv_irem hx hb dX3_isWhole_20 hw.1 ?_
    replace hw := hw.2
    refine lv_if_ne (tgt := 28) hx hb dX3_isWhole_21 (by decide) (fun hc => ?_) (fun hc => ?_)
    · replace hw := hw.2 hc
      exact wk_X3_isWhole_28 M hr hex   _ _ _ _ G (gh_sub hl [] rfl) hw
    · replace hw := hw.1 hc
      refine lv_iconst (v := (1 : Int32)) hx hb dX3_isWhole_24 (by decide) ?_
      refine lv_goto (tgt := 29) hx hb dX3_isWhole_25 (by decide) ?_
      exact wk_X3_isWhole_29 M hr hex  (1 : Int32) _ _ _ _ G (gh_sub hl [] rfl) hw
/-! BinderyDeskModel.count (I)I -/
def rm_X3_count : Room := { frames := 2, cells := 0, slots := 0, locals := 61 }
def wp_X3_count (κ : Nat → Nat) (v0 : Nat) (v1 : Int32) (Q : Int32 → gh_H → Prop) (X : String → gh_H → Prop) (h : gh_H) : Prop := (gh_GR h (some v0) [(1, 14)] (fun x1 => (gh_LI h x1 v1 (fun x2 => (gh_RC h (some v0) 1 (fun _ => (wp_X3_places κ v0 v1 (fun r4 h5 => ((¬ r4 = 0) ∧ (Q (x2 / r4) h5))) X h)))))))
set_option maxHeartbeats 4000000 in
theorem met_X3_count (l : Launch) (D : gh_D) (v0 : Nat) (v1 : Int32) (Q : Int32 → gh_H → Prop) (X : String → gh_H → Prop) (h : gh_H) (sz : Nat) (hw : wp_X3_count D.2.2 v0 v1 Q X h) (hst : l.stackTraces = false) : vx_Met l yX3_count (ws_ yX3_count cX3_count 2 (some .int)) rm_X3_count (gh_Pc D h sz [.ref v0, .int v1]) (gh_Qi Q D h sz) (gh_X X D h sz) 0 0 (gh_A h sz) := by
  refine vx_ofW (by decide) rfl (fun p e s m args below meth c s₁ B hml hex hP => ?_)
  obtain ⟨rfl, rfl, hK, hT, hE, G⟩ := gh_start hP
  have M : gh_M D p l s m _ meth c RX3 cX3_count 2 (gh_A h s.heap.size) := ⟨⟨B.exec, B.bytes, hml, findClass_of_methodNamed B.named, fun w hw => atoms_spec (ws := ws_ yX3_count cX3_count 2 (some .int)) B.pre w (List.mem_cons_of_mem _ hw)⟩, hK, hT, hE, B.notSynchronized, hst⟩
  have hr := B.returns
  have hx := M.1.1
  have hb := M.1.2.1
  refine gh_enter (vs := [(1, .ref v0), (1, .int v1)]) (gh_w1 rfl (gh_w1 rfl gh_wn)) (Nat.le_of_ble_eq_true rfl) (fun ls hl => ?_)
  replace hl : gh_L ls 2 [(0, 1, va_rf (some v0)), (1, 1, .int v1)] := hl
  unfold wp_X3_count at hw
  refine gh_aload_n hx hb dX3_count_0 rfl (gh_at hl 0 rfl) ?_
  refine gh_getR M G hw fl_X3_16 dX3_count_1 (fun x1 hw => ?_)
  refine lv_iload_n hx hb dX3_count_4 rfl (gh_at hl 1 rfl) ?_
  refine gh_ial M G hw dX3_count_5 (fun x2 hw => ?_)
  refine gh_aload_n hx hb dX3_count_6 rfl (gh_at hl 0 rfl) ?_
  refine lv_iload_n hx hb dX3_count_7 rfl (gh_at hl 1 rfl) ?_
  obtain ⟨a3, lba3, fsa3, hra3, haa3, hw⟩ := hw
  rw [← Option.some.inj hra3] at haa3
  refine gh_ki G (vx_runV M.1 (met_X3_places l D _ _ _ _ _ _ hw M.2.2.2.2.2) (cwV 1 (gh_Mts M) (lw_V q1680 q1682 qs24 q50 q1683) rfl rfl rfl ⟨rfl, by decide, by decide, rfl⟩ ⟨Nat.le_of_ble_eq_true rfl, Nat.le_of_ble_eq_true rfl⟩) (gh_preV (As := [.int v1]) M G (gh_rec M G haa3 rfl)) rfl rfl hl.1.1 rfl (lv_room (Nat.le_of_ble_eq_true rfl)) dX3_count_8 ⟨(Nat.le_of_ble_eq_true rfl), (Nat.le_of_ble_eq_true rfl)⟩) (gh_out M hex (by exact Nat.le_of_ble_eq_true rfl) (by exact Nat.le_of_ble_eq_true rfl)) (fun r4 h5 H locs hw G => ?_)
  refine lv_idiv hx hb dX3_count_11 hw.1 ?_
  replace hw := hw.2
  exact gh_iret M G hr rfl hw (by exact Nat.le_of_ble_eq_true rfl) (by exact Nat.le_of_ble_eq_true rfl) dX3_count_12
/-! BinderyDeskModel.pageOn (III)I -/
def rm_X3_pageOn : Room := { frames := 1, cells := 0, slots := 0, locals := 40 }
def wb_X3_pageOn_103 (κ : Nat → Nat)  (Q : Int32 → gh_H → Prop) (X : String → gh_H → Prop) (t0 : Int32) (h : gh_H) : Prop := (Q t0 h)
def wb_X3_pageOn_47 (κ : Nat → Nat)  (Q : Int32 → gh_H → Prop) (X : String → gh_H → Prop) (t0 : Int32) (h : gh_H) : Prop := (Q t0 h)
def wp_X3_pageOn (κ : Nat → Nat) (v0 : Nat) (v1 : Int32) (v2 : Int32) (v3 : Int32) (Q : Int32 → gh_H → Prop) (X : String → gh_H → Prop) (h : gh_H) : Prop := (gh_GR h (some v0) [(1, 13)] (fun x1 => (gh_LI h x1 v1 (fun x2 => ((x2 = (119 : Int32) → (Q ((((2 : Int32) * v2) + (1 : Int32)) + v3) h)) ∧ (¬ x2 = (119 : Int32) → (gh_GR h (some v0) [(1, 13)] (fun x3 => (gh_LI h x3 v1 (fun x4 => ((x4 = (112 : Int32) → ((v3 = 0 → wb_X3_pageOn_47 κ Q X (((4 : Int32) * v2) + (4 : Int32)) h) ∧ (¬ v3 = 0 → wb_X3_pageOn_47 κ Q X (((4 : Int32) * v2) + v3) h))) ∧ (¬ x4 = (112 : Int32) → (gh_GR h (some v0) [(1, 14)] (fun x5 => (gh_LI h x5 v1 (fun x6 => ((v3 = 0 → wb_X3_pageOn_103 κ Q X (x6 - ((2 : Int32) * v2)) h) ∧ (¬ v3 = 0 → ((v3 = (1 : Int32) → wb_X3_pageOn_103 κ Q X (((2 : Int32) * v2) + (1 : Int32)) h) ∧ (¬ v3 = (1 : Int32) → ((v3 = (2 : Int32) → wb_X3_pageOn_103 κ Q X (((2 : Int32) * v2) + (2 : Int32)) h) ∧ (¬ v3 = (2 : Int32) → wb_X3_pageOn_103 κ Q X ((x6 - ((2 : Int32) * v2)) - (1 : Int32)) h))))))))))))))))))))))
set_option maxHeartbeats 4000000 in
theorem wk_X3_pageOn_103 {D : gh_D} {p : Program} {l : Launch} {e : Env} {s : State} {m : MethodId} {args : Array Value} {below : List Frame} {meth : Method} {c : Code} {h0 : gh_H} (M : gh_M D p l s m args meth c RX3 cX3_pageOn 5 (gh_A h0 s.heap.size)) (hr : meth.sig.returnType = (some .int)) (hex : ∀ x ∈ c.exceptionTable.toList, False)   {Q : Int32 → gh_H → Prop} {X : String → gh_H → Prop}   (t0 : Int32) (H : Heap) (locs : List Loc) (ls : Array Slot) (h : gh_H) (G : gh_Inv D h0 (gh_A h0 s.heap.size) s.heap s H locs h) (hl : gh_L ls 5 []) (hw : wb_X3_pageOn_103 D.2.2 Q X t0 h) : W p l e rm_X3_pageOn s m args below meth c H locs 0 0 (vx_MQ below (gh_Qi Q D h0 s.heap.size) (gh_X X D h0 s.heap.size) args s 0 0 (gh_A h0 s.heap.size)) (F0 m 103 ls [.int t0]) := by
  unfold wb_X3_pageOn_103 at hw
  have hx := M.1.1
  have hb := M.1.2.1
  exact gh_iret M G hr rfl hw (by exact Nat.le_of_ble_eq_true rfl) (by exact Nat.le_of_ble_eq_true rfl) dX3_pageOn_103
set_option maxHeartbeats 4000000 in
theorem wk_X3_pageOn_47 {D : gh_D} {p : Program} {l : Launch} {e : Env} {s : State} {m : MethodId} {args : Array Value} {below : List Frame} {meth : Method} {c : Code} {h0 : gh_H} (M : gh_M D p l s m args meth c RX3 cX3_pageOn 5 (gh_A h0 s.heap.size)) (hr : meth.sig.returnType = (some .int)) (hex : ∀ x ∈ c.exceptionTable.toList, False)   {Q : Int32 → gh_H → Prop} {X : String → gh_H → Prop}   (t0 : Int32) (H : Heap) (locs : List Loc) (ls : Array Slot) (h : gh_H) (G : gh_Inv D h0 (gh_A h0 s.heap.size) s.heap s H locs h) (hl : gh_L ls 5 []) (hw : wb_X3_pageOn_47 D.2.2 Q X t0 h) : W p l e rm_X3_pageOn s m args below meth c H locs 0 0 (vx_MQ below (gh_Qi Q D h0 s.heap.size) (gh_X X D h0 s.heap.size) args s 0 0 (gh_A h0 s.heap.size)) (F0 m 47 ls [.int t0]) := by
  unfold wb_X3_pageOn_47 at hw
  have hx := M.1.1
  have hb := M.1.2.1
  exact gh_iret M G hr rfl hw (by exact Nat.le_of_ble_eq_true rfl) (by exact Nat.le_of_ble_eq_true rfl) dX3_pageOn_47
set_option maxHeartbeats 4000000 in
theorem met_X3_pageOn (l : Launch) (D : gh_D) (v0 : Nat) (v1 : Int32) (v2 : Int32) (v3 : Int32) (Q : Int32 → gh_H → Prop) (X : String → gh_H → Prop) (h : gh_H) (sz : Nat) (hw : wp_X3_pageOn D.2.2 v0 v1 v2 v3 Q X h) (hst : l.stackTraces = false) : vx_Met l yX3_pageOn (ws_ yX3_pageOn cX3_pageOn 5 (some .int)) rm_X3_pageOn (gh_Pc D h sz [.ref v0, .int v1, .int v2, .int v3]) (gh_Qi Q D h sz) (gh_X X D h sz) 0 0 (gh_A h sz) := by
  refine vx_ofW (by decide) rfl (fun p e s m args below meth c s₁ B hml hex hP => ?_)
  obtain ⟨rfl, rfl, hK, hT, hE, G⟩ := gh_start hP
  have M : gh_M D p l s m _ meth c RX3 cX3_pageOn 5 (gh_A h s.heap.size) := ⟨⟨B.exec, B.bytes, hml, findClass_of_methodNamed B.named, fun w hw => atoms_spec (ws := ws_ yX3_pageOn cX3_pageOn 5 (some .int)) B.pre w (List.mem_cons_of_mem _ hw)⟩, hK, hT, hE, B.notSynchronized, hst⟩
  have hr := B.returns
  have hx := M.1.1
  have hb := M.1.2.1
  refine gh_enter (vs := [(1, .ref v0), (1, .int v1), (1, .int v2), (1, .int v3)]) (gh_w1 rfl (gh_w1 rfl (gh_w1 rfl (gh_w1 rfl gh_wn)))) (Nat.le_of_ble_eq_true rfl) (fun ls hl => ?_)
  replace hl : gh_L ls 5 [(0, 1, va_rf (some v0)), (1, 1, .int v1), (2, 1, .int v2), (3, 1, .int v3)] := hl
  unfold wp_X3_pageOn at hw
  refine gh_aload_n hx hb dX3_pageOn_0 rfl (gh_at hl 0 rfl) ?_
  refine gh_getR M G hw fl_X3_13 dX3_pageOn_1 (fun x1 hw => ?_)
  refine lv_iload_n hx hb dX3_pageOn_4 rfl (gh_at hl 1 rfl) ?_
  refine gh_ial M G hw dX3_pageOn_5 (fun x2 hw => ?_)
  refine lv_bipush (v := (119 : Int32)) hx hb dX3_pageOn_6 (by decide) ?_
  refine lv_icmp_ne (tgt := 19) hx hb dX3_pageOn_8 (by decide) (fun hc => ?_) (fun hc => ?_)
  · replace hw := hw.2 hc
    refine gh_aload_n hx hb dX3_pageOn_19 rfl (gh_at hl 0 rfl) ?_
    refine gh_getR M G hw fl_X3_13 dX3_pageOn_20 (fun x3 hw => ?_)
    refine lv_iload_n hx hb dX3_pageOn_23 rfl (gh_at hl 1 rfl) ?_
    refine gh_ial M G hw dX3_pageOn_24 (fun x4 hw => ?_)
    refine lv_bipush (v := (112 : Int32)) hx hb dX3_pageOn_25 (by decide) ?_
    refine lv_icmp_ne (tgt := 48) hx hb dX3_pageOn_27 (by decide) (fun hc => ?_) (fun hc => ?_)
    · replace hw := hw.2 hc
      refine gh_aload_n hx hb dX3_pageOn_48 rfl (gh_at hl 0 rfl) ?_
      refine gh_getR M G hw fl_X3_16 dX3_pageOn_49 (fun x5 hw => ?_)
      refine lv_iload_n hx hb dX3_pageOn_52 rfl (gh_at hl 1 rfl) ?_
      refine gh_ial M G hw dX3_pageOn_53 (fun x6 hw => ?_)
      refine gh_istore (lv' := [(4, 1, .int x6), (0, 1, va_rf (some v0)), (1, 1, .int v1), (2, 1, .int v2), (3, 1, .int v3)]) hx hb dX3_pageOn_54 hl (by decide) rfl (fun ls hl => ?_)
      refine lv_iload_n hx hb dX3_pageOn_56 rfl (gh_at hl 4 rfl) ?_
      refine lv_if_ne (tgt := 69) hx hb dX3_pageOn_57 (by decide) (fun hc => ?_) (fun hc => ?_)
      · replace hw := hw.2 hc
        refine lv_iload_n hx hb dX3_pageOn_69 rfl (gh_at hl 4 rfl) ?_
        refine lv_iconst (v := (1 : Int32)) hx hb dX3_pageOn_70 (by decide) ?_
        refine lv_icmp_ne (tgt := 82) hx hb dX3_pageOn_71 (by decide) (fun hc => ?_) (fun hc => ?_)
        · replace hw := hw.2 hc
          refine lv_iload_n hx hb dX3_pageOn_82 rfl (gh_at hl 4 rfl) ?_
          refine lv_iconst (v := (2 : Int32)) hx hb dX3_pageOn_83 (by decide) ?_
          refine lv_icmp_ne (tgt := 95) hx hb dX3_pageOn_84 (by decide) (fun hc => ?_) (fun hc => ?_)
          · replace hw := hw.2 hc
            refine lv_iload hx hb dX3_pageOn_95 (gh_at hl 0 rfl) ?_
            refine lv_iconst (v := (2 : Int32)) hx hb dX3_pageOn_97 (by decide) ?_
            refine lv_iload_n hx hb dX3_pageOn_98 rfl (gh_at hl 3 rfl) ?_
            refine lv_imul hx hb dX3_pageOn_99 ?_
            refine lv_isub hx hb dX3_pageOn_100 ?_
            refine lv_iconst (v := (1 : Int32)) hx hb dX3_pageOn_101 (by decide) ?_
            refine lv_isub hx hb dX3_pageOn_102 ?_
            exact wk_X3_pageOn_103 M hr hex  ((x6 - ((2 : Int32) * v2)) - (1 : Int32)) _ _ _ _ G (gh_sub hl [] rfl) hw
          · replace hw := hw.1 hc
            refine lv_iconst (v := (2 : Int32)) hx hb dX3_pageOn_87 (by decide) ?_
            refine lv_iload_n hx hb dX3_pageOn_88 rfl (gh_at hl 3 rfl) ?_
            refine lv_imul hx hb dX3_pageOn_89 ?_
            refine lv_iconst (v := (2 : Int32)) hx hb dX3_pageOn_90 (by decide) ?_
            refine lv_iadd hx hb dX3_pageOn_91 ?_
            refine lv_goto (tgt := 103) hx hb dX3_pageOn_92 (by decide) ?_
            exact wk_X3_pageOn_103 M hr hex  (((2 : Int32) * v2) + (2 : Int32)) _ _ _ _ G (gh_sub hl [] rfl) hw
        · replace hw := hw.1 hc
          refine lv_iconst (v := (2 : Int32)) hx hb dX3_pageOn_74 (by decide) ?_
          refine lv_iload_n hx hb dX3_pageOn_75 rfl (gh_at hl 3 rfl) ?_
          refine lv_imul hx hb dX3_pageOn_76 ?_
          refine lv_iconst (v := (1 : Int32)) hx hb dX3_pageOn_77 (by decide) ?_
          refine lv_iadd hx hb dX3_pageOn_78 ?_
          refine lv_goto (tgt := 103) hx hb dX3_pageOn_79 (by decide) ?_
          exact wk_X3_pageOn_103 M hr hex  (((2 : Int32) * v2) + (1 : Int32)) _ _ _ _ G (gh_sub hl [] rfl) hw
      · replace hw := hw.1 hc
        refine lv_iload hx hb dX3_pageOn_60 (gh_at hl 0 rfl) ?_
        refine lv_iconst (v := (2 : Int32)) hx hb dX3_pageOn_62 (by decide) ?_
        refine lv_iload_n hx hb dX3_pageOn_63 rfl (gh_at hl 3 rfl) ?_
        refine lv_imul hx hb dX3_pageOn_64 ?_
        refine lv_isub hx hb dX3_pageOn_65 ?_
        refine lv_goto (tgt := 103) hx hb dX3_pageOn_66 (by decide) ?_
        exact wk_X3_pageOn_103 M hr hex  (x6 - ((2 : Int32) * v2)) _ _ _ _ G (gh_sub hl [] rfl) hw
    · replace hw := hw.1 hc
      refine lv_iload_n hx hb dX3_pageOn_30 rfl (gh_at hl 3 rfl) ?_
      refine lv_if_ne (tgt := 42) hx hb dX3_pageOn_31 (by decide) (fun hc => ?_) (fun hc => ?_)
      · replace hw := hw.2 hc
        refine lv_iconst (v := (4 : Int32)) hx hb dX3_pageOn_42 (by decide) ?_
        refine lv_iload_n hx hb dX3_pageOn_43 rfl (gh_at hl 2 rfl) ?_
        refine lv_imul hx hb dX3_pageOn_44 ?_
        refine lv_iload_n hx hb dX3_pageOn_45 rfl (gh_at hl 3 rfl) ?_
        refine lv_iadd hx hb dX3_pageOn_46 ?_
        exact wk_X3_pageOn_47 M hr hex  (((4 : Int32) * v2) + v3) _ _ _ _ G (gh_sub hl [] rfl) hw
      · replace hw := hw.1 hc
        refine lv_iconst (v := (4 : Int32)) hx hb dX3_pageOn_34 (by decide) ?_
        refine lv_iload_n hx hb dX3_pageOn_35 rfl (gh_at hl 2 rfl) ?_
        refine lv_imul hx hb dX3_pageOn_36 ?_
        refine lv_iconst (v := (4 : Int32)) hx hb dX3_pageOn_37 (by decide) ?_
        refine lv_iadd hx hb dX3_pageOn_38 ?_
        refine lv_goto (tgt := 47) hx hb dX3_pageOn_39 (by decide) ?_
        exact wk_X3_pageOn_47 M hr hex  (((4 : Int32) * v2) + (4 : Int32)) _ _ _ _ G (gh_sub hl [] rfl) hw
  · replace hw := hw.1 hc
    refine lv_iconst (v := (2 : Int32)) hx hb dX3_pageOn_11 (by decide) ?_
    refine lv_iload_n hx hb dX3_pageOn_12 rfl (gh_at hl 2 rfl) ?_
    refine lv_imul hx hb dX3_pageOn_13 ?_
    refine lv_iconst (v := (1 : Int32)) hx hb dX3_pageOn_14 (by decide) ?_
    refine lv_iadd hx hb dX3_pageOn_15 ?_
    refine lv_iload_n hx hb dX3_pageOn_16 rfl (gh_at hl 3 rfl) ?_
    refine lv_iadd hx hb dX3_pageOn_17 ?_
    exact gh_iret M G hr rfl hw (by exact Nat.le_of_ble_eq_true rfl) (by exact Nat.le_of_ble_eq_true rfl) dX3_pageOn_18
/-! BinderyDeskModel.contentOn (III)I -/
def rm_X3_contentOn : Room := { frames := 2, cells := 0, slots := 0, locals := 64 }
def wp_X3_contentOn (κ : Nat → Nat) (v0 : Nat) (v1 : Int32) (v2 : Int32) (v3 : Int32) (Q : Int32 → gh_H → Prop) (X : String → gh_H → Prop) (h : gh_H) : Prop := (gh_GR h (some v0) [(1, 15)] (fun x1 => (gh_RC h (some v0) 1 (fun _ => (wp_X3_pageOn κ v0 v1 v2 v3 (fun r3 h4 => (gh_LI h4 x1 ((((16 : Int32) * v1) + r3) - (1 : Int32)) (fun x5 => (Q x5 h4)))) X h)))))
set_option maxHeartbeats 4000000 in
theorem met_X3_contentOn (l : Launch) (D : gh_D) (v0 : Nat) (v1 : Int32) (v2 : Int32) (v3 : Int32) (Q : Int32 → gh_H → Prop) (X : String → gh_H → Prop) (h : gh_H) (sz : Nat) (hw : wp_X3_contentOn D.2.2 v0 v1 v2 v3 Q X h) (hst : l.stackTraces = false) : vx_Met l yX3_contentOn (ws_ yX3_contentOn cX3_contentOn 4 (some .int)) rm_X3_contentOn (gh_Pc D h sz [.ref v0, .int v1, .int v2, .int v3]) (gh_Qi Q D h sz) (gh_X X D h sz) 0 0 (gh_A h sz) := by
  refine vx_ofW (by decide) rfl (fun p e s m args below meth c s₁ B hml hex hP => ?_)
  obtain ⟨rfl, rfl, hK, hT, hE, G⟩ := gh_start hP
  have M : gh_M D p l s m _ meth c RX3 cX3_contentOn 4 (gh_A h s.heap.size) := ⟨⟨B.exec, B.bytes, hml, findClass_of_methodNamed B.named, fun w hw => atoms_spec (ws := ws_ yX3_contentOn cX3_contentOn 4 (some .int)) B.pre w (List.mem_cons_of_mem _ hw)⟩, hK, hT, hE, B.notSynchronized, hst⟩
  have hr := B.returns
  have hx := M.1.1
  have hb := M.1.2.1
  refine gh_enter (vs := [(1, .ref v0), (1, .int v1), (1, .int v2), (1, .int v3)]) (gh_w1 rfl (gh_w1 rfl (gh_w1 rfl (gh_w1 rfl gh_wn)))) (Nat.le_of_ble_eq_true rfl) (fun ls hl => ?_)
  replace hl : gh_L ls 4 [(0, 1, va_rf (some v0)), (1, 1, .int v1), (2, 1, .int v2), (3, 1, .int v3)] := hl
  unfold wp_X3_contentOn at hw
  refine gh_aload_n hx hb dX3_contentOn_0 rfl (gh_at hl 0 rfl) ?_
  refine gh_getR M G hw fl_X3_19 dX3_contentOn_1 (fun x1 hw => ?_)
  refine lv_bipush (v := (16 : Int32)) hx hb dX3_contentOn_4 (by decide) ?_
  refine lv_iload_n hx hb dX3_contentOn_6 rfl (gh_at hl 1 rfl) ?_
  refine lv_imul hx hb dX3_contentOn_7 ?_
  refine gh_aload_n hx hb dX3_contentOn_8 rfl (gh_at hl 0 rfl) ?_
  refine lv_iload_n hx hb dX3_contentOn_9 rfl (gh_at hl 1 rfl) ?_
  refine lv_iload_n hx hb dX3_contentOn_10 rfl (gh_at hl 2 rfl) ?_
  refine lv_iload_n hx hb dX3_contentOn_11 rfl (gh_at hl 3 rfl) ?_
  obtain ⟨a2, lba2, fsa2, hra2, haa2, hw⟩ := hw
  rw [← Option.some.inj hra2] at haa2
  refine gh_ki G (vx_runV M.1 (met_X3_pageOn l D _ _ _ _ _ _ _ _ hw M.2.2.2.2.2) (cwV 3 (gh_Mts M) (lw_V q1696 q1698 qs28 q50 q1699) rfl rfl rfl ⟨rfl, by decide, by decide, rfl⟩ ⟨Nat.le_of_ble_eq_true rfl, Nat.le_of_ble_eq_true rfl⟩) (gh_preV (As := [.int v1, .int v2, .int v3]) M G (gh_rec M G haa2 rfl)) rfl rfl hl.1.1 rfl (lv_room (Nat.le_trans (gh_r1 rfl (gh_r1 (gh_cat _) gh_r0)) (Nat.le_of_ble_eq_true rfl : 2 ≤ 8))) dX3_contentOn_12 ⟨(Nat.le_of_ble_eq_true rfl), (Nat.le_of_ble_eq_true rfl)⟩) (gh_out M hex (by exact Nat.le_of_ble_eq_true rfl) (by exact Nat.le_of_ble_eq_true rfl)) (fun r3 h4 H locs hw G => ?_)
  refine lv_iadd hx hb dX3_contentOn_15 ?_
  refine lv_iconst (v := (1 : Int32)) hx hb dX3_contentOn_16 (by decide) ?_
  refine lv_isub hx hb dX3_contentOn_17 ?_
  refine gh_ial M G hw dX3_contentOn_18 (fun x5 hw => ?_)
  exact gh_iret M G hr rfl hw (by exact Nat.le_of_ble_eq_true rfl) (by exact Nat.le_of_ble_eq_true rfl) dX3_contentOn_19
/-! BinderyDeskModel.isShown (III)Z -/
def rm_X3_isShown : Room := { frames := 3, cells := 0, slots := 0, locals := 87 }
def wb_X3_isShown_3 (κ : Nat → Nat) (K3 : Nat → Int32 → Int32 → Int32 → Int32 → gh_H → Prop) (Q : Int32 → gh_H → Prop) (X : String → gh_H → Prop) (v0 : Nat) (v1 : Int32) (v2 : Int32) (v3 : Int32) (v4 : Int32) (h : gh_H) : Prop := (gh_RC h (some v0) 1 (fun _ => (wp_X3_places κ v0 v1 (fun r2 h3 => ((r2 ≤ v4 → (narrow .boolean (.int (0 : Int32)) = .int (0 : Int32) ∧ Q (0 : Int32) h3)) ∧ (¬ r2 ≤ v4 → (gh_RC h3 (some v0) 1 (fun _ => (wp_X3_contentOn κ v0 v1 v2 v4 (fun r5 h6 => ((r5 = v3 → (narrow .boolean (.int (1 : Int32)) = .int (1 : Int32) ∧ Q (1 : Int32) h6)) ∧ (¬ r5 = v3 → K3 v0 v1 v2 v3 (v4 + (1 : Int32)) h6))) X h3)))))) X h)))
def wl_X3_isShown_3 (κ : Nat → Nat)  (Q : Int32 → gh_H → Prop) (X : String → gh_H → Prop) : Nat → Nat → Int32 → Int32 → Int32 → Int32 → gh_H → Prop
  | 0 => fun _ _ _ _ _ _ => False
  | n + 1 => fun v0 v1 v2 v3 v4 h => wb_X3_isShown_3 κ (wl_X3_isShown_3 κ Q X n) Q X v0 v1 v2 v3 v4 h
def wp_X3_isShown (κ : Nat → Nat) (v0 : Nat) (v1 : Int32) (v2 : Int32) (v3 : Int32) (Q : Int32 → gh_H → Prop) (X : String → gh_H → Prop) (h : gh_H) : Prop := (∃ n : Nat, wl_X3_isShown_3 κ Q X n v0 v1 v2 v3 (0 : Int32) h)
set_option maxHeartbeats 4000000 in
theorem wk1_X3_isShown_3 {D : gh_D} {p : Program} {l : Launch} {e : Env} {s : State} {m : MethodId} {args : Array Value} {below : List Frame} {meth : Method} {c : Code} {h0 : gh_H} (M : gh_M D p l s m args meth c RX3 cX3_isShown 5 (gh_A h0 s.heap.size)) (hr : meth.sig.returnType = (some .boolean)) (hex : ∀ x ∈ c.exceptionTable.toList, False) {K3 : Nat → Int32 → Int32 → Int32 → Int32 → gh_H → Prop}  {Q : Int32 → gh_H → Prop} {X : String → gh_H → Prop} (k3 : ∀ (v0 : Nat) (v1 : Int32) (v2 : Int32) (v3 : Int32) (v4 : Int32) (H : Heap) (locs : List Loc) (ls : Array Slot) (h : gh_H) (_ : gh_Inv D h0 (gh_A h0 s.heap.size) s.heap s H locs h) (_ : gh_L ls 5 [(0, 1, va_rf (some v0)), (1, 1, .int v1), (2, 1, .int v2), (3, 1, .int v3), (4, 1, .int v4)]) (_ : K3 v0 v1 v2 v3 v4 h), W p l e rm_X3_isShown s m args below meth c H locs 0 0 (vx_MQ below (gh_Qi Q D h0 s.heap.size) (gh_X X D h0 s.heap.size) args s 0 0 (gh_A h0 s.heap.size)) (F0 m 3 ls []))  (v0 : Nat) (v1 : Int32) (v2 : Int32) (v3 : Int32) (v4 : Int32) (H : Heap) (locs : List Loc) (ls : Array Slot) (h : gh_H) (G : gh_Inv D h0 (gh_A h0 s.heap.size) s.heap s H locs h) (hl : gh_L ls 5 [(0, 1, va_rf (some v0)), (1, 1, .int v1), (2, 1, .int v2), (3, 1, .int v3), (4, 1, .int v4)]) (hw : wb_X3_isShown_3 D.2.2 K3 Q X v0 v1 v2 v3 v4 h) : W p l e rm_X3_isShown s m args below meth c H locs 0 0 (vx_MQ below (gh_Qi Q D h0 s.heap.size) (gh_X X D h0 s.heap.size) args s 0 0 (gh_A h0 s.heap.size)) (F0 m 3 ls []) := by
  unfold wb_X3_isShown_3 at hw
  have hx := M.1.1
  have hb := M.1.2.1
  refine lv_iload hx hb dX3_isShown_3 (gh_at hl 4 rfl) ?_
  refine gh_aload_n hx hb dX3_isShown_5 rfl (gh_at hl 0 rfl) ?_
  refine lv_iload_n hx hb dX3_isShown_6 rfl (gh_at hl 1 rfl) ?_
  obtain ⟨a1, lba1, fsa1, hra1, haa1, hw⟩ := hw
  rw [← Option.some.inj hra1] at haa1
  refine gh_ki G (vx_runV M.1 (met_X3_places l D _ _ _ _ _ _ hw M.2.2.2.2.2) (cwV 1 (gh_Mts M) (lw_V q1680 q1682 qs24 q50 q1683) rfl rfl rfl ⟨rfl, by decide, by decide, rfl⟩ ⟨Nat.le_of_ble_eq_true rfl, Nat.le_of_ble_eq_true rfl⟩) (gh_preV (As := [.int v1]) M G (gh_rec M G haa1 rfl)) rfl rfl hl.1.1 rfl (lv_room (Nat.le_of_ble_eq_true rfl)) dX3_isShown_7 ⟨(Nat.le_of_ble_eq_true rfl), (Nat.le_of_ble_eq_true rfl)⟩) (gh_out M hex (by exact Nat.le_of_ble_eq_true rfl) (by exact Nat.le_of_ble_eq_true rfl)) (fun r2 h3 H locs hw G => ?_)
  refine lv_icmp_ge (tgt := 33) hx hb dX3_isShown_10 (by decide) (fun hc => ?_) (fun hc => ?_)
  · replace hw := hw.1 hc
    refine lv_iconst (v := (0 : Int32)) hx hb dX3_isShown_33 (by decide) ?_
    exact gh_iret M G hr hw.1 hw.2 (by exact Nat.le_of_ble_eq_true rfl) (by exact Nat.le_of_ble_eq_true rfl) dX3_isShown_34
  · replace hw := hw.2 hc
    refine gh_aload_n hx hb dX3_isShown_13 rfl (gh_at hl 0 rfl) ?_
    refine lv_iload_n hx hb dX3_isShown_14 rfl (gh_at hl 1 rfl) ?_
    refine lv_iload_n hx hb dX3_isShown_15 rfl (gh_at hl 2 rfl) ?_
    refine lv_iload hx hb dX3_isShown_16 (gh_at hl 4 rfl) ?_
    obtain ⟨a4, lba4, fsa4, hra4, haa4, hw⟩ := hw
    rw [← Option.some.inj hra4] at haa4
    refine gh_ki G (vx_runV M.1 (met_X3_contentOn l D _ _ _ _ _ _ _ _ hw M.2.2.2.2.2) (cwV 3 (gh_Mts M) (lw_V q1692 q1694 qs27 q50 q1695) rfl rfl rfl ⟨rfl, by decide, by decide, rfl⟩ ⟨Nat.le_of_ble_eq_true rfl, Nat.le_of_ble_eq_true rfl⟩) (gh_preV (As := [.int v1, .int v2, .int v4]) M G (gh_rec M G haa4 rfl)) rfl rfl hl.1.1 rfl (lv_room (Nat.le_of_ble_eq_true rfl)) dX3_isShown_18 ⟨(Nat.le_of_ble_eq_true rfl), (Nat.le_of_ble_eq_true rfl)⟩) (gh_out M hex (by exact Nat.le_of_ble_eq_true rfl) (by exact Nat.le_of_ble_eq_true rfl)) (fun r5 h6 H locs hw G => ?_)
    refine lv_iload_n hx hb dX3_isShown_21 rfl (gh_at hl 3 rfl) ?_
    refine lv_icmp_ne (tgt := 27) hx hb dX3_isShown_22 (by decide) (fun hc => ?_) (fun hc => ?_)
    · replace hw := hw.2 hc
      refine gh_iinc (k := 4) (v := (v4 + (1 : Int32))) (lv' := [(4, 1, .int (v4 + (1 : Int32))), (0, 1, va_rf (some v0)), (1, 1, .int v1), (2, 1, .int v2), (3, 1, .int v3)]) hx hb dX3_isShown_27 hl rfl rfl (by decide) rfl (fun ls hl => ?_)
      refine lv_goto (tgt := 3) hx hb dX3_isShown_30 (by decide) ?_
      exact k3 v0 v1 v2 v3 (v4 + (1 : Int32)) _ _ _ _ G (gh_sub hl [1, 2, 3, 4, 0] rfl) hw
    · replace hw := hw.1 hc
      refine lv_iconst (v := (1 : Int32)) hx hb dX3_isShown_25 (by decide) ?_
      exact gh_iret M G hr hw.1 hw.2 (by exact Nat.le_of_ble_eq_true rfl) (by exact Nat.le_of_ble_eq_true rfl) dX3_isShown_26
theorem wk_X3_isShown_3 {D : gh_D} {p : Program} {l : Launch} {e : Env} {s : State} {m : MethodId} {args : Array Value} {below : List Frame} {meth : Method} {c : Code} {h0 : gh_H} (M : gh_M D p l s m args meth c RX3 cX3_isShown 5 (gh_A h0 s.heap.size)) (hr : meth.sig.returnType = (some .boolean)) (hex : ∀ x ∈ c.exceptionTable.toList, False)   {Q : Int32 → gh_H → Prop} {X : String → gh_H → Prop}   : ∀ (n : Nat) (v0 : Nat) (v1 : Int32) (v2 : Int32) (v3 : Int32) (v4 : Int32) (H : Heap) (locs : List Loc) (ls : Array Slot) (h : gh_H) (_ : gh_Inv D h0 (gh_A h0 s.heap.size) s.heap s H locs h) (_ : gh_L ls 5 [(0, 1, va_rf (some v0)), (1, 1, .int v1), (2, 1, .int v2), (3, 1, .int v3), (4, 1, .int v4)]) (_ : wl_X3_isShown_3 D.2.2 Q X n v0 v1 v2 v3 v4 h), W p l e rm_X3_isShown s m args below meth c H locs 0 0 (vx_MQ below (gh_Qi Q D h0 s.heap.size) (gh_X X D h0 s.heap.size) args s 0 0 (gh_A h0 s.heap.size)) (F0 m 3 ls []) := by
  intro fu
  induction fu with
  | zero => intro v0 v1 v2 v3 v4 H locs ls h G hl hw; exact False.elim hw
  | succ n1 ih =>
    intro v0 v1 v2 v3 v4 H locs ls h G hl hw
    exact wk1_X3_isShown_3 M hr hex ih  v0 v1 v2 v3 v4 _ _ _ _ G hl hw
set_option maxHeartbeats 4000000 in
theorem met_X3_isShown (l : Launch) (D : gh_D) (v0 : Nat) (v1 : Int32) (v2 : Int32) (v3 : Int32) (Q : Int32 → gh_H → Prop) (X : String → gh_H → Prop) (h : gh_H) (sz : Nat) (hw : wp_X3_isShown D.2.2 v0 v1 v2 v3 Q X h) (hst : l.stackTraces = false) : vx_Met l yX3_isShown (ws_ yX3_isShown cX3_isShown 5 (some .boolean)) rm_X3_isShown (gh_Pc D h sz [.ref v0, .int v1, .int v2, .int v3]) (gh_Qi Q D h sz) (gh_X X D h sz) 0 0 (gh_A h sz) := by
  refine vx_ofW (by decide) rfl (fun p e s m args below meth c s₁ B hml hex hP => ?_)
  obtain ⟨rfl, rfl, hK, hT, hE, G⟩ := gh_start hP
  have M : gh_M D p l s m _ meth c RX3 cX3_isShown 5 (gh_A h s.heap.size) := ⟨⟨B.exec, B.bytes, hml, findClass_of_methodNamed B.named, fun w hw => atoms_spec (ws := ws_ yX3_isShown cX3_isShown 5 (some .boolean)) B.pre w (List.mem_cons_of_mem _ hw)⟩, hK, hT, hE, B.notSynchronized, hst⟩
  have hr := B.returns
  have hx := M.1.1
  have hb := M.1.2.1
  refine gh_enter (vs := [(1, .ref v0), (1, .int v1), (1, .int v2), (1, .int v3)]) (gh_w1 rfl (gh_w1 rfl (gh_w1 rfl (gh_w1 rfl gh_wn)))) (Nat.le_of_ble_eq_true rfl) (fun ls hl => ?_)
  replace hl : gh_L ls 5 [(0, 1, va_rf (some v0)), (1, 1, .int v1), (2, 1, .int v2), (3, 1, .int v3)] := hl
  unfold wp_X3_isShown at hw
  refine lv_iconst (v := (0 : Int32)) hx hb dX3_isShown_0 (by decide) ?_
  refine gh_istore (lv' := [(4, 1, .int (0 : Int32)), (0, 1, va_rf (some v0)), (1, 1, .int v1), (2, 1, .int v2), (3, 1, .int v3)]) hx hb dX3_isShown_1 hl (by decide) rfl (fun ls hl => ?_)
  obtain ⟨n, hw⟩ := hw
  exact wk_X3_isShown_3 M hr hex  n v0 v1 v2 v3 (0 : Int32) _ _ _ _ G (gh_sub hl [1, 2, 3, 4, 0] rfl) hw
