set_option maxRecDepth 100000
/-! BinderyDeskLaw.wasteShare (LBinderyDesk;[D)I -/
def rm_X0_wasteShare : Room := { frames := 7, cells := 1, slots := 6, locals := 120 }
def wb_X0_wasteShare_11 (κ : Nat → Nat)  (Q : Int32 → gh_H → Prop) (X : String → gh_H → Prop) (t0 : Option Nat) (h : gh_H) : Prop := (Q (1 : Int32) h)
def wp_X0_wasteShare (κ : Nat → Nat) (v0 : Option Nat) (v1 : Option Nat) (Q : Int32 → gh_H → Prop) (X : String → gh_H → Prop) (h : gh_H) : Prop := (gh_RC h v0 0 (fun a1 => (wp_X1_wasteShare κ a1 (fun r2 h3 => (vf_n64 (FP.f2d r2) ∧ (gh_SD h3 v1 (0 : Int32) (FP.f2d r2) (fun h4 => (Q (0 : Int32) h4))))) (fun E h9 => (E = "java/lang/ArithmeticException" ∧ ∀ q9 : Nat, wb_X0_wasteShare_11 κ Q X (some q9) h9)) h)))
set_option maxHeartbeats 4000000 in
theorem wk_X0_wasteShare_11 {D : gh_D} {p : Program} {l : Launch} {e : Env} {s : State} {m : MethodId} {args : Array Value} {below : List Frame} {meth : Method} {c : Code} {h0 : gh_H} (M : gh_M D p l s m args meth c RX0 cX0_wasteShare 3 (gh_A h0 s.heap.size)) (hr : meth.sig.returnType = (some .int)) (htab : c.exceptionTable.toList = tableOf [(0, 8, 11, 95)])   {Q : Int32 → gh_H → Prop} {X : String → gh_H → Prop}   (t0 : Option Nat) (H : Heap) (locs : List Loc) (ls : Array Slot) (h : gh_H) (G : gh_Inv D h0 (gh_A h0 s.heap.size) s.heap s H locs h) (hl : gh_L ls 3 []) (hw : wb_X0_wasteShare_11 D.2.2 Q X t0 h) : W p l e rm_X0_wasteShare s m args below meth c H locs 1 6 (vx_MQ below (gh_Qi Q D h0 s.heap.size) (gh_X X D h0 s.heap.size) args s 1 6 (gh_A h0 s.heap.size)) (F0 m 11 ls [va_rf t0]) := by
  unfold wb_X0_wasteShare_11 at hw
  have hx := M.1.1
  have hb := M.1.2.1
  refine gh_astore_n (lv' := [(2, 1, va_rf t0)]) hx hb dX0_wasteShare_11 rfl hl (by decide) rfl (fun ls hl => ?_)
  refine lv_iconst (v := (1 : Int32)) hx hb dX0_wasteShare_12 (by decide) ?_
  exact gh_iret M G hr rfl hw (by exact Nat.le_of_ble_eq_true rfl) (by exact Nat.le_of_ble_eq_true rfl) dX0_wasteShare_13
set_option maxHeartbeats 4000000 in
theorem met_X0_wasteShare (l : Launch) (D : gh_D) (v0 : Option Nat) (v1 : Option Nat) (Q : Int32 → gh_H → Prop) (X : String → gh_H → Prop) (h : gh_H) (sz : Nat) (hw : wp_X0_wasteShare D.2.2 v0 v1 Q X h) (hst : l.stackTraces = false) : vx_Met l yX0_wasteShare (wsW_ yX0_wasteShare cX0_wasteShare 3 (some .int) [(0, 8, 11, 95)]) rm_X0_wasteShare (gh_Pc D h sz [va_rf v0, va_rf v1]) (gh_Qi Q D h sz) (gh_X X D h sz) 1 6 (gh_A h sz) := by
  refine vx_ofWH (by decide) rfl (fun p e s m args below meth c s₁ B hml hP => ?_)
  have htab := vx_table (x := yX0_wasteShare) B (atoms_spec (ws := wsW_ yX0_wasteShare cX0_wasteShare 3 (some .int) [(0, 8, 11, 95)]) B.pre _ List.mem_cons_self)
  obtain ⟨rfl, rfl, hK, hT, hE, G⟩ := gh_start hP
  have M : gh_M D p l s m _ meth c RX0 cX0_wasteShare 3 (gh_A h s.heap.size) := ⟨⟨B.exec, B.bytes, hml, findClass_of_methodNamed B.named, fun w hw => atoms_spec (ws := wsW_ yX0_wasteShare cX0_wasteShare 3 (some .int) [(0, 8, 11, 95)]) B.pre w (List.mem_cons_of_mem _ hw)⟩, hK, hT, hE, B.notSynchronized, hst⟩
  have hr := B.returns
  have hx := M.1.1
  have hb := M.1.2.1
  refine gh_enter (vs := [(1, va_rf v0), (1, va_rf v1)]) (gh_w1 (gh_cat _) (gh_w1 (gh_cat _) gh_wn)) (Nat.le_of_ble_eq_true rfl) (fun ls hl => ?_)
  replace hl : gh_L ls 3 [(0, 1, va_rf v0), (1, 1, va_rf v1)] := hl
  unfold wp_X0_wasteShare at hw
  refine gh_aload_n hx hb dX0_wasteShare_0 rfl (gh_at hl 1 rfl) ?_
  refine lv_iconst (v := (0 : Int32)) hx hb dX0_wasteShare_1 (by decide) ?_
  refine gh_aload_n hx hb dX0_wasteShare_2 rfl (gh_at hl 0 rfl) ?_
  obtain ⟨a1, lba1, fsa1, rfl, haa1, hw⟩ := hw
  refine gh_kf G (vx_runV M.1 (met_X1_wasteShare l D _ _ _ _ _ hw M.2.2.2.2.2) (cwV 0 (gh_Mts M) (lw_V q1547 q1548 q1549 q41 q1550) rfl rfl rfl ⟨rfl, by decide, by decide, rfl⟩ ⟨Nat.le_of_ble_eq_true rfl, Nat.le_of_ble_eq_true rfl⟩) (gh_preV (As := []) M G (gh_rec M G haa1 rfl)) rfl rfl hl.1.1 rfl (lv_room (Nat.le_trans (gh_r1 rfl (gh_r1 (gh_cat _) gh_r0)) (Nat.le_of_ble_eq_true rfl : 2 ≤ 8))) dX0_wasteShare_3 ⟨(Nat.le_of_ble_eq_true rfl), (Nat.le_of_ble_eq_true rfl)⟩) (fun E ce q9 h9 H locs hX G hce hcv hcl => ?_) (fun r2 h3 H locs hw G => ?_)
  · obtain ⟨rfl, hX⟩ := hX
    · replace hw := hX q9
      refine vx_catch (name := "java/lang/ArithmeticException") M.1.2.2.2.1 (tableOf []) ⟨0, 8, 11, 95⟩ (tableOf []) (htab.trans rfl) (fun _ h => absurd h List.not_mem_nil) (by decide) (by decide) (gh_Mts M _ q1533) (va_Nw.use rfl (M.2.2.1.1 _ (List.mem_of_getElem? (i := 83) rfl))) hce hcv hcl ?_
      exact wk_X0_wasteShare_11 M hr htab  (some q9) _ _ _ _ G (gh_sub hl [] rfl) hw
  · refine lv_f2d hx hb dX0_wasteShare_6 hw.1 ?_
    replace hw := hw.2
    refine gh_das M G hw dX0_wasteShare_7 (fun h4 H locs hw G => ?_)
    refine lv_goto (tgt := 14) hx hb dX0_wasteShare_8 (by decide) ?_
    refine lv_iconst (v := (0 : Int32)) hx hb dX0_wasteShare_14 (by decide) ?_
    exact gh_iret M G hr rfl hw (by exact Nat.le_of_ble_eq_true rfl) (by exact Nat.le_of_ble_eq_true rfl) dX0_wasteShare_15
/-! BinderyDeskModel.wasteShare ()F -/
def rm_X3_wasteShare : Room := { frames := 1, cells := 0, slots := 0, locals := 40 }
def wb_X3_wasteShare_42 (κ : Nat → Nat)  (Q : UInt32 → gh_H → Prop) (X : String → gh_H → Prop) (t0 : UInt32) (h : gh_H) : Prop := (Q t0 h)
def wb_X3_wasteShare_15 (κ : Nat → Nat)  (Q : UInt32 → gh_H → Prop) (X : String → gh_H → Prop) (v0 : Nat) (t0 : Option Nat) (t1 : Int32) (h : gh_H) : Prop := (gh_PV h t0 [(1, 0)] (.int t1) (fun h1 => (gh_GJ h1 (some v0) [(1, 11)] (fun x2 => (((lg_cmp x2 (0 : Int64)) = 0 → wb_X3_wasteShare_42 κ Q X FP.fconst0 h1) ∧ (¬ (lg_cmp x2 (0 : Int64)) = 0 → (gh_GJ h1 (some v0) [(1, 10)] (fun x3 => (gh_GJ h1 (some v0) [(1, 11)] (fun x4 => (vf_n32 (FP.fdiv (FP.l2f x3) (FP.l2f x4)) ∧ wb_X3_wasteShare_42 κ Q X (FP.fdiv (FP.l2f x3) (FP.l2f x4)) h1)))))))))))
def wp_X3_wasteShare (κ : Nat → Nat) (v0 : Nat) (Q : UInt32 → gh_H → Prop) (X : String → gh_H → Prop) (h : gh_H) : Prop := (gh_GJ h (some v0) [(1, 11)] (fun x1 => (((lg_cmp x1 (0 : Int64)) = 0 → wb_X3_wasteShare_15 κ Q X v0 (some v0) (1 : Int32) h) ∧ (¬ (lg_cmp x1 (0 : Int64)) = 0 → wb_X3_wasteShare_15 κ Q X v0 (some v0) (0 : Int32) h))))
set_option maxHeartbeats 4000000 in
theorem wk_X3_wasteShare_42 {D : gh_D} {p : Program} {l : Launch} {e : Env} {s : State} {m : MethodId} {args : Array Value} {below : List Frame} {meth : Method} {c : Code} {h0 : gh_H} (M : gh_M D p l s m args meth c RX3 cX3_wasteShare 1 (gh_A h0 s.heap.size)) (hr : meth.sig.returnType = (some .float)) (hex : ∀ x ∈ c.exceptionTable.toList, False)   {Q : UInt32 → gh_H → Prop} {X : String → gh_H → Prop}   (t0 : UInt32) (H : Heap) (locs : List Loc) (ls : Array Slot) (h : gh_H) (G : gh_Inv D h0 (gh_A h0 s.heap.size) s.heap s H locs h) (hl : gh_L ls 1 []) (hw : wb_X3_wasteShare_42 D.2.2 Q X t0 h) : W p l e rm_X3_wasteShare s m args below meth c H locs 0 0 (vx_MQ below (gh_Qf Q D h0 s.heap.size) (gh_X X D h0 s.heap.size) args s 0 0 (gh_A h0 s.heap.size)) (F0 m 42 ls [.float t0]) := by
  unfold wb_X3_wasteShare_42 at hw
  have hx := M.1.1
  have hb := M.1.2.1
  exact gh_fret M G hr hw (by exact Nat.le_of_ble_eq_true rfl) (by exact Nat.le_of_ble_eq_true rfl) dX3_wasteShare_42
set_option maxHeartbeats 4000000 in
theorem wk_X3_wasteShare_15 {D : gh_D} {p : Program} {l : Launch} {e : Env} {s : State} {m : MethodId} {args : Array Value} {below : List Frame} {meth : Method} {c : Code} {h0 : gh_H} (M : gh_M D p l s m args meth c RX3 cX3_wasteShare 1 (gh_A h0 s.heap.size)) (hr : meth.sig.returnType = (some .float)) (hex : ∀ x ∈ c.exceptionTable.toList, False)   {Q : UInt32 → gh_H → Prop} {X : String → gh_H → Prop}   (v0 : Nat) (t0 : Option Nat) (t1 : Int32) (H : Heap) (locs : List Loc) (ls : Array Slot) (h : gh_H) (G : gh_Inv D h0 (gh_A h0 s.heap.size) s.heap s H locs h) (hl : gh_L ls 1 [(0, 1, va_rf (some v0))]) (hw : wb_X3_wasteShare_15 D.2.2 Q X v0 t0 t1 h) : W p l e rm_X3_wasteShare s m args below meth c H locs 0 0 (vx_MQ below (gh_Qf Q D h0 s.heap.size) (gh_X X D h0 s.heap.size) args s 0 0 (gh_A h0 s.heap.size)) (F0 m 15 ls [.int t1, va_rf t0]) := by
  unfold wb_X3_wasteShare_15 at hw
  have hx := M.1.1
  have hb := M.1.2.1
  refine gh_put M G hw fp_X3_53 rfl rfl dX3_wasteShare_15 (fun h1 H locs hw G => ?_)
  refine gh_aload_n hx hb dX3_wasteShare_18 rfl (gh_at hl 0 rfl) ?_
  refine gh_getJ M G hw fl_X3_138 dX3_wasteShare_19 (fun x2 hw => ?_)
  refine lv_lconst (v := (0 : Int64)) hx hb dX3_wasteShare_22 (by decide) ?_
  refine W.lcmp hx hb dX3_wasteShare_23 ?_
  refine lv_if_ne (tgt := 31) hx hb dX3_wasteShare_24 (by decide) (fun hc => ?_) (fun hc => ?_)
  · replace hw := hw.2 hc
    refine gh_aload_n hx hb dX3_wasteShare_31 rfl (gh_at hl 0 rfl) ?_
    refine gh_getJ M G hw fl_X3_97 dX3_wasteShare_32 (fun x3 hw => ?_)
    refine lv_l2f hx hb dX3_wasteShare_35 ?_
    refine gh_aload_n hx hb dX3_wasteShare_36 rfl (gh_at hl 0 rfl) ?_
    refine gh_getJ M G hw fl_X3_138 dX3_wasteShare_37 (fun x4 hw => ?_)
    refine lv_l2f hx hb dX3_wasteShare_40 ?_
    refine lv_fdiv hx hb dX3_wasteShare_41 hw.1 ?_
    replace hw := hw.2
    exact wk_X3_wasteShare_42 M hr hex  (FP.fdiv (FP.l2f x3) (FP.l2f x4)) _ _ _ _ G (gh_sub hl [] rfl) hw
  · replace hw := hw.1 hc
    refine lv_fconst0 hx hb dX3_wasteShare_27 ?_
    refine lv_goto (tgt := 42) hx hb dX3_wasteShare_28 (by decide) ?_
    exact wk_X3_wasteShare_42 M hr hex  FP.fconst0 _ _ _ _ G (gh_sub hl [] rfl) hw
set_option maxHeartbeats 4000000 in
theorem met_X3_wasteShare (l : Launch) (D : gh_D) (v0 : Nat) (Q : UInt32 → gh_H → Prop) (X : String → gh_H → Prop) (h : gh_H) (sz : Nat) (hw : wp_X3_wasteShare D.2.2 v0 Q X h) (hst : l.stackTraces = false) : vx_Met l yX3_wasteShare (ws_ yX3_wasteShare cX3_wasteShare 1 (some .float)) rm_X3_wasteShare (gh_Pc D h sz [.ref v0]) (gh_Qf Q D h sz) (gh_X X D h sz) 0 0 (gh_A h sz) := by
  refine vx_ofW (by decide) rfl (fun p e s m args below meth c s₁ B hml hex hP => ?_)
  obtain ⟨rfl, rfl, hK, hT, hE, G⟩ := gh_start hP
  have M : gh_M D p l s m _ meth c RX3 cX3_wasteShare 1 (gh_A h s.heap.size) := ⟨⟨B.exec, B.bytes, hml, findClass_of_methodNamed B.named, fun w hw => atoms_spec (ws := ws_ yX3_wasteShare cX3_wasteShare 1 (some .float)) B.pre w (List.mem_cons_of_mem _ hw)⟩, hK, hT, hE, B.notSynchronized, hst⟩
  have hr := B.returns
  have hx := M.1.1
  have hb := M.1.2.1
  refine gh_enter (vs := [(1, .ref v0)]) (gh_w1 rfl gh_wn) (Nat.le_of_ble_eq_true rfl) (fun ls hl => ?_)
  replace hl : gh_L ls 1 [(0, 1, va_rf (some v0))] := hl
  unfold wp_X3_wasteShare at hw
  refine gh_aload_n hx hb dX3_wasteShare_0 rfl (gh_at hl 0 rfl) ?_
  refine gh_aload_n hx hb dX3_wasteShare_1 rfl (gh_at hl 0 rfl) ?_
  refine gh_getJ M G hw fl_X3_138 dX3_wasteShare_2 (fun x1 hw => ?_)
  refine lv_lconst (v := (0 : Int64)) hx hb dX3_wasteShare_5 (by decide) ?_
  refine W.lcmp hx hb dX3_wasteShare_6 ?_
  refine lv_if_ne (tgt := 14) hx hb dX3_wasteShare_7 (by decide) (fun hc => ?_) (fun hc => ?_)
  · replace hw := hw.2 hc
    refine lv_iconst (v := (0 : Int32)) hx hb dX3_wasteShare_14 (by decide) ?_
    exact wk_X3_wasteShare_15 M hr hex  v0 (some v0) (0 : Int32) _ _ _ _ G (gh_sub hl [0] rfl) hw
  · replace hw := hw.1 hc
    refine lv_iconst (v := (1 : Int32)) hx hb dX3_wasteShare_10 (by decide) ?_
    refine lv_goto (tgt := 15) hx hb dX3_wasteShare_11 (by decide) ?_
    exact wk_X3_wasteShare_15 M hr hex  v0 (some v0) (1 : Int32) _ _ _ _ G (gh_sub hl [0] rfl) hw
/-! BinderyDesk.meanMakeready ()D -/
def rm_X1_meanMakeready : Room := { frames := 6, cells := 1, slots := 6, locals := 100 }
def wp_X1_meanMakeready (κ : Nat → Nat) (v0 : Nat) (Q : UInt64 → gh_H → Prop) (X : String → gh_H → Prop) (h : gh_H) : Prop := (gh_GI h (some v0) [(0, 7)] (fun x1 => ((x1 = 0 → (X "java/lang/ArithmeticException" h)) ∧ (¬ x1 = 0 → (gh_GJ h (some v0) [(0, 8)] (fun x2 => (gh_GI h (some v0) [(0, 7)] (fun x3 => (vf_n64 (FP.ddiv (FP.l2d x2) (FP.i2d x3)) ∧ (Q (FP.ddiv (FP.l2d x2) (FP.i2d x3)) h))))))))))
set_option maxHeartbeats 4000000 in
theorem met_X1_meanMakeready (l : Launch) (D : gh_D) (v0 : Nat) (Q : UInt64 → gh_H → Prop) (X : String → gh_H → Prop) (h : gh_H) (sz : Nat) (hw : wp_X1_meanMakeready D.2.2 v0 Q X h) (hst : l.stackTraces = false) : vx_Met l yX1_meanMakeready (ws_ yX1_meanMakeready cX1_meanMakeready 1 (some .double)) rm_X1_meanMakeready (gh_Pc D h sz [.ref v0]) (gh_Qd Q D h sz) (gh_X X D h sz) 1 6 (gh_A h sz) := by
  refine vx_ofW (by decide) rfl (fun p e s m args below meth c s₁ B hml hex hP => ?_)
  obtain ⟨rfl, rfl, hK, hT, hE, G⟩ := gh_start hP
  have M : gh_M D p l s m _ meth c RX1 cX1_meanMakeready 1 (gh_A h s.heap.size) := ⟨⟨B.exec, B.bytes, hml, findClass_of_methodNamed B.named, fun w hw => atoms_spec (ws := ws_ yX1_meanMakeready cX1_meanMakeready 1 (some .double)) B.pre w (List.mem_cons_of_mem _ hw)⟩, hK, hT, hE, B.notSynchronized, hst⟩
  have hr := B.returns
  have hx := M.1.1
  have hb := M.1.2.1
  refine gh_enter (vs := [(1, .ref v0)]) (gh_w1 rfl gh_wn) (Nat.le_of_ble_eq_true rfl) (fun ls hl => ?_)
  replace hl : gh_L ls 1 [(0, 1, va_rf (some v0))] := hl
  unfold wp_X1_meanMakeready at hw
  refine gh_aload_n hx hb dX1_meanMakeready_0 rfl (gh_at hl 0 rfl) ?_
  refine gh_getI M G hw fl_X1_205 dX1_meanMakeready_1 (fun x1 hw => ?_)
  refine lv_if_ne (tgt := 15) hx hb dX1_meanMakeready_4 (by decide) (fun hc => ?_) (fun hc => ?_)
  · replace hw := hw.2 hc
    refine gh_aload_n hx hb dX1_meanMakeready_15 rfl (gh_at hl 0 rfl) ?_
    refine gh_getJ M G hw fl_X1_208 dX1_meanMakeready_16 (fun x2 hw => ?_)
    refine lv_l2d hx hb dX1_meanMakeready_19 ?_
    refine gh_aload_n hx hb dX1_meanMakeready_20 rfl (gh_at hl 0 rfl) ?_
    refine gh_getI M G hw fl_X1_205 dX1_meanMakeready_21 (fun x3 hw => ?_)
    refine lv_i2d hx hb dX1_meanMakeready_24 ?_
    refine lv_ddiv hx hb dX1_meanMakeready_25 hw.1 ?_
    replace hw := hw.2
    exact gh_dret M G hr hw (by exact Nat.le_of_ble_eq_true rfl) (by exact Nat.le_of_ble_eq_true rfl) dX1_meanMakeready_26
  · replace hw := hw.1 hc
    exact gh_throw (names := ["java/lang/RuntimeException", "java/lang/Exception"]) M G hex hw (by decide +kernel) (by decide +kernel) q1551 q84 (at_X1_278 (gh_Mts M) M.2.2.1) at_X1_278_g hl.1.1 dX1_meanMakeready_7 dX1_meanMakeready_10 dX1_meanMakeready_11 dX1_meanMakeready_14 (Nat.le_of_ble_eq_true rfl) (Nat.le_trans (Nat.add_le_add_right gh_r0 _) (Nat.le_of_ble_eq_true rfl)) (Nat.le_of_ble_eq_true rfl) (Nat.le_of_ble_eq_true rfl) (Nat.le_of_ble_eq_true rfl) (Nat.le_of_ble_eq_true rfl)
/-! BinderyDeskLaw.meanMakeready (LBinderyDesk;[D)I -/
def rm_X0_meanMakeready : Room := { frames := 7, cells := 1, slots := 6, locals := 120 }
def wb_X0_meanMakeready_10 (κ : Nat → Nat)  (Q : Int32 → gh_H → Prop) (X : String → gh_H → Prop) (t0 : Option Nat) (h : gh_H) : Prop := (Q (1 : Int32) h)
def wp_X0_meanMakeready (κ : Nat → Nat) (v0 : Option Nat) (v1 : Option Nat) (Q : Int32 → gh_H → Prop) (X : String → gh_H → Prop) (h : gh_H) : Prop := (gh_RC h v0 0 (fun a1 => (wp_X1_meanMakeready κ a1 (fun r2 h3 => (gh_SD h3 v1 (0 : Int32) r2 (fun h4 => (Q (0 : Int32) h4)))) (fun E h9 => (E = "java/lang/ArithmeticException" ∧ ∀ q9 : Nat, wb_X0_meanMakeready_10 κ Q X (some q9) h9)) h)))
set_option maxHeartbeats 4000000 in
theorem wk_X0_meanMakeready_10 {D : gh_D} {p : Program} {l : Launch} {e : Env} {s : State} {m : MethodId} {args : Array Value} {below : List Frame} {meth : Method} {c : Code} {h0 : gh_H} (M : gh_M D p l s m args meth c RX0 cX0_meanMakeready 3 (gh_A h0 s.heap.size)) (hr : meth.sig.returnType = (some .int)) (htab : c.exceptionTable.toList = tableOf [(0, 7, 10, 95)])   {Q : Int32 → gh_H → Prop} {X : String → gh_H → Prop}   (t0 : Option Nat) (H : Heap) (locs : List Loc) (ls : Array Slot) (h : gh_H) (G : gh_Inv D h0 (gh_A h0 s.heap.size) s.heap s H locs h) (hl : gh_L ls 3 []) (hw : wb_X0_meanMakeready_10 D.2.2 Q X t0 h) : W p l e rm_X0_meanMakeready s m args below meth c H locs 1 6 (vx_MQ below (gh_Qi Q D h0 s.heap.size) (gh_X X D h0 s.heap.size) args s 1 6 (gh_A h0 s.heap.size)) (F0 m 10 ls [va_rf t0]) := by
  unfold wb_X0_meanMakeready_10 at hw
  have hx := M.1.1
  have hb := M.1.2.1
  refine gh_astore_n (lv' := [(2, 1, va_rf t0)]) hx hb dX0_meanMakeready_10 rfl hl (by decide) rfl (fun ls hl => ?_)
  refine lv_iconst (v := (1 : Int32)) hx hb dX0_meanMakeready_11 (by decide) ?_
  exact gh_iret M G hr rfl hw (by exact Nat.le_of_ble_eq_true rfl) (by exact Nat.le_of_ble_eq_true rfl) dX0_meanMakeready_12
set_option maxHeartbeats 4000000 in
theorem met_X0_meanMakeready (l : Launch) (D : gh_D) (v0 : Option Nat) (v1 : Option Nat) (Q : Int32 → gh_H → Prop) (X : String → gh_H → Prop) (h : gh_H) (sz : Nat) (hw : wp_X0_meanMakeready D.2.2 v0 v1 Q X h) (hst : l.stackTraces = false) : vx_Met l yX0_meanMakeready (wsW_ yX0_meanMakeready cX0_meanMakeready 3 (some .int) [(0, 7, 10, 95)]) rm_X0_meanMakeready (gh_Pc D h sz [va_rf v0, va_rf v1]) (gh_Qi Q D h sz) (gh_X X D h sz) 1 6 (gh_A h sz) := by
  refine vx_ofWH (by decide) rfl (fun p e s m args below meth c s₁ B hml hP => ?_)
  have htab := vx_table (x := yX0_meanMakeready) B (atoms_spec (ws := wsW_ yX0_meanMakeready cX0_meanMakeready 3 (some .int) [(0, 7, 10, 95)]) B.pre _ List.mem_cons_self)
  obtain ⟨rfl, rfl, hK, hT, hE, G⟩ := gh_start hP
  have M : gh_M D p l s m _ meth c RX0 cX0_meanMakeready 3 (gh_A h s.heap.size) := ⟨⟨B.exec, B.bytes, hml, findClass_of_methodNamed B.named, fun w hw => atoms_spec (ws := wsW_ yX0_meanMakeready cX0_meanMakeready 3 (some .int) [(0, 7, 10, 95)]) B.pre w (List.mem_cons_of_mem _ hw)⟩, hK, hT, hE, B.notSynchronized, hst⟩
  have hr := B.returns
  have hx := M.1.1
  have hb := M.1.2.1
  refine gh_enter (vs := [(1, va_rf v0), (1, va_rf v1)]) (gh_w1 (gh_cat _) (gh_w1 (gh_cat _) gh_wn)) (Nat.le_of_ble_eq_true rfl) (fun ls hl => ?_)
  replace hl : gh_L ls 3 [(0, 1, va_rf v0), (1, 1, va_rf v1)] := hl
  unfold wp_X0_meanMakeready at hw
  refine gh_aload_n hx hb dX0_meanMakeready_0 rfl (gh_at hl 1 rfl) ?_
  refine lv_iconst (v := (0 : Int32)) hx hb dX0_meanMakeready_1 (by decide) ?_
  refine gh_aload_n hx hb dX0_meanMakeready_2 rfl (gh_at hl 0 rfl) ?_
  obtain ⟨a1, lba1, fsa1, rfl, haa1, hw⟩ := hw
  refine gh_kd G (vx_runV M.1 (met_X1_meanMakeready l D _ _ _ _ _ hw M.2.2.2.2.2) (cwV 0 (gh_Mts M) (lw_V q1559 q1560 q1561 q41 q1562) rfl rfl rfl ⟨rfl, by decide, by decide, rfl⟩ ⟨Nat.le_of_ble_eq_true rfl, Nat.le_of_ble_eq_true rfl⟩) (gh_preV (As := []) M G (gh_rec M G haa1 rfl)) rfl rfl hl.1.1 rfl (lv_room (Nat.le_trans (gh_r1 rfl (gh_r1 (gh_cat _) gh_r0)) (Nat.le_of_ble_eq_true rfl : 2 ≤ 8))) dX0_meanMakeready_3 ⟨(Nat.le_of_ble_eq_true rfl), (Nat.le_of_ble_eq_true rfl)⟩) (fun E ce q9 h9 H locs hX G hce hcv hcl => ?_) (fun r2 h3 H locs hw G => ?_)
  · obtain ⟨rfl, hX⟩ := hX
    · replace hw := hX q9
      refine vx_catch (name := "java/lang/ArithmeticException") M.1.2.2.2.1 (tableOf []) ⟨0, 7, 10, 95⟩ (tableOf []) (htab.trans rfl) (fun _ h => absurd h List.not_mem_nil) (by decide) (by decide) (gh_Mts M _ q1533) (va_Nw.use rfl (M.2.2.1.1 _ (List.mem_of_getElem? (i := 83) rfl))) hce hcv hcl ?_
      exact wk_X0_meanMakeready_10 M hr htab  (some q9) _ _ _ _ G (gh_sub hl [] rfl) hw
  · refine gh_das M G hw dX0_meanMakeready_6 (fun h4 H locs hw G => ?_)
    refine lv_goto (tgt := 13) hx hb dX0_meanMakeready_7 (by decide) ?_
    refine lv_iconst (v := (0 : Int32)) hx hb dX0_meanMakeready_13 (by decide) ?_
    exact gh_iret M G hr rfl hw (by exact Nat.le_of_ble_eq_true rfl) (by exact Nat.le_of_ble_eq_true rfl) dX0_meanMakeready_14
/-! BinderyDeskModel.meanMakeready ()D -/
def rm_X3_meanMakeready : Room := { frames := 1, cells := 0, slots := 0, locals := 40 }
def wb_X3_meanMakeready_38 (κ : Nat → Nat)  (Q : UInt64 → gh_H → Prop) (X : String → gh_H → Prop) (t0 : UInt64) (h : gh_H) : Prop := (Q t0 h)
def wb_X3_meanMakeready_13 (κ : Nat → Nat)  (Q : UInt64 → gh_H → Prop) (X : String → gh_H → Prop) (v0 : Nat) (t0 : Option Nat) (t1 : Int32) (h : gh_H) : Prop := (gh_PV h t0 [(1, 0)] (.int t1) (fun h1 => (gh_GI h1 (some v0) [(1, 5)] (fun x2 => ((x2 = 0 → wb_X3_meanMakeready_38 κ Q X FP.dconst0 h1) ∧ (¬ x2 = 0 → (gh_GI h1 (some v0) [(1, 6)] (fun x3 => (gh_GI h1 (some v0) [(1, 5)] (fun x4 => (vf_n64 (FP.ddiv (FP.i2d x3) (FP.i2d x4)) ∧ wb_X3_meanMakeready_38 κ Q X (FP.ddiv (FP.i2d x3) (FP.i2d x4)) h1)))))))))))
def wp_X3_meanMakeready (κ : Nat → Nat) (v0 : Nat) (Q : UInt64 → gh_H → Prop) (X : String → gh_H → Prop) (h : gh_H) : Prop := (gh_GI h (some v0) [(1, 5)] (fun x1 => ((x1 = 0 → wb_X3_meanMakeready_13 κ Q X v0 (some v0) (1 : Int32) h) ∧ (¬ x1 = 0 → wb_X3_meanMakeready_13 κ Q X v0 (some v0) (0 : Int32) h))))
set_option maxHeartbeats 4000000 in
theorem wk_X3_meanMakeready_38 {D : gh_D} {p : Program} {l : Launch} {e : Env} {s : State} {m : MethodId} {args : Array Value} {below : List Frame} {meth : Method} {c : Code} {h0 : gh_H} (M : gh_M D p l s m args meth c RX3 cX3_meanMakeready 1 (gh_A h0 s.heap.size)) (hr : meth.sig.returnType = (some .double)) (hex : ∀ x ∈ c.exceptionTable.toList, False)   {Q : UInt64 → gh_H → Prop} {X : String → gh_H → Prop}   (t0 : UInt64) (H : Heap) (locs : List Loc) (ls : Array Slot) (h : gh_H) (G : gh_Inv D h0 (gh_A h0 s.heap.size) s.heap s H locs h) (hl : gh_L ls 1 []) (hw : wb_X3_meanMakeready_38 D.2.2 Q X t0 h) : W p l e rm_X3_meanMakeready s m args below meth c H locs 0 0 (vx_MQ below (gh_Qd Q D h0 s.heap.size) (gh_X X D h0 s.heap.size) args s 0 0 (gh_A h0 s.heap.size)) (F0 m 38 ls [.double t0]) := by
  unfold wb_X3_meanMakeready_38 at hw
  have hx := M.1.1
  have hb := M.1.2.1
  exact gh_dret M G hr hw (by exact Nat.le_of_ble_eq_true rfl) (by exact Nat.le_of_ble_eq_true rfl) dX3_meanMakeready_38
set_option maxHeartbeats 4000000 in
theorem wk_X3_meanMakeready_13 {D : gh_D} {p : Program} {l : Launch} {e : Env} {s : State} {m : MethodId} {args : Array Value} {below : List Frame} {meth : Method} {c : Code} {h0 : gh_H} (M : gh_M D p l s m args meth c RX3 cX3_meanMakeready 1 (gh_A h0 s.heap.size)) (hr : meth.sig.returnType = (some .double)) (hex : ∀ x ∈ c.exceptionTable.toList, False)   {Q : UInt64 → gh_H → Prop} {X : String → gh_H → Prop}   (v0 : Nat) (t0 : Option Nat) (t1 : Int32) (H : Heap) (locs : List Loc) (ls : Array Slot) (h : gh_H) (G : gh_Inv D h0 (gh_A h0 s.heap.size) s.heap s H locs h) (hl : gh_L ls 1 [(0, 1, va_rf (some v0))]) (hw : wb_X3_meanMakeready_13 D.2.2 Q X v0 t0 t1 h) : W p l e rm_X3_meanMakeready s m args below meth c H locs 0 0 (vx_MQ below (gh_Qd Q D h0 s.heap.size) (gh_X X D h0 s.heap.size) args s 0 0 (gh_A h0 s.heap.size)) (F0 m 13 ls [.int t1, va_rf t0]) := by
  unfold wb_X3_meanMakeready_13 at hw
  have hx := M.1.1
  have hb := M.1.2.1
  refine gh_put M G hw fp_X3_53 rfl rfl dX3_meanMakeready_13 (fun h1 H locs hw G => ?_)
  refine gh_aload_n hx hb dX3_meanMakeready_16 rfl (gh_at hl 0 rfl) ?_
  refine gh_getI M G hw fl_X3_141 dX3_meanMakeready_17 (fun x2 hw => ?_)
  refine lv_if_ne (tgt := 27) hx hb dX3_meanMakeready_20 (by decide) (fun hc => ?_) (fun hc => ?_)
  · replace hw := hw.2 hc
    refine gh_aload_n hx hb dX3_meanMakeready_27 rfl (gh_at hl 0 rfl) ?_
    refine gh_getI M G hw fl_X3_144 dX3_meanMakeready_28 (fun x3 hw => ?_)
    refine lv_i2d hx hb dX3_meanMakeready_31 ?_
    refine gh_aload_n hx hb dX3_meanMakeready_32 rfl (gh_at hl 0 rfl) ?_
    refine gh_getI M G hw fl_X3_141 dX3_meanMakeready_33 (fun x4 hw => ?_)
    refine lv_i2d hx hb dX3_meanMakeready_36 ?_
    refine lv_ddiv hx hb dX3_meanMakeready_37 hw.1 ?_
    replace hw := hw.2
    exact wk_X3_meanMakeready_38 M hr hex  (FP.ddiv (FP.i2d x3) (FP.i2d x4)) _ _ _ _ G (gh_sub hl [] rfl) hw
  · replace hw := hw.1 hc
    refine lv_dconst0 hx hb dX3_meanMakeready_23 ?_
    refine lv_goto (tgt := 38) hx hb dX3_meanMakeready_24 (by decide) ?_
    exact wk_X3_meanMakeready_38 M hr hex  FP.dconst0 _ _ _ _ G (gh_sub hl [] rfl) hw
set_option maxHeartbeats 4000000 in
theorem met_X3_meanMakeready (l : Launch) (D : gh_D) (v0 : Nat) (Q : UInt64 → gh_H → Prop) (X : String → gh_H → Prop) (h : gh_H) (sz : Nat) (hw : wp_X3_meanMakeready D.2.2 v0 Q X h) (hst : l.stackTraces = false) : vx_Met l yX3_meanMakeready (ws_ yX3_meanMakeready cX3_meanMakeready 1 (some .double)) rm_X3_meanMakeready (gh_Pc D h sz [.ref v0]) (gh_Qd Q D h sz) (gh_X X D h sz) 0 0 (gh_A h sz) := by
  refine vx_ofW (by decide) rfl (fun p e s m args below meth c s₁ B hml hex hP => ?_)
  obtain ⟨rfl, rfl, hK, hT, hE, G⟩ := gh_start hP
  have M : gh_M D p l s m _ meth c RX3 cX3_meanMakeready 1 (gh_A h s.heap.size) := ⟨⟨B.exec, B.bytes, hml, findClass_of_methodNamed B.named, fun w hw => atoms_spec (ws := ws_ yX3_meanMakeready cX3_meanMakeready 1 (some .double)) B.pre w (List.mem_cons_of_mem _ hw)⟩, hK, hT, hE, B.notSynchronized, hst⟩
  have hr := B.returns
  have hx := M.1.1
  have hb := M.1.2.1
  refine gh_enter (vs := [(1, .ref v0)]) (gh_w1 rfl gh_wn) (Nat.le_of_ble_eq_true rfl) (fun ls hl => ?_)
  replace hl : gh_L ls 1 [(0, 1, va_rf (some v0))] := hl
  unfold wp_X3_meanMakeready at hw
  refine gh_aload_n hx hb dX3_meanMakeready_0 rfl (gh_at hl 0 rfl) ?_
  refine gh_aload_n hx hb dX3_meanMakeready_1 rfl (gh_at hl 0 rfl) ?_
  refine gh_getI M G hw fl_X3_141 dX3_meanMakeready_2 (fun x1 hw => ?_)
  refine lv_if_ne (tgt := 12) hx hb dX3_meanMakeready_5 (by decide) (fun hc => ?_) (fun hc => ?_)
  · replace hw := hw.2 hc
    refine lv_iconst (v := (0 : Int32)) hx hb dX3_meanMakeready_12 (by decide) ?_
    exact wk_X3_meanMakeready_13 M hr hex  v0 (some v0) (0 : Int32) _ _ _ _ G (gh_sub hl [0] rfl) hw
  · replace hw := hw.1 hc
    refine lv_iconst (v := (1 : Int32)) hx hb dX3_meanMakeready_8 (by decide) ?_
    refine lv_goto (tgt := 13) hx hb dX3_meanMakeready_9 (by decide) ?_
    exact wk_X3_meanMakeready_13 M hr hex  v0 (some v0) (1 : Int32) _ _ _ _ G (gh_sub hl [0] rfl) hw
