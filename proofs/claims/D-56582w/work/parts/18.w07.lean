set_option maxRecDepth 100000
/-! BinderyDeskLaw.stock (LBinderyDesk;II[J)I -/
def rm_X0_stock : Room := { frames := 11, cells := 3, slots := 18, locals := 209 }
def wb_X0_stock_13 (κ : Nat → Nat)  (Q : Int32 → gh_H → Prop) (X : String → gh_H → Prop) (t0 : Option Nat) (h : gh_H) : Prop := (Q (1 : Int32) h)
def wb_X0_stock_17 (κ : Nat → Nat)  (Q : Int32 → gh_H → Prop) (X : String → gh_H → Prop) (t0 : Option Nat) (h : gh_H) : Prop := (Q (2 : Int32) h)
def wb_X0_stock_21 (κ : Nat → Nat)  (Q : Int32 → gh_H → Prop) (X : String → gh_H → Prop) (t0 : Option Nat) (h : gh_H) : Prop := (Q (3 : Int32) h)
def wp_X0_stock (κ : Nat → Nat) (v0 : Option Nat) (v1 : Int32) (v2 : Int32) (v3 : Option Nat) (Q : Int32 → gh_H → Prop) (X : String → gh_H → Prop) (h : gh_H) : Prop := (gh_RC h v0 0 (fun a1 => (wp_X1_stock κ a1 v1 v2 (fun r2 h3 => (gh_SJ h3 v3 (0 : Int32) (r2.toInt64) (fun h4 => (Q (0 : Int32) h4)))) (fun E h9 => (E = "java/lang/IndexOutOfBoundsException" ∧ ∀ q9 : Nat, wb_X0_stock_13 κ Q X (some q9) h9) ∨ (E = "java/lang/IllegalStateException" ∧ ∀ q9 : Nat, wb_X0_stock_17 κ Q X (some q9) h9) ∨ (E = "java/util/NoSuchElementException" ∧ ∀ q9 : Nat, wb_X0_stock_21 κ Q X (some q9) h9)) h)))
set_option maxHeartbeats 4000000 in
theorem wk_X0_stock_13 {D : gh_D} {p : Program} {l : Launch} {e : Env} {s : State} {m : MethodId} {args : Array Value} {below : List Frame} {meth : Method} {c : Code} {h0 : gh_H} (M : gh_M D p l s m args meth c RX0 cX0_stock 5 (gh_A h0 s.heap.size)) (hr : meth.sig.returnType = (some .int)) (htab : c.exceptionTable.toList = tableOf [(0, 10, 13, 19), (0, 10, 17, 13), (0, 10, 21, 48)])   {Q : Int32 → gh_H → Prop} {X : String → gh_H → Prop}   (t0 : Option Nat) (H : Heap) (locs : List Loc) (ls : Array Slot) (h : gh_H) (G : gh_Inv D h0 (gh_A h0 s.heap.size) s.heap s H locs h) (hl : gh_L ls 5 []) (hw : wb_X0_stock_13 D.2.2 Q X t0 h) : W p l e rm_X0_stock s m args below meth c H locs 3 18 (vx_MQ below (gh_Qi Q D h0 s.heap.size) (gh_X X D h0 s.heap.size) args s 3 18 (gh_A h0 s.heap.size)) (F0 m 13 ls [va_rf t0]) := by
  unfold wb_X0_stock_13 at hw
  have hx := M.1.1
  have hb := M.1.2.1
  refine gh_astore (lv' := [(4, 1, va_rf t0)]) hx hb dX0_stock_13 hl (by decide) rfl (fun ls hl => ?_)
  refine lv_iconst (v := (1 : Int32)) hx hb dX0_stock_15 (by decide) ?_
  exact gh_iret M G hr rfl hw (by exact Nat.le_of_ble_eq_true rfl) (by exact Nat.le_of_ble_eq_true rfl) dX0_stock_16
set_option maxHeartbeats 4000000 in
theorem wk_X0_stock_17 {D : gh_D} {p : Program} {l : Launch} {e : Env} {s : State} {m : MethodId} {args : Array Value} {below : List Frame} {meth : Method} {c : Code} {h0 : gh_H} (M : gh_M D p l s m args meth c RX0 cX0_stock 5 (gh_A h0 s.heap.size)) (hr : meth.sig.returnType = (some .int)) (htab : c.exceptionTable.toList = tableOf [(0, 10, 13, 19), (0, 10, 17, 13), (0, 10, 21, 48)])   {Q : Int32 → gh_H → Prop} {X : String → gh_H → Prop}   (t0 : Option Nat) (H : Heap) (locs : List Loc) (ls : Array Slot) (h : gh_H) (G : gh_Inv D h0 (gh_A h0 s.heap.size) s.heap s H locs h) (hl : gh_L ls 5 []) (hw : wb_X0_stock_17 D.2.2 Q X t0 h) : W p l e rm_X0_stock s m args below meth c H locs 3 18 (vx_MQ below (gh_Qi Q D h0 s.heap.size) (gh_X X D h0 s.heap.size) args s 3 18 (gh_A h0 s.heap.size)) (F0 m 17 ls [va_rf t0]) := by
  unfold wb_X0_stock_17 at hw
  have hx := M.1.1
  have hb := M.1.2.1
  refine gh_astore (lv' := [(4, 1, va_rf t0)]) hx hb dX0_stock_17 hl (by decide) rfl (fun ls hl => ?_)
  refine lv_iconst (v := (2 : Int32)) hx hb dX0_stock_19 (by decide) ?_
  exact gh_iret M G hr rfl hw (by exact Nat.le_of_ble_eq_true rfl) (by exact Nat.le_of_ble_eq_true rfl) dX0_stock_20
set_option maxHeartbeats 4000000 in
theorem wk_X0_stock_21 {D : gh_D} {p : Program} {l : Launch} {e : Env} {s : State} {m : MethodId} {args : Array Value} {below : List Frame} {meth : Method} {c : Code} {h0 : gh_H} (M : gh_M D p l s m args meth c RX0 cX0_stock 5 (gh_A h0 s.heap.size)) (hr : meth.sig.returnType = (some .int)) (htab : c.exceptionTable.toList = tableOf [(0, 10, 13, 19), (0, 10, 17, 13), (0, 10, 21, 48)])   {Q : Int32 → gh_H → Prop} {X : String → gh_H → Prop}   (t0 : Option Nat) (H : Heap) (locs : List Loc) (ls : Array Slot) (h : gh_H) (G : gh_Inv D h0 (gh_A h0 s.heap.size) s.heap s H locs h) (hl : gh_L ls 5 []) (hw : wb_X0_stock_21 D.2.2 Q X t0 h) : W p l e rm_X0_stock s m args below meth c H locs 3 18 (vx_MQ below (gh_Qi Q D h0 s.heap.size) (gh_X X D h0 s.heap.size) args s 3 18 (gh_A h0 s.heap.size)) (F0 m 21 ls [va_rf t0]) := by
  unfold wb_X0_stock_21 at hw
  have hx := M.1.1
  have hb := M.1.2.1
  refine gh_astore (lv' := [(4, 1, va_rf t0)]) hx hb dX0_stock_21 hl (by decide) rfl (fun ls hl => ?_)
  refine lv_iconst (v := (3 : Int32)) hx hb dX0_stock_23 (by decide) ?_
  exact gh_iret M G hr rfl hw (by exact Nat.le_of_ble_eq_true rfl) (by exact Nat.le_of_ble_eq_true rfl) dX0_stock_24
set_option maxHeartbeats 4000000 in
theorem met_X0_stock (l : Launch) (D : gh_D) (v0 : Option Nat) (v1 : Int32) (v2 : Int32) (v3 : Option Nat) (Q : Int32 → gh_H → Prop) (X : String → gh_H → Prop) (h : gh_H) (sz : Nat) (hw : wp_X0_stock D.2.2 v0 v1 v2 v3 Q X h) (hst : l.stackTraces = false) : vx_Met l yX0_stock (wsW_ yX0_stock cX0_stock 5 (some .int) [(0, 10, 13, 19), (0, 10, 17, 13), (0, 10, 21, 48)]) rm_X0_stock (gh_Pc D h sz [va_rf v0, .int v1, .int v2, va_rf v3]) (gh_Qi Q D h sz) (gh_X X D h sz) 3 18 (gh_A h sz) := by
  refine vx_ofWH (by decide) rfl (fun p e s m args below meth c s₁ B hml hP => ?_)
  have htab := vx_table (x := yX0_stock) B (atoms_spec (ws := wsW_ yX0_stock cX0_stock 5 (some .int) [(0, 10, 13, 19), (0, 10, 17, 13), (0, 10, 21, 48)]) B.pre _ List.mem_cons_self)
  obtain ⟨rfl, rfl, hK, hT, hE, G⟩ := gh_start hP
  have M : gh_M D p l s m _ meth c RX0 cX0_stock 5 (gh_A h s.heap.size) := ⟨⟨B.exec, B.bytes, hml, findClass_of_methodNamed B.named, fun w hw => atoms_spec (ws := wsW_ yX0_stock cX0_stock 5 (some .int) [(0, 10, 13, 19), (0, 10, 17, 13), (0, 10, 21, 48)]) B.pre w (List.mem_cons_of_mem _ hw)⟩, hK, hT, hE, B.notSynchronized, hst⟩
  have hr := B.returns
  have hx := M.1.1
  have hb := M.1.2.1
  refine gh_enter (vs := [(1, va_rf v0), (1, .int v1), (1, .int v2), (1, va_rf v3)]) (gh_w1 (gh_cat _) (gh_w1 rfl (gh_w1 rfl (gh_w1 (gh_cat _) gh_wn)))) (Nat.le_of_ble_eq_true rfl) (fun ls hl => ?_)
  replace hl : gh_L ls 5 [(0, 1, va_rf v0), (1, 1, .int v1), (2, 1, .int v2), (3, 1, va_rf v3)] := hl
  unfold wp_X0_stock at hw
  refine gh_aload_n hx hb dX0_stock_0 rfl (gh_at hl 3 rfl) ?_
  refine lv_iconst (v := (0 : Int32)) hx hb dX0_stock_1 (by decide) ?_
  refine gh_aload_n hx hb dX0_stock_2 rfl (gh_at hl 0 rfl) ?_
  refine lv_iload_n hx hb dX0_stock_3 rfl (gh_at hl 1 rfl) ?_
  refine lv_iload_n hx hb dX0_stock_4 rfl (gh_at hl 2 rfl) ?_
  obtain ⟨a1, lba1, fsa1, rfl, haa1, hw⟩ := hw
  refine gh_ki G (vx_runV M.1 (met_X1_stock l D _ _ _ _ _ _ _ hw M.2.2.2.2.2) (cwV 2 (gh_Mts M) (lw_V q1108 q1109 q1110 q41 q1111) rfl rfl rfl ⟨rfl, by decide, by decide, rfl⟩ ⟨Nat.le_of_ble_eq_true rfl, Nat.le_of_ble_eq_true rfl⟩) (gh_preV (As := [.int v1, .int v2]) M G (gh_rec M G haa1 rfl)) rfl rfl hl.1.1 rfl (lv_room (Nat.le_trans (gh_r1 rfl (gh_r1 (gh_cat _) gh_r0)) (Nat.le_of_ble_eq_true rfl : 2 ≤ 8))) dX0_stock_5 ⟨(Nat.le_of_ble_eq_true rfl), (Nat.le_of_ble_eq_true rfl)⟩) (fun E ce q9 h9 H locs hX G hce hcv hcl => ?_) (fun r2 h3 H locs hw G => ?_)
  · rcases hX with ⟨rfl, hX⟩ | ⟨rfl, hX⟩ | ⟨rfl, hX⟩
    · replace hw := hX q9
      refine vx_catch (name := "java/lang/IndexOutOfBoundsException") M.1.2.2.2.1 (tableOf []) ⟨0, 10, 13, 19⟩ (tableOf [(0, 10, 17, 13), (0, 10, 21, 48)]) (htab.trans rfl) (fun _ h => absurd h List.not_mem_nil) (by decide) (by decide) (gh_Mts M _ q439) (va_Nw.use rfl (M.2.2.1.1 _ (List.mem_of_getElem? (i := 8) rfl))) hce hcv hcl ?_
      exact wk_X0_stock_13 M hr htab  (some q9) _ _ _ _ G (gh_sub hl [] rfl) hw
    · replace hw := hX q9
      refine vx_catch (name := "java/lang/IllegalStateException") M.1.2.2.2.1 (tableOf [(0, 10, 13, 19)]) ⟨0, 10, 17, 13⟩ (tableOf [(0, 10, 21, 48)]) (htab.trans rfl) (List.forall_mem_cons.mpr ⟨Or.inr ⟨by decide, "java/lang/IndexOutOfBoundsException", gh_Mts M _ q439, M.2.2.1.2.2.1 _ (List.mem_of_getElem? (i := 6) rfl)⟩, fun _ h => absurd h List.not_mem_nil⟩) (by decide) (by decide) (gh_Mts M _ q261) (va_Nw.use rfl (M.2.2.1.1 _ (List.mem_of_getElem? (i := 4) rfl))) hce hcv hcl ?_
      exact wk_X0_stock_17 M hr htab  (some q9) _ _ _ _ G (gh_sub hl [] rfl) hw
    · replace hw := hX q9
      refine vx_catch (name := "java/util/NoSuchElementException") M.1.2.2.2.1 (tableOf [(0, 10, 13, 19), (0, 10, 17, 13)]) ⟨0, 10, 21, 48⟩ (tableOf []) (htab.trans rfl) (List.forall_mem_cons.mpr ⟨Or.inr ⟨by decide, "java/lang/IndexOutOfBoundsException", gh_Mts M _ q439, M.2.2.1.2.2.1 _ (List.mem_of_getElem? (i := 11) rfl)⟩, List.forall_mem_cons.mpr ⟨Or.inr ⟨by decide, "java/lang/IllegalStateException", gh_Mts M _ q261, M.2.2.1.2.2.1 _ (List.mem_of_getElem? (i := 12) rfl)⟩, fun _ h => absurd h List.not_mem_nil⟩⟩) (by decide) (by decide) (gh_Mts M _ q818) (va_Nw.use rfl (M.2.2.1.1 _ (List.mem_of_getElem? (i := 46) rfl))) hce hcv hcl ?_
      exact wk_X0_stock_21 M hr htab  (some q9) _ _ _ _ G (gh_sub hl [] rfl) hw
  · refine lv_i2l (v := (r2.toInt64)) hx hb dX0_stock_8 rfl ?_
    refine gh_jas M G hw dX0_stock_9 (fun h4 H locs hw G => ?_)
    refine lv_goto (tgt := 25) hx hb dX0_stock_10 (by decide) ?_
    refine lv_iconst (v := (0 : Int32)) hx hb dX0_stock_25 (by decide) ?_
    exact gh_iret M G hr rfl hw (by exact Nat.le_of_ble_eq_true rfl) (by exact Nat.le_of_ble_eq_true rfl) dX0_stock_26
/-! BinderyDeskModel.stock (II)I -/
def rm_X3_stock : Room := { frames := 5, cells := 0, slots := 0, locals := 125 }
def wb_X3_stock_24 (κ : Nat → Nat)  (Q : Int32 → gh_H → Prop) (X : String → gh_H → Prop) (t0 : Int32) (h : gh_H) : Prop := (Q t0 h)
def wp_X3_stock (κ : Nat → Nat) (v0 : Nat) (v1 : Int32) (v2 : Int32) (Q : Int32 → gh_H → Prop) (X : String → gh_H → Prop) (h : gh_H) : Prop := (gh_RC h (some v0) 1 (fun _ => (wp_X3_isSheet κ v0 v1 v2 (fun r2 h3 => ((r2 = 0 → wb_X3_stock_24 κ Q X (0 : Int32) h3) ∧ (¬ r2 = 0 → (gh_GR h3 (some v0) [(1, 16)] (fun x4 => (gh_LI h3 x4 (((8 : Int32) * v1) + v2) (fun x5 => wb_X3_stock_24 κ Q X x5 h3))))))) X h)))
set_option maxHeartbeats 4000000 in
theorem wk_X3_stock_24 {D : gh_D} {p : Program} {l : Launch} {e : Env} {s : State} {m : MethodId} {args : Array Value} {below : List Frame} {meth : Method} {c : Code} {h0 : gh_H} (M : gh_M D p l s m args meth c RX3 cX3_stock 3 (gh_A h0 s.heap.size)) (hr : meth.sig.returnType = (some .int)) (hex : ∀ x ∈ c.exceptionTable.toList, False)   {Q : Int32 → gh_H → Prop} {X : String → gh_H → Prop}   (t0 : Int32) (H : Heap) (locs : List Loc) (ls : Array Slot) (h : gh_H) (G : gh_Inv D h0 (gh_A h0 s.heap.size) s.heap s H locs h) (hl : gh_L ls 3 []) (hw : wb_X3_stock_24 D.2.2 Q X t0 h) : W p l e rm_X3_stock s m args below meth c H locs 0 0 (vx_MQ below (gh_Qi Q D h0 s.heap.size) (gh_X X D h0 s.heap.size) args s 0 0 (gh_A h0 s.heap.size)) (F0 m 24 ls [.int t0]) := by
  unfold wb_X3_stock_24 at hw
  have hx := M.1.1
  have hb := M.1.2.1
  exact gh_iret M G hr rfl hw (by exact Nat.le_of_ble_eq_true rfl) (by exact Nat.le_of_ble_eq_true rfl) dX3_stock_24
set_option maxHeartbeats 4000000 in
theorem met_X3_stock (l : Launch) (D : gh_D) (v0 : Nat) (v1 : Int32) (v2 : Int32) (Q : Int32 → gh_H → Prop) (X : String → gh_H → Prop) (h : gh_H) (sz : Nat) (hw : wp_X3_stock D.2.2 v0 v1 v2 Q X h) (hst : l.stackTraces = false) : vx_Met l yX3_stock (ws_ yX3_stock cX3_stock 3 (some .int)) rm_X3_stock (gh_Pc D h sz [.ref v0, .int v1, .int v2]) (gh_Qi Q D h sz) (gh_X X D h sz) 0 0 (gh_A h sz) := by
  refine vx_ofW (by decide) rfl (fun p e s m args below meth c s₁ B hml hex hP => ?_)
  obtain ⟨rfl, rfl, hK, hT, hE, G⟩ := gh_start hP
  have M : gh_M D p l s m _ meth c RX3 cX3_stock 3 (gh_A h s.heap.size) := ⟨⟨B.exec, B.bytes, hml, findClass_of_methodNamed B.named, fun w hw => atoms_spec (ws := ws_ yX3_stock cX3_stock 3 (some .int)) B.pre w (List.mem_cons_of_mem _ hw)⟩, hK, hT, hE, B.notSynchronized, hst⟩
  have hr := B.returns
  have hx := M.1.1
  have hb := M.1.2.1
  refine gh_enter (vs := [(1, .ref v0), (1, .int v1), (1, .int v2)]) (gh_w1 rfl (gh_w1 rfl (gh_w1 rfl gh_wn))) (Nat.le_of_ble_eq_true rfl) (fun ls hl => ?_)
  replace hl : gh_L ls 3 [(0, 1, va_rf (some v0)), (1, 1, .int v1), (2, 1, .int v2)] := hl
  unfold wp_X3_stock at hw
  refine gh_aload_n hx hb dX3_stock_0 rfl (gh_at hl 0 rfl) ?_
  refine lv_iload_n hx hb dX3_stock_1 rfl (gh_at hl 1 rfl) ?_
  refine lv_iload_n hx hb dX3_stock_2 rfl (gh_at hl 2 rfl) ?_
  obtain ⟨a1, lba1, fsa1, hra1, haa1, hw⟩ := hw
  rw [← Option.some.inj hra1] at haa1
  refine gh_ki G (vx_runV M.1 (met_X3_isSheet l D _ _ _ _ _ _ _ hw M.2.2.2.2.2) (cwV 2 (gh_Mts M) (lw_V q1732 q1734 qs31 q50 q1735) rfl rfl rfl ⟨rfl, by decide, by decide, rfl⟩ ⟨Nat.le_of_ble_eq_true rfl, Nat.le_of_ble_eq_true rfl⟩) (gh_preV (As := [.int v1, .int v2]) M G (gh_rec M G haa1 rfl)) rfl rfl hl.1.1 rfl (lv_room (Nat.le_of_ble_eq_true rfl)) dX3_stock_3 ⟨(Nat.le_of_ble_eq_true rfl), (Nat.le_of_ble_eq_true rfl)⟩) (gh_out M hex (by exact Nat.le_of_ble_eq_true rfl) (by exact Nat.le_of_ble_eq_true rfl)) (fun r2 h3 H locs hw G => ?_)
  refine lv_if_eq (tgt := 23) hx hb dX3_stock_6 (by decide) (fun hc => ?_) (fun hc => ?_)
  · replace hw := hw.1 hc
    refine lv_iconst (v := (0 : Int32)) hx hb dX3_stock_23 (by decide) ?_
    exact wk_X3_stock_24 M hr hex  (0 : Int32) _ _ _ _ G (gh_sub hl [] rfl) hw
  · replace hw := hw.2 hc
    refine gh_aload_n hx hb dX3_stock_9 rfl (gh_at hl 0 rfl) ?_
    refine gh_getR M G hw fl_X3_22 dX3_stock_10 (fun x4 hw => ?_)
    refine lv_bipush (v := (8 : Int32)) hx hb dX3_stock_13 (by decide) ?_
    refine lv_iload_n hx hb dX3_stock_15 rfl (gh_at hl 1 rfl) ?_
    refine lv_imul hx hb dX3_stock_16 ?_
    refine lv_iload_n hx hb dX3_stock_17 rfl (gh_at hl 2 rfl) ?_
    refine lv_iadd hx hb dX3_stock_18 ?_
    refine gh_ial M G hw dX3_stock_19 (fun x5 hw => ?_)
    refine lv_goto (tgt := 24) hx hb dX3_stock_20 (by decide) ?_
    exact wk_X3_stock_24 M hr hex  x5 _ _ _ _ G (gh_sub hl [] rfl) hw
/-! java/util/TreeMap.size ()I -/
def rm_J6_size : Room := { frames := 1, cells := 0, slots := 0, locals := 40 }
def wp_J6_size (κ : Nat → Nat) (v0 : Nat) (Q : Int32 → gh_H → Prop) (X : String → gh_H → Prop) (h : gh_H) : Prop := (gh_GI h (some v0) [(11, 4)] (fun x1 => (Q x1 h)))
set_option maxHeartbeats 4000000 in
theorem met_J6_size (l : Launch) (D : gh_D) (v0 : Nat) (Q : Int32 → gh_H → Prop) (X : String → gh_H → Prop) (h : gh_H) (sz : Nat) (hw : wp_J6_size D.2.2 v0 Q X h) (hst : l.stackTraces = false) : vx_Met l yJ6_size (ws_ yJ6_size cJ6_size 1 (some .int)) rm_J6_size (gh_Pc D h sz [.ref v0]) (gh_Qi Q D h sz) (gh_X X D h sz) 0 0 (gh_A h sz) := by
  refine vx_ofW (by decide) rfl (fun p e s m args below meth c s₁ B hml hex hP => ?_)
  obtain ⟨rfl, rfl, hK, hT, hE, G⟩ := gh_start hP
  have M : gh_M D p l s m _ meth c RJ6 cJ6_size 1 (gh_A h s.heap.size) := ⟨⟨B.exec, B.bytes, hml, findClass_of_methodNamed B.named, fun w hw => atoms_spec (ws := ws_ yJ6_size cJ6_size 1 (some .int)) B.pre w (List.mem_cons_of_mem _ hw)⟩, hK, hT, hE, B.notSynchronized, hst⟩
  have hr := B.returns
  have hx := M.1.1
  have hb := M.1.2.1
  refine gh_enter (vs := [(1, .ref v0)]) (gh_w1 rfl gh_wn) (Nat.le_of_ble_eq_true rfl) (fun ls hl => ?_)
  replace hl : gh_L ls 1 [(0, 1, va_rf (some v0))] := hl
  unfold wp_J6_size at hw
  refine gh_aload_n hx hb dJ6_size_0 rfl (gh_at hl 0 rfl) ?_
  refine gh_getI M G hw fl_J6_7 dJ6_size_1 (fun x1 hw => ?_)
  exact gh_iret M G hr rfl hw (by exact Nat.le_of_ble_eq_true rfl) (by exact Nat.le_of_ble_eq_true rfl) dJ6_size_4
/-! java/util/TreeSet.size ()I -/
def rm_J4_size : Room := { frames := 2, cells := 0, slots := 0, locals := 60 }
def wp_J4_size (κ : Nat → Nat) (v0 : Nat) (Q : Int32 → gh_H → Prop) (X : String → gh_H → Prop) (h : gh_H) : Prop := (gh_GR h (some v0) [(10, 0)] (fun x1 => (gh_RC h x1 11 (fun a2 => (wp_J6_size κ a2 (fun r3 h4 => (Q r3 h4)) X h)))))
set_option maxHeartbeats 4000000 in
theorem met_J4_size (l : Launch) (D : gh_D) (v0 : Nat) (Q : Int32 → gh_H → Prop) (X : String → gh_H → Prop) (h : gh_H) (sz : Nat) (hw : wp_J4_size D.2.2 v0 Q X h) (hst : l.stackTraces = false) : vx_Met l yJ4_size (ws_ yJ4_size cJ4_size 1 (some .int)) rm_J4_size (gh_Pc D h sz [.ref v0]) (gh_Qi Q D h sz) (gh_X X D h sz) 0 0 (gh_A h sz) := by
  refine vx_ofW (by decide) rfl (fun p e s m args below meth c s₁ B hml hex hP => ?_)
  obtain ⟨rfl, rfl, hK, hT, hE, G⟩ := gh_start hP
  have M : gh_M D p l s m _ meth c RJ4 cJ4_size 1 (gh_A h s.heap.size) := ⟨⟨B.exec, B.bytes, hml, findClass_of_methodNamed B.named, fun w hw => atoms_spec (ws := ws_ yJ4_size cJ4_size 1 (some .int)) B.pre w (List.mem_cons_of_mem _ hw)⟩, hK, hT, hE, B.notSynchronized, hst⟩
  have hr := B.returns
  have hx := M.1.1
  have hb := M.1.2.1
  refine gh_enter (vs := [(1, .ref v0)]) (gh_w1 rfl gh_wn) (Nat.le_of_ble_eq_true rfl) (fun ls hl => ?_)
  replace hl : gh_L ls 1 [(0, 1, va_rf (some v0))] := hl
  unfold wp_J4_size at hw
  refine gh_aload_n hx hb dJ4_size_0 rfl (gh_at hl 0 rfl) ?_
  refine gh_getR M G hw fl_J4_7 dJ4_size_1 (fun x1 hw => ?_)
  obtain ⟨a2, lba2, fsa2, rfl, haa2, hw⟩ := hw
  refine gh_kFi G (gh_runIU (C := "java/util/TreeMap") M (met_J6_size l D _ _ _ _ _ hw M.2.2.2.2.2) (lw_meth q233) rfl rfl rfl ⟨Nat.le_of_ble_eq_true rfl, Nat.le_of_ble_eq_true rfl⟩ (List.mem_of_getElem? (i := 0) rfl) (List.mem_of_getElem? (i := 0) rfl) (List.mem_of_getElem? (i := 189) rfl) (List.mem_of_getElem? (i := 188) rfl) q229 (by decide) q231 q48 (List.mem_of_getElem? (i := 101) rfl) (List.mem_of_getElem? (i := 100) rfl) (List.mem_of_getElem? (i := 99) rfl) rfl (gh_preV (As := []) M G (gh_rec M G haa2 rfl)) rfl hl.1.1 rfl (Nat.le_of_ble_eq_true rfl) dJ4_size_4 ⟨(Nat.le_of_ble_eq_true rfl), (Nat.le_of_ble_eq_true rfl)⟩) (gh_out M hex (by exact Nat.le_of_ble_eq_true rfl) (by exact Nat.le_of_ble_eq_true rfl)) (fun r3 h4 H locs hw G => ?_)
  exact gh_iret M G hr rfl hw (by exact Nat.le_of_ble_eq_true rfl) (by exact Nat.le_of_ble_eq_true rfl) dJ4_size_9
/-! BinderyDesk.plates ()I -/
def rm_X1_plates : Room := { frames := 3, cells := 0, slots := 0, locals := 80 }
def wp_X1_plates (κ : Nat → Nat) (v0 : Nat) (Q : Int32 → gh_H → Prop) (X : String → gh_H → Prop) (h : gh_H) : Prop := (gh_GR h (some v0) [(0, 4)] (fun x1 => (gh_RC h x1 10 (fun a2 => (wp_J4_size κ a2 (fun r3 h4 => (Q r3 h4)) X h)))))
set_option maxHeartbeats 4000000 in
theorem met_X1_plates (l : Launch) (D : gh_D) (v0 : Nat) (Q : Int32 → gh_H → Prop) (X : String → gh_H → Prop) (h : gh_H) (sz : Nat) (hw : wp_X1_plates D.2.2 v0 Q X h) (hst : l.stackTraces = false) : vx_Met l yX1_plates (ws_ yX1_plates cX1_plates 1 (some .int)) rm_X1_plates (gh_Pc D h sz [.ref v0]) (gh_Qi Q D h sz) (gh_X X D h sz) 0 0 (gh_A h sz) := by
  refine vx_ofW (by decide) rfl (fun p e s m args below meth c s₁ B hml hex hP => ?_)
  obtain ⟨rfl, rfl, hK, hT, hE, G⟩ := gh_start hP
  have M : gh_M D p l s m _ meth c RX1 cX1_plates 1 (gh_A h s.heap.size) := ⟨⟨B.exec, B.bytes, hml, findClass_of_methodNamed B.named, fun w hw => atoms_spec (ws := ws_ yX1_plates cX1_plates 1 (some .int)) B.pre w (List.mem_cons_of_mem _ hw)⟩, hK, hT, hE, B.notSynchronized, hst⟩
  have hr := B.returns
  have hx := M.1.1
  have hb := M.1.2.1
  refine gh_enter (vs := [(1, .ref v0)]) (gh_w1 rfl gh_wn) (Nat.le_of_ble_eq_true rfl) (fun ls hl => ?_)
  replace hl : gh_L ls 1 [(0, 1, va_rf (some v0))] := hl
  unfold wp_X1_plates at hw
  refine gh_aload_n hx hb dX1_plates_0 rfl (gh_at hl 0 rfl) ?_
  refine gh_getR M G hw fl_X1_43 dX1_plates_1 (fun x1 hw => ?_)
  obtain ⟨a2, lba2, fsa2, rfl, haa2, hw⟩ := hw
  refine gh_ki G (vx_runV M.1 (met_J4_size l D _ _ _ _ _ hw M.2.2.2.2.2) (cwV 0 (gh_Mts M) (lw_V q221 q222 q223 q46 q224) rfl rfl rfl ⟨rfl, by decide, by decide, rfl⟩ ⟨Nat.le_of_ble_eq_true rfl, Nat.le_of_ble_eq_true rfl⟩) (gh_preV (As := []) M G (gh_rec M G haa2 rfl)) rfl rfl hl.1.1 rfl (lv_room (Nat.le_of_ble_eq_true rfl)) dX1_plates_4 ⟨(Nat.le_of_ble_eq_true rfl), (Nat.le_of_ble_eq_true rfl)⟩) (gh_out M hex (by exact Nat.le_of_ble_eq_true rfl) (by exact Nat.le_of_ble_eq_true rfl)) (fun r3 h4 H locs hw G => ?_)
  exact gh_iret M G hr rfl hw (by exact Nat.le_of_ble_eq_true rfl) (by exact Nat.le_of_ble_eq_true rfl) dX1_plates_7
/-! BinderyDeskModel.plates ()I -/
def rm_X3_plates : Room := { frames := 1, cells := 0, slots := 0, locals := 40 }
def wp_X3_plates (κ : Nat → Nat) (v0 : Nat) (Q : Int32 → gh_H → Prop) (X : String → gh_H → Prop) (h : gh_H) : Prop := (gh_PV h (some v0) [(1, 0)] (.int (0 : Int32)) (fun h1 => (gh_GI h1 (some v0) [(1, 4)] (fun x2 => (Q x2 h1)))))
set_option maxHeartbeats 4000000 in
theorem met_X3_plates (l : Launch) (D : gh_D) (v0 : Nat) (Q : Int32 → gh_H → Prop) (X : String → gh_H → Prop) (h : gh_H) (sz : Nat) (hw : wp_X3_plates D.2.2 v0 Q X h) (hst : l.stackTraces = false) : vx_Met l yX3_plates (ws_ yX3_plates cX3_plates 1 (some .int)) rm_X3_plates (gh_Pc D h sz [.ref v0]) (gh_Qi Q D h sz) (gh_X X D h sz) 0 0 (gh_A h sz) := by
  refine vx_ofW (by decide) rfl (fun p e s m args below meth c s₁ B hml hex hP => ?_)
  obtain ⟨rfl, rfl, hK, hT, hE, G⟩ := gh_start hP
  have M : gh_M D p l s m _ meth c RX3 cX3_plates 1 (gh_A h s.heap.size) := ⟨⟨B.exec, B.bytes, hml, findClass_of_methodNamed B.named, fun w hw => atoms_spec (ws := ws_ yX3_plates cX3_plates 1 (some .int)) B.pre w (List.mem_cons_of_mem _ hw)⟩, hK, hT, hE, B.notSynchronized, hst⟩
  have hr := B.returns
  have hx := M.1.1
  have hb := M.1.2.1
  refine gh_enter (vs := [(1, .ref v0)]) (gh_w1 rfl gh_wn) (Nat.le_of_ble_eq_true rfl) (fun ls hl => ?_)
  replace hl : gh_L ls 1 [(0, 1, va_rf (some v0))] := hl
  unfold wp_X3_plates at hw
  refine gh_aload_n hx hb dX3_plates_0 rfl (gh_at hl 0 rfl) ?_
  refine lv_iconst (v := (0 : Int32)) hx hb dX3_plates_1 (by decide) ?_
  refine gh_put M G hw fp_X3_53 rfl rfl dX3_plates_2 (fun h1 H locs hw G => ?_)
  refine gh_aload_n hx hb dX3_plates_5 rfl (gh_at hl 0 rfl) ?_
  refine gh_getI M G hw fl_X3_91 dX3_plates_6 (fun x2 hw => ?_)
  exact gh_iret M G hr rfl hw (by exact Nat.le_of_ble_eq_true rfl) (by exact Nat.le_of_ble_eq_true rfl) dX3_plates_9
/-! java/util/TreeMap$KeySet.<init> (Ljava/util/NavigableMap;)V -/
theorem fl_J29_7 : gh_FL RJ29 7 [(14, 0)] := by
  intro args s hts tb q hq
  simp only [List.mem_cons, List.not_mem_nil, or_false] at hq
  subst hq
  exact ⟨_, "java/util/TreeMap$KeySet", rfl, by decide, Or.inl (hts _ q1213), (fun x h => h)⟩
theorem fp_J29_7 : gh_FP RJ29 7 [(14, 0)] (.object "java/util/NavigableMap") true := by
  refine ⟨fl_J29_7, fun q hq => ?_⟩
  simp only [List.mem_cons, List.not_mem_nil, or_false] at hq
  subst hq
  exact ⟨_, rfl, rfl, by decide +kernel, fun _ => rfl⟩
def rm_J29_init : Room := { frames := 4, cells := 0, slots := 0, locals := 120 }
def wp_J29_init (κ : Nat → Nat) (v0 : Nat) (v1 : Option Nat) (Q : gh_H → Prop) (X : String → gh_H → Prop) (h : gh_H) : Prop := (wp_J3_init κ v0 (fun h1 => (gh_PV h1 (some v0) [(14, 0)] (va_rf v1) (fun h2 => (Q h2)))) X h)
set_option maxHeartbeats 4000000 in
theorem met_J29_init (l : Launch) (D : gh_D) (v0 : Nat) (v1 : Option Nat) (Q : gh_H → Prop) (X : String → gh_H → Prop) (h : gh_H) (sz : Nat) (hw : wp_J29_init D.2.2 v0 v1 Q X h) (hst : l.stackTraces = false) : vx_Met l yJ29_init (ws_ yJ29_init cJ29_init 2 none) rm_J29_init (gh_Pc D h sz [.ref v0, va_rf v1]) (gh_Qv Q D h sz) (gh_X X D h sz) 0 0 (gh_A h sz) := by
  refine vx_ofW (by decide) rfl (fun p e s m args below meth c s₁ B hml hex hP => ?_)
  obtain ⟨rfl, rfl, hK, hT, hE, G⟩ := gh_start hP
  have M : gh_M D p l s m _ meth c RJ29 cJ29_init 2 (gh_A h s.heap.size) := ⟨⟨B.exec, B.bytes, hml, findClass_of_methodNamed B.named, fun w hw => atoms_spec (ws := ws_ yJ29_init cJ29_init 2 none) B.pre w (List.mem_cons_of_mem _ hw)⟩, hK, hT, hE, B.notSynchronized, hst⟩
  have hr := B.returns
  have hname : meth.name = "<init>" := (name_of_methodNamed B.named B.method).1
  have hx := M.1.1
  have hb := M.1.2.1
  refine gh_enter (vs := [(1, .ref v0), (1, va_rf v1)]) (gh_w1 rfl (gh_w1 (gh_cat _) gh_wn)) (Nat.le_of_ble_eq_true rfl) (fun ls hl => ?_)
  replace hl : gh_L ls 2 [(0, 1, va_rf (some v0)), (1, 1, va_rf v1)] := hl
  unfold wp_J29_init at hw
  refine gh_aload_n hx hb dJ29_init_0 rfl (gh_at hl 0 rfl) ?_
  refine gh_kv G (vx_runI M.1 (met_J3_init l D _ _ _ _ _ hw M.2.2.2.2.2) (cwI 0 (gh_Mts M) (lw_meth q166) rfl rfl rfl (gh_Mts M _ q45) (gh_Mts M _ q1212) (gh_Mts M _ q165) rfl ⟨by decide, by decide, rfl⟩ ⟨Nat.le_of_ble_eq_true rfl, Nat.le_of_ble_eq_true rfl⟩) (gh_pre M G (As := .ref v0 :: [])) rfl rfl hl.1.1 rfl (lv_room (Nat.le_of_ble_eq_true rfl)) dJ29_init_1 ⟨(Nat.le_of_ble_eq_true rfl), (Nat.le_of_ble_eq_true rfl)⟩) (gh_out M hex (by exact Nat.le_of_ble_eq_true rfl) (by exact Nat.le_of_ble_eq_true rfl)) (fun h1 H locs hw G => ?_)
  refine gh_aload_n hx hb dJ29_init_4 rfl (gh_at hl 0 rfl) ?_
  refine gh_aload_n hx hb dJ29_init_5 rfl (gh_at hl 1 rfl) ?_
  refine gh_putF M G hname hw fp_J29_7 (gh_narR _ _) (gh_fitR _ _) dJ29_init_6 (fun h2 H locs hw G => ?_)
  exact gh_vret M G hr hw (by exact Nat.le_of_ble_eq_true rfl) (by exact Nat.le_of_ble_eq_true rfl) dJ29_init_9
/-! java/util/TreeMap.navigableKeySet ()Ljava/util/NavigableSet; -/
theorem fl_J6_191 : gh_FL RJ6 191 [(11, 7)] := by
  intro args s hts tb q hq
  simp only [List.mem_cons, List.not_mem_nil, or_false] at hq
  subst hq
  exact ⟨_, "java/util/TreeMap", rfl, by decide, Or.inl (hts _ q141), (fun x h => h)⟩
theorem nd_J29 : ∀ j, j < 1 → defaultValue (tyJ29 j) = vp_V [va_rf none] j := by
  intro j hj
  rcases (show j = 0 by omega) with rfl <;> rfl
theorem fp_J6_191 : gh_FP RJ6 191 [(11, 7)] (.object "java/util/TreeMap$KeySet") false := by
  refine ⟨fl_J6_191, fun q hq => ?_⟩
  simp only [List.mem_cons, List.not_mem_nil, or_false] at hq
  subst hq
  exact ⟨_, rfl, rfl, by decide +kernel, fun h => by cases h⟩
def rm_J6_navigableKeySet : Room := { frames := 5, cells := 1, slots := 1, locals := 141 }
def wb_J6_navigableKeySet_26 (κ : Nat → Nat)  (Q : Option Nat → gh_H → Prop) (X : String → gh_H → Prop) (t0 : Option Nat) (h : gh_H) : Prop := (Q t0 h)
def wp_J6_navigableKeySet (κ : Nat → Nat) (v0 : Nat) (Q : Option Nat → gh_H → Prop) (X : String → gh_H → Prop) (h : gh_H) : Prop := (gh_GR h (some v0) [(11, 7)] (fun x1 => ((x1 = none → (gh_NO h 14 [va_rf none] (fun q2 h3 => (wp_J29_init κ q2 (some v0) (fun h4 => (gh_PV h4 (some v0) [(11, 7)] (va_rf (some q2)) (fun h5 => wb_J6_navigableKeySet_26 κ Q X (some q2) h5))) X h3)))) ∧ (¬ x1 = none → wb_J6_navigableKeySet_26 κ Q X x1 h))))
set_option maxHeartbeats 4000000 in
theorem wk_J6_navigableKeySet_26 {D : gh_D} {p : Program} {l : Launch} {e : Env} {s : State} {m : MethodId} {args : Array Value} {below : List Frame} {meth : Method} {c : Code} {h0 : gh_H} (M : gh_M D p l s m args meth c RJ6 cJ6_navigableKeySet 2 (gh_A h0 s.heap.size)) (hr : meth.sig.returnType = (some (.object "java/util/NavigableSet"))) (hex : ∀ x ∈ c.exceptionTable.toList, False)   {Q : Option Nat → gh_H → Prop} {X : String → gh_H → Prop}   (t0 : Option Nat) (H : Heap) (locs : List Loc) (ls : Array Slot) (h : gh_H) (G : gh_Inv D h0 (gh_A h0 s.heap.size) s.heap s H locs h) (hl : gh_L ls 2 []) (hw : wb_J6_navigableKeySet_26 D.2.2 Q X t0 h) : W p l e rm_J6_navigableKeySet s m args below meth c H locs 1 1 (vx_MQ below (gh_Qq Q D h0 s.heap.size) (gh_X X D h0 s.heap.size) args s 1 1 (gh_A h0 s.heap.size)) (F0 m 26 ls [va_rf t0]) := by
  unfold wb_J6_navigableKeySet_26 at hw
  have hx := M.1.1
  have hb := M.1.2.1
  exact gh_aret M G hr (Or.inl ⟨_, rfl⟩) hw (by exact Nat.le_of_ble_eq_true rfl) (by exact Nat.le_of_ble_eq_true rfl) dJ6_navigableKeySet_26
set_option maxHeartbeats 4000000 in
theorem met_J6_navigableKeySet (l : Launch) (D : gh_D) (v0 : Nat) (Q : Option Nat → gh_H → Prop) (X : String → gh_H → Prop) (h : gh_H) (sz : Nat) (hw : wp_J6_navigableKeySet D.2.2 v0 Q X h) (hst : l.stackTraces = false) : vx_Met l yJ6_navigableKeySet (ws_ yJ6_navigableKeySet cJ6_navigableKeySet 2 (some (.object "java/util/NavigableSet"))) rm_J6_navigableKeySet (gh_Pc D h sz [.ref v0]) (gh_Qq Q D h sz) (gh_X X D h sz) 1 1 (gh_A h sz) := by
  refine vx_ofW (by decide) rfl (fun p e s m args below meth c s₁ B hml hex hP => ?_)
  obtain ⟨rfl, rfl, hK, hT, hE, G⟩ := gh_start hP
  have M : gh_M D p l s m _ meth c RJ6 cJ6_navigableKeySet 2 (gh_A h s.heap.size) := ⟨⟨B.exec, B.bytes, hml, findClass_of_methodNamed B.named, fun w hw => atoms_spec (ws := ws_ yJ6_navigableKeySet cJ6_navigableKeySet 2 (some (.object "java/util/NavigableSet"))) B.pre w (List.mem_cons_of_mem _ hw)⟩, hK, hT, hE, B.notSynchronized, hst⟩
  have hr := B.returns
  have hx := M.1.1
  have hb := M.1.2.1
  refine gh_enter (vs := [(1, .ref v0)]) (gh_w1 rfl gh_wn) (Nat.le_of_ble_eq_true rfl) (fun ls hl => ?_)
  replace hl : gh_L ls 2 [(0, 1, va_rf (some v0))] := hl
  unfold wp_J6_navigableKeySet at hw
  refine gh_aload_n hx hb dJ6_navigableKeySet_0 rfl (gh_at hl 0 rfl) ?_
  refine gh_getR M G hw fl_J6_191 dJ6_navigableKeySet_1 (fun x1 hw => ?_)
  refine gh_astore_n (lv' := [(1, 1, va_rf x1), (0, 1, va_rf (some v0))]) hx hb dJ6_navigableKeySet_4 rfl hl (by decide) rfl (fun ls hl => ?_)
  refine gh_aload_n hx hb dJ6_navigableKeySet_5 rfl (gh_at hl 0 rfl) ?_
  refine gh_ifnull (tgt := 13) hx hb dJ6_navigableKeySet_6 (by decide) (fun hc => ?_) (fun hc => ?_)
  · replace hw := hw.1 hc
    refine gh_aload_n hx hb dJ6_navigableKeySet_13 rfl (gh_at hl 1 rfl) ?_
    refine gh_new (N := 1) (r := (RJ29, TJ29, 1)) (ci := 14) (fs := [va_rf none]) M G hw tyJ29 tyJ29_ok q1207 q1208 q81 rfl rfl nd_J29 (Nat.le_of_ble_eq_true rfl) (Nat.le_of_ble_eq_true rfl) dJ6_navigableKeySet_14 (fun q2 h3 H hw G => ?_)
    refine lv_dup hx hb dJ6_navigableKeySet_17 (gh_cat _) ?_
    refine gh_aload_n hx hb dJ6_navigableKeySet_18 rfl (gh_at hl 1 rfl) ?_
    refine gh_kv G (vx_runI M.1 (met_J29_init l D _ _ _ _ _ _ hw M.2.2.2.2.2) (cwI 1 (gh_Mts M) (lw_meth q1211) rfl rfl rfl (gh_Mts M _ q81) (gh_Mts M _ q1209) (gh_Mts M _ q1210) rfl ⟨by decide, by decide, rfl⟩ ⟨Nat.le_of_ble_eq_true rfl, Nat.le_of_ble_eq_true rfl⟩) (gh_pre M G (As := .ref q2 :: [va_rf (some v0)])) rfl rfl hl.1.1 rfl (lv_room (Nat.le_trans (gh_r1 (gh_cat _) (gh_r1 (gh_cat _) gh_r0)) (Nat.le_of_ble_eq_true rfl : 2 ≤ 8))) dJ6_navigableKeySet_19 ⟨(Nat.le_of_ble_eq_true rfl), (Nat.le_of_ble_eq_true rfl)⟩) (gh_out M hex (by exact Nat.le_of_ble_eq_true rfl) (by exact Nat.le_of_ble_eq_true rfl)) (fun h4 H locs hw G => ?_)
    refine lv_dup_x1 hx hb dJ6_navigableKeySet_22 (gh_cat _) (gh_cat _) ?_
    refine gh_put M G hw fp_J6_191 (gh_narR _ _) (gh_fitR _ _) dJ6_navigableKeySet_23 (fun h5 H locs hw G => ?_)
    exact wk_J6_navigableKeySet_26 M hr hex  (some q2) _ _ _ _ G (gh_sub hl [] rfl) hw
  · replace hw := hw.2 hc
    refine gh_aload_n hx hb dJ6_navigableKeySet_9 rfl (gh_at hl 0 rfl) ?_
    refine lv_goto (tgt := 26) hx hb dJ6_navigableKeySet_10 (by decide) ?_
    refine W.widen (k := 1) (n := 1) (by exact Nat.le_of_ble_eq_true rfl) (by exact Nat.le_of_ble_eq_true rfl) ?_
    exact wk_J6_navigableKeySet_26 M hr hex  x1 _ _ _ _ G (gh_sub hl [] rfl) hw
/-! java/util/TreeMap.getFirstEntry ()Ljava/util/TreeMap$Entry; -/
def rm_J6_getFirstEntry : Room := { frames := 1, cells := 0, slots := 0, locals := 40 }
def wb_J6_getFirstEntry_24 (κ : Nat → Nat)  (Q : Option Nat → gh_H → Prop) (X : String → gh_H → Prop) (v1 : Option Nat) (h : gh_H) : Prop := (Q v1 h)
def wb_J6_getFirstEntry_9 (κ : Nat → Nat) (K9 : Option Nat → gh_H → Prop) (Q : Option Nat → gh_H → Prop) (X : String → gh_H → Prop) (v1 : Option Nat) (h : gh_H) : Prop := (gh_GR h v1 [(12, 2)] (fun x1 => ((x1 = none → wb_J6_getFirstEntry_24 κ Q X v1 h) ∧ (¬ x1 = none → (gh_GR h v1 [(12, 2)] (fun x2 => K9 x2 h))))))
def wl_J6_getFirstEntry_9 (κ : Nat → Nat)  (Q : Option Nat → gh_H → Prop) (X : String → gh_H → Prop) : Nat → Option Nat → gh_H → Prop
  | 0 => fun _ _ => False
  | n + 1 => fun v1 h => wb_J6_getFirstEntry_9 κ (wl_J6_getFirstEntry_9 κ Q X n) Q X v1 h
def wp_J6_getFirstEntry (κ : Nat → Nat) (v0 : Nat) (Q : Option Nat → gh_H → Prop) (X : String → gh_H → Prop) (h : gh_H) : Prop := (gh_GR h (some v0) [(11, 3)] (fun x1 => ((x1 = none → wb_J6_getFirstEntry_24 κ Q X x1 h) ∧ (¬ x1 = none → (∃ n : Nat, wl_J6_getFirstEntry_9 κ Q X n x1 h)))))
set_option maxHeartbeats 4000000 in
theorem wk_J6_getFirstEntry_24 {D : gh_D} {p : Program} {l : Launch} {e : Env} {s : State} {m : MethodId} {args : Array Value} {below : List Frame} {meth : Method} {c : Code} {h0 : gh_H} (M : gh_M D p l s m args meth c RJ6 cJ6_getFirstEntry 2 (gh_A h0 s.heap.size)) (hr : meth.sig.returnType = (some (.object "java/util/TreeMap$Entry"))) (hex : ∀ x ∈ c.exceptionTable.toList, False)   {Q : Option Nat → gh_H → Prop} {X : String → gh_H → Prop}   (v1 : Option Nat) (H : Heap) (locs : List Loc) (ls : Array Slot) (h : gh_H) (G : gh_Inv D h0 (gh_A h0 s.heap.size) s.heap s H locs h) (hl : gh_L ls 2 [(1, 1, va_rf v1)]) (hw : wb_J6_getFirstEntry_24 D.2.2 Q X v1 h) : W p l e rm_J6_getFirstEntry s m args below meth c H locs 0 0 (vx_MQ below (gh_Qq Q D h0 s.heap.size) (gh_X X D h0 s.heap.size) args s 0 0 (gh_A h0 s.heap.size)) (F0 m 24 ls []) := by
  unfold wb_J6_getFirstEntry_24 at hw
  have hx := M.1.1
  have hb := M.1.2.1
  refine gh_aload_n hx hb dJ6_getFirstEntry_24 rfl (gh_at hl 0 rfl) ?_
  exact gh_aret M G hr (Or.inl ⟨_, rfl⟩) hw (by exact Nat.le_of_ble_eq_true rfl) (by exact Nat.le_of_ble_eq_true rfl) dJ6_getFirstEntry_25
set_option maxHeartbeats 4000000 in
theorem wk1_J6_getFirstEntry_9 {D : gh_D} {p : Program} {l : Launch} {e : Env} {s : State} {m : MethodId} {args : Array Value} {below : List Frame} {meth : Method} {c : Code} {h0 : gh_H} (M : gh_M D p l s m args meth c RJ6 cJ6_getFirstEntry 2 (gh_A h0 s.heap.size)) (hr : meth.sig.returnType = (some (.object "java/util/TreeMap$Entry"))) (hex : ∀ x ∈ c.exceptionTable.toList, False) {K9 : Option Nat → gh_H → Prop}  {Q : Option Nat → gh_H → Prop} {X : String → gh_H → Prop} (k9 : ∀ (v1 : Option Nat) (H : Heap) (locs : List Loc) (ls : Array Slot) (h : gh_H) (_ : gh_Inv D h0 (gh_A h0 s.heap.size) s.heap s H locs h) (_ : gh_L ls 2 [(1, 1, va_rf v1)]) (_ : K9 v1 h), W p l e rm_J6_getFirstEntry s m args below meth c H locs 0 0 (vx_MQ below (gh_Qq Q D h0 s.heap.size) (gh_X X D h0 s.heap.size) args s 0 0 (gh_A h0 s.heap.size)) (F0 m 9 ls []))  (v1 : Option Nat) (H : Heap) (locs : List Loc) (ls : Array Slot) (h : gh_H) (G : gh_Inv D h0 (gh_A h0 s.heap.size) s.heap s H locs h) (hl : gh_L ls 2 [(1, 1, va_rf v1)]) (hw : wb_J6_getFirstEntry_9 D.2.2 K9 Q X v1 h) : W p l e rm_J6_getFirstEntry s m args below meth c H locs 0 0 (vx_MQ below (gh_Qq Q D h0 s.heap.size) (gh_X X D h0 s.heap.size) args s 0 0 (gh_A h0 s.heap.size)) (F0 m 9 ls []) := by
  unfold wb_J6_getFirstEntry_9 at hw
  have hx := M.1.1
  have hb := M.1.2.1
  refine gh_aload_n hx hb dJ6_getFirstEntry_9 rfl (gh_at hl 0 rfl) ?_
  refine gh_getR M G hw fl_J6_111 dJ6_getFirstEntry_10 (fun x1 hw => ?_)
  refine gh_ifnull (tgt := 24) hx hb dJ6_getFirstEntry_13 (by decide) (fun hc => ?_) (fun hc => ?_)
  · replace hw := hw.1 hc
    exact wk_J6_getFirstEntry_24 M hr hex  v1 _ _ _ _ G (gh_sub hl [0] rfl) hw
  · replace hw := hw.2 hc
    refine gh_aload_n hx hb dJ6_getFirstEntry_16 rfl (gh_at hl 0 rfl) ?_
    refine gh_getR M G hw fl_J6_111 dJ6_getFirstEntry_17 (fun x2 hw => ?_)
    refine gh_astore_n (lv' := [(1, 1, va_rf x2)]) hx hb dJ6_getFirstEntry_20 rfl hl (by decide) rfl (fun ls hl => ?_)
    refine lv_goto (tgt := 9) hx hb dJ6_getFirstEntry_21 (by decide) ?_
    exact k9 x2 _ _ _ _ G (gh_sub hl [0] rfl) hw
theorem wk_J6_getFirstEntry_9 {D : gh_D} {p : Program} {l : Launch} {e : Env} {s : State} {m : MethodId} {args : Array Value} {below : List Frame} {meth : Method} {c : Code} {h0 : gh_H} (M : gh_M D p l s m args meth c RJ6 cJ6_getFirstEntry 2 (gh_A h0 s.heap.size)) (hr : meth.sig.returnType = (some (.object "java/util/TreeMap$Entry"))) (hex : ∀ x ∈ c.exceptionTable.toList, False)   {Q : Option Nat → gh_H → Prop} {X : String → gh_H → Prop}   : ∀ (n : Nat) (v1 : Option Nat) (H : Heap) (locs : List Loc) (ls : Array Slot) (h : gh_H) (_ : gh_Inv D h0 (gh_A h0 s.heap.size) s.heap s H locs h) (_ : gh_L ls 2 [(1, 1, va_rf v1)]) (_ : wl_J6_getFirstEntry_9 D.2.2 Q X n v1 h), W p l e rm_J6_getFirstEntry s m args below meth c H locs 0 0 (vx_MQ below (gh_Qq Q D h0 s.heap.size) (gh_X X D h0 s.heap.size) args s 0 0 (gh_A h0 s.heap.size)) (F0 m 9 ls []) := by
  intro fu
  induction fu with
  | zero => intro v1 H locs ls h G hl hw; exact False.elim hw
  | succ n1 ih =>
    intro v1 H locs ls h G hl hw
    exact wk1_J6_getFirstEntry_9 M hr hex ih  v1 _ _ _ _ G hl hw
set_option maxHeartbeats 4000000 in
theorem met_J6_getFirstEntry (l : Launch) (D : gh_D) (v0 : Nat) (Q : Option Nat → gh_H → Prop) (X : String → gh_H → Prop) (h : gh_H) (sz : Nat) (hw : wp_J6_getFirstEntry D.2.2 v0 Q X h) (hst : l.stackTraces = false) : vx_Met l yJ6_getFirstEntry (ws_ yJ6_getFirstEntry cJ6_getFirstEntry 2 (some (.object "java/util/TreeMap$Entry"))) rm_J6_getFirstEntry (gh_Pc D h sz [.ref v0]) (gh_Qq Q D h sz) (gh_X X D h sz) 0 0 (gh_A h sz) := by
  refine vx_ofW (by decide) rfl (fun p e s m args below meth c s₁ B hml hex hP => ?_)
  obtain ⟨rfl, rfl, hK, hT, hE, G⟩ := gh_start hP
  have M : gh_M D p l s m _ meth c RJ6 cJ6_getFirstEntry 2 (gh_A h s.heap.size) := ⟨⟨B.exec, B.bytes, hml, findClass_of_methodNamed B.named, fun w hw => atoms_spec (ws := ws_ yJ6_getFirstEntry cJ6_getFirstEntry 2 (some (.object "java/util/TreeMap$Entry"))) B.pre w (List.mem_cons_of_mem _ hw)⟩, hK, hT, hE, B.notSynchronized, hst⟩
  have hr := B.returns
  have hx := M.1.1
  have hb := M.1.2.1
  refine gh_enter (vs := [(1, .ref v0)]) (gh_w1 rfl gh_wn) (Nat.le_of_ble_eq_true rfl) (fun ls hl => ?_)
  replace hl : gh_L ls 2 [(0, 1, va_rf (some v0))] := hl
  unfold wp_J6_getFirstEntry at hw
  refine gh_aload_n hx hb dJ6_getFirstEntry_0 rfl (gh_at hl 0 rfl) ?_
  refine gh_getR M G hw fl_J6_101 dJ6_getFirstEntry_1 (fun x1 hw => ?_)
  refine gh_astore_n (lv' := [(1, 1, va_rf x1), (0, 1, va_rf (some v0))]) hx hb dJ6_getFirstEntry_4 rfl hl (by decide) rfl (fun ls hl => ?_)
  refine gh_aload_n hx hb dJ6_getFirstEntry_5 rfl (gh_at hl 0 rfl) ?_
  refine gh_ifnull (tgt := 24) hx hb dJ6_getFirstEntry_6 (by decide) (fun hc => ?_) (fun hc => ?_)
  · replace hw := hw.1 hc
    exact wk_J6_getFirstEntry_24 M hr hex  x1 _ _ _ _ G (gh_sub hl [0] rfl) hw
  · replace hw := hw.2 hc
    obtain ⟨n, hw⟩ := hw
    exact wk_J6_getFirstEntry_9 M hr hex  n x1 _ _ _ _ G (gh_sub hl [0] rfl) hw
/-! java/util/TreeMap$PrivateEntryIterator.<init> (Ljava/util/TreeMap;Ljava/util/TreeMap$Entry;)V -/
theorem fl_J27_1 : gh_FL RJ27 1 [(13, 3)] := by
  intro args s hts tb q hq
  simp only [List.mem_cons, List.not_mem_nil, or_false] at hq
  subst hq
  exact ⟨_, "java/util/TreeMap$PrivateEntryIterator", rfl, by decide, Or.inl (hts _ q1179), (fun x h => h)⟩
theorem fp_J27_1 : gh_FP RJ27 1 [(13, 3)] (.object "java/util/TreeMap") true := by
  refine ⟨fl_J27_1, fun q hq => ?_⟩
  simp only [List.mem_cons, List.not_mem_nil, or_false] at hq
  subst hq
  exact ⟨_, rfl, rfl, by decide +kernel, fun _ => rfl⟩
theorem fl_J27_13 : gh_FL RJ27 13 [(11, 5)] := by
  intro args s hts tb q hq
  simp only [List.mem_cons, List.not_mem_nil, or_false] at hq
  subst hq
  exact ⟨_, "java/util/TreeMap", rfl, by decide, Or.inr ⟨"java/util/TreeMap", va_Nw.use rfl (tb.1 _ (List.mem_of_getElem? (i := 58) rfl))⟩, (fun x h => h)⟩
theorem fl_J27_19 : gh_FL RJ27 19 [(13, 2)] := by
  intro args s hts tb q hq
  simp only [List.mem_cons, List.not_mem_nil, or_false] at hq
  subst hq
  exact ⟨_, "java/util/TreeMap$PrivateEntryIterator", rfl, by decide, Or.inl (hts _ q1178), (fun x h => h)⟩
theorem fp_J27_19 : gh_FP RJ27 19 [(13, 2)] (.int) false := by
  refine ⟨fl_J27_19, fun q hq => ?_⟩
  simp only [List.mem_cons, List.not_mem_nil, or_false] at hq
  subst hq
  exact ⟨_, rfl, rfl, by decide +kernel, fun h => by cases h⟩
theorem fl_J27_22 : gh_FL RJ27 22 [(13, 1)] := by
  intro args s hts tb q hq
  simp only [List.mem_cons, List.not_mem_nil, or_false] at hq
  subst hq
  exact ⟨_, "java/util/TreeMap$PrivateEntryIterator", rfl, by decide, Or.inl (hts _ q1177), (fun x h => h)⟩
theorem fp_J27_22 : gh_FP RJ27 22 [(13, 1)] (.object "java/util/TreeMap$Entry") false := by
  refine ⟨fl_J27_22, fun q hq => ?_⟩
  simp only [List.mem_cons, List.not_mem_nil, or_false] at hq
  subst hq
  exact ⟨_, rfl, rfl, by decide +kernel, fun h => by cases h⟩
theorem fl_J27_26 : gh_FL RJ27 26 [(13, 0)] := by
  intro args s hts tb q hq
  simp only [List.mem_cons, List.not_mem_nil, or_false] at hq
  subst hq
  exact ⟨_, "java/util/TreeMap$PrivateEntryIterator", rfl, by decide, Or.inl (hts _ q1176), (fun x h => h)⟩
theorem fp_J27_26 : gh_FP RJ27 26 [(13, 0)] (.object "java/util/TreeMap$Entry") false := by
  refine ⟨fl_J27_26, fun q hq => ?_⟩
  simp only [List.mem_cons, List.not_mem_nil, or_false] at hq
  subst hq
  exact ⟨_, rfl, rfl, by decide +kernel, fun h => by cases h⟩
def rm_J27_init : Room := { frames := 2, cells := 0, slots := 0, locals := 80 }
def wp_J27_init (κ : Nat → Nat) (v0 : Nat) (v1 : Option Nat) (v2 : Option Nat) (Q : gh_H → Prop) (X : String → gh_H → Prop) (h : gh_H) : Prop := (gh_PV h (some v0) [(13, 3)] (va_rf v1) (fun h1 => (gh_GI h1 v1 [(11, 5)] (fun x2 => (gh_PV h1 (some v0) [(13, 2)] (.int x2) (fun h3 => (gh_PV h3 (some v0) [(13, 1)] (va_rf none) (fun h4 => (gh_PV h4 (some v0) [(13, 0)] (va_rf v2) (fun h5 => (Q h5)))))))))))
set_option maxHeartbeats 4000000 in
theorem met_J27_init (l : Launch) (D : gh_D) (v0 : Nat) (v1 : Option Nat) (v2 : Option Nat) (Q : gh_H → Prop) (X : String → gh_H → Prop) (h : gh_H) (sz : Nat) (hw : wp_J27_init D.2.2 v0 v1 v2 Q X h) (hst : l.stackTraces = false) : vx_Met l yJ27_init (ws_ yJ27_init cJ27_init 3 none) rm_J27_init (gh_Pc D h sz [.ref v0, va_rf v1, va_rf v2]) (gh_Qv Q D h sz) (gh_X X D h sz) 0 0 (gh_A h sz) := by
  refine vx_ofW (by decide) rfl (fun p e s m args below meth c s₁ B hml hex hP => ?_)
  obtain ⟨rfl, rfl, hK, hT, hE, G⟩ := gh_start hP
  have M : gh_M D p l s m _ meth c RJ27 cJ27_init 3 (gh_A h s.heap.size) := ⟨⟨B.exec, B.bytes, hml, findClass_of_methodNamed B.named, fun w hw => atoms_spec (ws := ws_ yJ27_init cJ27_init 3 none) B.pre w (List.mem_cons_of_mem _ hw)⟩, hK, hT, hE, B.notSynchronized, hst⟩
  have hr := B.returns
  have hname : meth.name = "<init>" := (name_of_methodNamed B.named B.method).1
  have hx := M.1.1
  have hb := M.1.2.1
  refine gh_enter (vs := [(1, .ref v0), (1, va_rf v1), (1, va_rf v2)]) (gh_w1 rfl (gh_w1 (gh_cat _) (gh_w1 (gh_cat _) gh_wn))) (Nat.le_of_ble_eq_true rfl) (fun ls hl => ?_)
  replace hl : gh_L ls 3 [(0, 1, va_rf (some v0)), (1, 1, va_rf v1), (2, 1, va_rf v2)] := hl
  unfold wp_J27_init at hw
  refine gh_aload_n hx hb dJ27_init_0 rfl (gh_at hl 0 rfl) ?_
  refine gh_aload_n hx hb dJ27_init_1 rfl (gh_at hl 1 rfl) ?_
  refine gh_putF M G hname hw fp_J27_1 (gh_narR _ _) (gh_fitR _ _) dJ27_init_2 (fun h1 H locs hw G => ?_)
  refine gh_aload_n hx hb dJ27_init_5 rfl (gh_at hl 0 rfl) ?_
  refine W.objInit M.1.1 M.1.2.1 M.1.2.2.2.1 (gh_Mts M _ q1175) (gh_Mts M _ q91) (gh_Mts M _ q92) rfl (hl.1.1.trans M.1.2.2.1.symm) rfl dJ27_init_6 (Nat.le_of_ble_eq_true rfl) (Nat.le_trans (Nat.add_le_add_right (Nat.add_le_add_left gh_r0 _) _) (Nat.le_of_ble_eq_true rfl)) ?_
  refine gh_aload_n hx hb dJ27_init_9 rfl (gh_at hl 0 rfl) ?_
  refine gh_aload_n hx hb dJ27_init_10 rfl (gh_at hl 1 rfl) ?_
  refine gh_getI M G hw fl_J27_13 dJ27_init_11 (fun x2 hw => ?_)
  refine gh_put M G hw fp_J27_19 rfl rfl dJ27_init_14 (fun h3 H locs hw G => ?_)
  refine gh_aload_n hx hb dJ27_init_17 rfl (gh_at hl 0 rfl) ?_
  refine gh_null hx hb dJ27_init_18 ?_
  refine gh_put M G hw fp_J27_22 (gh_narR _ _) (gh_fitR _ _) dJ27_init_19 (fun h4 H locs hw G => ?_)
  refine gh_aload_n hx hb dJ27_init_22 rfl (gh_at hl 0 rfl) ?_
  refine gh_aload_n hx hb dJ27_init_23 rfl (gh_at hl 2 rfl) ?_
  refine gh_put M G hw fp_J27_26 (gh_narR _ _) (gh_fitR _ _) dJ27_init_24 (fun h5 H locs hw G => ?_)
  exact gh_vret M G hr hw (by exact Nat.le_of_ble_eq_true rfl) (by exact Nat.le_of_ble_eq_true rfl) dJ27_init_27
/-! java/util/TreeMap$KeyIterator.<init> (Ljava/util/TreeMap;Ljava/util/TreeMap$Entry;)V -/
def rm_J28_init : Room := { frames := 3, cells := 0, slots := 0, locals := 102 }
def wp_J28_init (κ : Nat → Nat) (v0 : Nat) (v1 : Option Nat) (v2 : Option Nat) (Q : gh_H → Prop) (X : String → gh_H → Prop) (h : gh_H) : Prop := (wp_J27_init κ v0 v1 v2 (fun h1 => (Q h1)) X h)
set_option maxHeartbeats 4000000 in
theorem met_J28_init (l : Launch) (D : gh_D) (v0 : Nat) (v1 : Option Nat) (v2 : Option Nat) (Q : gh_H → Prop) (X : String → gh_H → Prop) (h : gh_H) (sz : Nat) (hw : wp_J28_init D.2.2 v0 v1 v2 Q X h) (hst : l.stackTraces = false) : vx_Met l yJ28_init (ws_ yJ28_init cJ28_init 3 none) rm_J28_init (gh_Pc D h sz [.ref v0, va_rf v1, va_rf v2]) (gh_Qv Q D h sz) (gh_X X D h sz) 0 0 (gh_A h sz) := by
  refine vx_ofW (by decide) rfl (fun p e s m args below meth c s₁ B hml hex hP => ?_)
  obtain ⟨rfl, rfl, hK, hT, hE, G⟩ := gh_start hP
  have M : gh_M D p l s m _ meth c RJ28 cJ28_init 3 (gh_A h s.heap.size) := ⟨⟨B.exec, B.bytes, hml, findClass_of_methodNamed B.named, fun w hw => atoms_spec (ws := ws_ yJ28_init cJ28_init 3 none) B.pre w (List.mem_cons_of_mem _ hw)⟩, hK, hT, hE, B.notSynchronized, hst⟩
  have hr := B.returns
  have hname : meth.name = "<init>" := (name_of_methodNamed B.named B.method).1
  have hx := M.1.1
  have hb := M.1.2.1
  refine gh_enter (vs := [(1, .ref v0), (1, va_rf v1), (1, va_rf v2)]) (gh_w1 rfl (gh_w1 (gh_cat _) (gh_w1 (gh_cat _) gh_wn))) (Nat.le_of_ble_eq_true rfl) (fun ls hl => ?_)
  replace hl : gh_L ls 3 [(0, 1, va_rf (some v0)), (1, 1, va_rf v1), (2, 1, va_rf v2)] := hl
  unfold wp_J28_init at hw
  refine gh_aload_n hx hb dJ28_init_0 rfl (gh_at hl 0 rfl) ?_
  refine gh_aload_n hx hb dJ28_init_1 rfl (gh_at hl 1 rfl) ?_
  refine gh_aload_n hx hb dJ28_init_2 rfl (gh_at hl 2 rfl) ?_
  refine gh_kv G (vx_runI M.1 (met_J27_init l D _ _ _ _ _ _ _ hw M.2.2.2.2.2) (cwI 2 (gh_Mts M) (lw_meth q1174) rfl rfl rfl (gh_Mts M _ q79) (gh_Mts M _ q1172) (gh_Mts M _ q1173) rfl ⟨by decide, by decide, rfl⟩ ⟨Nat.le_of_ble_eq_true rfl, Nat.le_of_ble_eq_true rfl⟩) (gh_pre M G (As := .ref v0 :: [va_rf v1, va_rf v2])) rfl rfl hl.1.1 rfl (lv_room (Nat.le_of_ble_eq_true rfl)) dJ28_init_3 ⟨(Nat.le_of_ble_eq_true rfl), (Nat.le_of_ble_eq_true rfl)⟩) (gh_out M hex (by exact Nat.le_of_ble_eq_true rfl) (by exact Nat.le_of_ble_eq_true rfl)) (fun h1 H locs hw G => ?_)
  exact gh_vret M G hr hw (by exact Nat.le_of_ble_eq_true rfl) (by exact Nat.le_of_ble_eq_true rfl) dJ28_init_6
/-! java/util/TreeMap.keyIterator ()Ljava/util/Iterator; -/
theorem nd_J28 : ∀ j, j < 4 → defaultValue (tyJ28 j) = vp_V [va_rf none, va_rf none, .int 0, va_rf none] j := by
  intro j hj
  rcases (show j = 0 ∨ j = 1 ∨ j = 2 ∨ j = 3 by omega) with rfl | rfl | rfl | rfl <;> rfl
def rm_J6_keyIterator : Room := { frames := 4, cells := 1, slots := 4, locals := 124 }
def wp_J6_keyIterator (κ : Nat → Nat) (v0 : Nat) (Q : Option Nat → gh_H → Prop) (X : String → gh_H → Prop) (h : gh_H) : Prop := (gh_NO h 13 [va_rf none, va_rf none, .int 0, va_rf none] (fun q1 h2 => (gh_RC h2 (some v0) 11 (fun _ => (wp_J6_getFirstEntry κ v0 (fun r4 h5 => (wp_J28_init κ q1 (some v0) r4 (fun h6 => (Q (some q1) h6)) X h5)) X h2)))))
set_option maxHeartbeats 4000000 in
theorem met_J6_keyIterator (l : Launch) (D : gh_D) (v0 : Nat) (Q : Option Nat → gh_H → Prop) (X : String → gh_H → Prop) (h : gh_H) (sz : Nat) (hw : wp_J6_keyIterator D.2.2 v0 Q X h) (hst : l.stackTraces = false) : vx_Met l yJ6_keyIterator (ws_ yJ6_keyIterator cJ6_keyIterator 1 (some (.object "java/util/Iterator"))) rm_J6_keyIterator (gh_Pc D h sz [.ref v0]) (gh_Qq Q D h sz) (gh_X X D h sz) 1 4 (gh_A h sz) := by
  refine vx_ofW (by decide) rfl (fun p e s m args below meth c s₁ B hml hex hP => ?_)
  obtain ⟨rfl, rfl, hK, hT, hE, G⟩ := gh_start hP
  have M : gh_M D p l s m _ meth c RJ6 cJ6_keyIterator 1 (gh_A h s.heap.size) := ⟨⟨B.exec, B.bytes, hml, findClass_of_methodNamed B.named, fun w hw => atoms_spec (ws := ws_ yJ6_keyIterator cJ6_keyIterator 1 (some (.object "java/util/Iterator"))) B.pre w (List.mem_cons_of_mem _ hw)⟩, hK, hT, hE, B.notSynchronized, hst⟩
  have hr := B.returns
  have hx := M.1.1
  have hb := M.1.2.1
  refine gh_enter (vs := [(1, .ref v0)]) (gh_w1 rfl gh_wn) (Nat.le_of_ble_eq_true rfl) (fun ls hl => ?_)
  replace hl : gh_L ls 1 [(0, 1, va_rf (some v0))] := hl
  unfold wp_J6_keyIterator at hw
  refine gh_new (N := 4) (r := (RJ28, TJ28, 4)) (ci := 13) (fs := [va_rf none, va_rf none, .int 0, va_rf none]) M G hw tyJ28 tyJ28_ok q1163 q1164 q80 rfl rfl nd_J28 (Nat.le_of_ble_eq_true rfl) (Nat.le_of_ble_eq_true rfl) dJ6_keyIterator_0 (fun q1 h2 H hw G => ?_)
  refine lv_dup hx hb dJ6_keyIterator_3 (gh_cat _) ?_
  refine gh_aload_n hx hb dJ6_keyIterator_4 rfl (gh_at hl 0 rfl) ?_
  refine gh_aload_n hx hb dJ6_keyIterator_5 rfl (gh_at hl 0 rfl) ?_
  obtain ⟨a3, lba3, fsa3, hra3, haa3, hw⟩ := hw
  rw [← Option.some.inj hra3] at haa3
  refine gh_kq G (vx_runV M.1 (met_J6_getFirstEntry l D _ _ _ _ _ hw M.2.2.2.2.2) (cwV 0 (gh_Mts M) (lw_V q1165 q1166 q1167 q48 q1168) rfl rfl rfl ⟨rfl, by decide, by decide, rfl⟩ ⟨Nat.le_of_ble_eq_true rfl, Nat.le_of_ble_eq_true rfl⟩) (gh_preV (As := []) M G (gh_rec M G haa3 rfl)) rfl rfl hl.1.1 rfl (lv_room (Nat.le_trans (gh_r1 (gh_cat _) (gh_r1 (gh_cat _) (gh_r1 (gh_cat _) gh_r0))) (Nat.le_of_ble_eq_true rfl : 3 ≤ 8))) dJ6_keyIterator_6 ⟨(Nat.le_of_ble_eq_true rfl), (Nat.le_of_ble_eq_true rfl)⟩) (gh_out M hex (by exact Nat.le_of_ble_eq_true rfl) (by exact Nat.le_of_ble_eq_true rfl)) (fun r4 h5 H locs hw G => ?_)
  refine gh_kv G (vx_runI M.1 (met_J28_init l D _ _ _ _ _ _ _ hw M.2.2.2.2.2) (cwI 2 (gh_Mts M) (lw_meth q1171) rfl rfl rfl (gh_Mts M _ q80) (gh_Mts M _ q1169) (gh_Mts M _ q1170) rfl ⟨by decide, by decide, rfl⟩ ⟨Nat.le_of_ble_eq_true rfl, Nat.le_of_ble_eq_true rfl⟩) (gh_pre M G (As := .ref q1 :: [va_rf (some v0), va_rf r4])) rfl rfl hl.1.1 rfl (lv_room (Nat.le_trans (gh_r1 (gh_cat _) gh_r0) (Nat.le_of_ble_eq_true rfl : 1 ≤ 8))) dJ6_keyIterator_9 ⟨(Nat.le_of_ble_eq_true rfl), (Nat.le_of_ble_eq_true rfl)⟩) (gh_out M hex (by exact Nat.le_of_ble_eq_true rfl) (by exact Nat.le_of_ble_eq_true rfl)) (fun h6 H locs hw G => ?_)
  exact gh_aret M G hr (Or.inl ⟨_, rfl⟩) hw (by exact Nat.le_of_ble_eq_true rfl) (by exact Nat.le_of_ble_eq_true rfl) dJ6_keyIterator_12
/-! java/util/TreeMap$KeySet.iterator ()Ljava/util/Iterator; -/
def rm_J29_iterator : Room := { frames := 5, cells := 1, slots := 4, locals := 144 }
def wp_J29_iterator (κ : Nat → Nat) (v0 : Nat) (Q : Option Nat → gh_H → Prop) (X : String → gh_H → Prop) (h : gh_H) : Prop := (gh_GR h (some v0) [(14, 0)] (fun x1 => (gh_IS h x1 [11] [] (fun x2 => ((x2 = 0 → (gh_GR h (some v0) [(14, 0)] (fun x3 => (gh_CK h x3 [] False)))) ∧ (¬ x2 = 0 → (gh_GR h (some v0) [(14, 0)] (fun x4 => (gh_CK h x4 [11] (gh_RC h x4 11 (fun a5 => (wp_J6_keyIterator κ a5 (fun r6 h7 => (Q r6 h7)) X h))))))))))))
set_option maxHeartbeats 4000000 in
theorem met_J29_iterator (l : Launch) (D : gh_D) (v0 : Nat) (Q : Option Nat → gh_H → Prop) (X : String → gh_H → Prop) (h : gh_H) (sz : Nat) (hw : wp_J29_iterator D.2.2 v0 Q X h) (hst : l.stackTraces = false) : vx_Met l yJ29_iterator (ws_ yJ29_iterator cJ29_iterator 1 (some (.object "java/util/Iterator"))) rm_J29_iterator (gh_Pc D h sz [.ref v0]) (gh_Qq Q D h sz) (gh_X X D h sz) 1 4 (gh_A h sz) := by
  refine vx_ofW (by decide) rfl (fun p e s m args below meth c s₁ B hml hex hP => ?_)
  obtain ⟨rfl, rfl, hK, hT, hE, G⟩ := gh_start hP
  have M : gh_M D p l s m _ meth c RJ29 cJ29_iterator 1 (gh_A h s.heap.size) := ⟨⟨B.exec, B.bytes, hml, findClass_of_methodNamed B.named, fun w hw => atoms_spec (ws := ws_ yJ29_iterator cJ29_iterator 1 (some (.object "java/util/Iterator"))) B.pre w (List.mem_cons_of_mem _ hw)⟩, hK, hT, hE, B.notSynchronized, hst⟩
  have hr := B.returns
  have hx := M.1.1
  have hb := M.1.2.1
  refine gh_enter (vs := [(1, .ref v0)]) (gh_w1 rfl gh_wn) (Nat.le_of_ble_eq_true rfl) (fun ls hl => ?_)
  replace hl : gh_L ls 1 [(0, 1, va_rf (some v0))] := hl
  unfold wp_J29_iterator at hw
  refine gh_aload_n hx hb dJ29_iterator_0 rfl (gh_at hl 0 rfl) ?_
  refine gh_getR M G hw fl_J29_7 dJ29_iterator_1 (fun x1 hw => ?_)
  refine gh_inst (yes := [11]) (no := []) M G hw q1158 (List.forall_mem_cons.mpr ⟨⟨_, rfl, Or.inl ⟨rfl, rfl⟩⟩, fun _ h => absurd h List.not_mem_nil⟩) (fun _ h => absurd h List.not_mem_nil) dJ29_iterator_4 (fun x2 hw => ?_)
  refine lv_if_eq (tgt := 21) hx hb dJ29_iterator_7 (by decide) (fun hc => ?_) (fun hc => ?_)
  · replace hw := hw.1 hc
    refine gh_aload_n hx hb dJ29_iterator_21 rfl (gh_at hl 0 rfl) ?_
    refine gh_getR M G hw fl_J29_7 dJ29_iterator_22 (fun x3 hw => ?_)
    refine gh_cast (cis := []) M G hw q1189 (fun _ h => absurd h List.not_mem_nil) dJ29_iterator_25 (fun hw => ?_)
    exact hw.elim
  · replace hw := hw.2 hc
    refine gh_aload_n hx hb dJ29_iterator_10 rfl (gh_at hl 0 rfl) ?_
    refine gh_getR M G hw fl_J29_7 dJ29_iterator_11 (fun x4 hw => ?_)
    refine gh_cast (cis := [11]) M G hw q1158 (List.forall_mem_cons.mpr ⟨⟨_, rfl, Or.inl ⟨rfl, rfl⟩⟩, fun _ h => absurd h List.not_mem_nil⟩) dJ29_iterator_14 (fun hw => ?_)
    obtain ⟨a5, lba5, fsa5, rfl, haa5, hw⟩ := hw
    refine gh_kq G (vx_runV M.1 (met_J6_keyIterator l D _ _ _ _ _ hw M.2.2.2.2.2) (cwV 0 (gh_Mts M) (lw_V q1159 q1160 q1161 q48 q1162) rfl rfl rfl ⟨rfl, by decide, by decide, rfl⟩ ⟨Nat.le_of_ble_eq_true rfl, Nat.le_of_ble_eq_true rfl⟩) (gh_preV (As := []) M G (gh_rec M G haa5 rfl)) rfl rfl hl.1.1 rfl (lv_room (Nat.le_of_ble_eq_true rfl)) dJ29_iterator_17 ⟨(Nat.le_of_ble_eq_true rfl), (Nat.le_of_ble_eq_true rfl)⟩) (gh_out M hex (by exact Nat.le_of_ble_eq_true rfl) (by exact Nat.le_of_ble_eq_true rfl)) (fun r6 h7 H locs hw G => ?_)
    exact gh_aret M G hr (Or.inl ⟨_, rfl⟩) hw (by exact Nat.le_of_ble_eq_true rfl) (by exact Nat.le_of_ble_eq_true rfl) dJ29_iterator_20
/-! java/util/TreeSet.iterator ()Ljava/util/Iterator; -/
def rm_J4_iterator : Room := { frames := 6, cells := 2, slots := 5, locals := 164 }
def wp_J4_iterator (κ : Nat → Nat) (v0 : Nat) (Q : Option Nat → gh_H → Prop) (X : String → gh_H → Prop) (h : gh_H) : Prop := (gh_GR h (some v0) [(10, 0)] (fun x1 => (gh_RC h x1 11 (fun a2 => (wp_J6_navigableKeySet κ a2 (fun r3 h4 => (gh_RC h4 r3 14 (fun a5 => (wp_J29_iterator κ a5 (fun r6 h7 => (Q r6 h7)) X h4)))) X h)))))
set_option maxHeartbeats 4000000 in
theorem met_J4_iterator (l : Launch) (D : gh_D) (v0 : Nat) (Q : Option Nat → gh_H → Prop) (X : String → gh_H → Prop) (h : gh_H) (sz : Nat) (hw : wp_J4_iterator D.2.2 v0 Q X h) (hst : l.stackTraces = false) : vx_Met l yJ4_iterator (ws_ yJ4_iterator cJ4_iterator 1 (some (.object "java/util/Iterator"))) rm_J4_iterator (gh_Pc D h sz [.ref v0]) (gh_Qq Q D h sz) (gh_X X D h sz) 2 5 (gh_A h sz) := by
  refine vx_ofW (by decide) rfl (fun p e s m args below meth c s₁ B hml hex hP => ?_)
  obtain ⟨rfl, rfl, hK, hT, hE, G⟩ := gh_start hP
  have M : gh_M D p l s m _ meth c RJ4 cJ4_iterator 1 (gh_A h s.heap.size) := ⟨⟨B.exec, B.bytes, hml, findClass_of_methodNamed B.named, fun w hw => atoms_spec (ws := ws_ yJ4_iterator cJ4_iterator 1 (some (.object "java/util/Iterator"))) B.pre w (List.mem_cons_of_mem _ hw)⟩, hK, hT, hE, B.notSynchronized, hst⟩
  have hr := B.returns
  have hx := M.1.1
  have hb := M.1.2.1
  refine gh_enter (vs := [(1, .ref v0)]) (gh_w1 rfl gh_wn) (Nat.le_of_ble_eq_true rfl) (fun ls hl => ?_)
  replace hl : gh_L ls 1 [(0, 1, va_rf (some v0))] := hl
  unfold wp_J4_iterator at hw
  refine gh_aload_n hx hb dJ4_iterator_0 rfl (gh_at hl 0 rfl) ?_
  refine gh_getR M G hw fl_J4_7 dJ4_iterator_1 (fun x1 hw => ?_)
  obtain ⟨a2, lba2, fsa2, rfl, haa2, hw⟩ := hw
  refine gh_kFq G (vx_runF (C := "java/util/TreeMap") (M.2.1.1.1 11 _ rfl).2 M.1 (met_J6_navigableKeySet l D _ _ _ _ _ hw M.2.2.2.2.2) (va_cwF 0 (gh_Mts M) (gh_gF q1199 q1202 q1204 q48 q1206) rfl rfl rfl (M.2.2.1.2.1 _ (List.mem_of_getElem? (i := 28) rfl)) ⟨by decide, by decide, rfl⟩ ⟨Nat.le_of_ble_eq_true rfl, Nat.le_of_ble_eq_true rfl⟩) (gh_preV (As := []) M G (gh_rec M G haa2 rfl)) rfl rfl hl.1.1 rfl (lv_room (Nat.le_of_ble_eq_true rfl)) dJ4_iterator_4 ⟨(Nat.le_of_ble_eq_true rfl), (Nat.le_of_ble_eq_true rfl)⟩) (gh_out M hex (by exact Nat.le_of_ble_eq_true rfl) (by exact Nat.le_of_ble_eq_true rfl)) (fun r3 h4 H locs hw G => ?_)
  obtain ⟨a5, lba5, fsa5, rfl, haa5, hw⟩ := hw
  refine gh_kFq G (vx_runF (C := "java/util/TreeMap$KeySet") (M.2.1.1.1 14 _ rfl).2 M.1 (met_J29_iterator l D _ _ _ _ _ hw M.2.2.2.2.2) (va_cwF 0 (gh_Mts M) (gh_gF q1218 q1222 q1155 q81 q1157) rfl rfl rfl (M.2.2.1.2.1 _ (List.mem_of_getElem? (i := 20) rfl)) ⟨by decide, by decide, rfl⟩ ⟨Nat.le_of_ble_eq_true rfl, Nat.le_of_ble_eq_true rfl⟩) (gh_preV (As := []) M G (gh_rec M G haa5 rfl)) rfl rfl hl.1.1 rfl (lv_room (Nat.le_of_ble_eq_true rfl)) dJ4_iterator_9 ⟨(Nat.le_of_ble_eq_true rfl), (Nat.le_of_ble_eq_true rfl)⟩) (gh_out M hex (by exact Nat.le_of_ble_eq_true rfl) (by exact Nat.le_of_ble_eq_true rfl)) (fun r6 h7 H locs hw G => ?_)
  exact gh_aret M G hr (Or.inl ⟨_, rfl⟩) hw (by exact Nat.le_of_ble_eq_true rfl) (by exact Nat.le_of_ble_eq_true rfl) dJ4_iterator_14
/-! java/util/TreeMap$PrivateEntryIterator.hasNext ()Z -/
def rm_J27_hasNext : Room := { frames := 1, cells := 0, slots := 0, locals := 40 }
def wb_J27_hasNext_12 (κ : Nat → Nat)  (Q : Int32 → gh_H → Prop) (X : String → gh_H → Prop) (t0 : Int32) (h : gh_H) : Prop := (narrow .boolean (.int t0) = .int t0 ∧ Q t0 h)
def wp_J27_hasNext (κ : Nat → Nat) (v0 : Nat) (Q : Int32 → gh_H → Prop) (X : String → gh_H → Prop) (h : gh_H) : Prop := (gh_GR h (some v0) [(13, 0)] (fun x1 => ((x1 = none → wb_J27_hasNext_12 κ Q X (0 : Int32) h) ∧ (¬ x1 = none → wb_J27_hasNext_12 κ Q X (1 : Int32) h))))
set_option maxHeartbeats 4000000 in
theorem wk_J27_hasNext_12 {D : gh_D} {p : Program} {l : Launch} {e : Env} {s : State} {m : MethodId} {args : Array Value} {below : List Frame} {meth : Method} {c : Code} {h0 : gh_H} (M : gh_M D p l s m args meth c RJ27 cJ27_hasNext 1 (gh_A h0 s.heap.size)) (hr : meth.sig.returnType = (some .boolean)) (hex : ∀ x ∈ c.exceptionTable.toList, False)   {Q : Int32 → gh_H → Prop} {X : String → gh_H → Prop}   (t0 : Int32) (H : Heap) (locs : List Loc) (ls : Array Slot) (h : gh_H) (G : gh_Inv D h0 (gh_A h0 s.heap.size) s.heap s H locs h) (hl : gh_L ls 1 []) (hw : wb_J27_hasNext_12 D.2.2 Q X t0 h) : W p l e rm_J27_hasNext s m args below meth c H locs 0 0 (vx_MQ below (gh_Qi Q D h0 s.heap.size) (gh_X X D h0 s.heap.size) args s 0 0 (gh_A h0 s.heap.size)) (F0 m 12 ls [.int t0]) := by
  unfold wb_J27_hasNext_12 at hw
  have hx := M.1.1
  have hb := M.1.2.1
  exact gh_iret M G hr hw.1 hw.2 (by exact Nat.le_of_ble_eq_true rfl) (by exact Nat.le_of_ble_eq_true rfl) dJ27_hasNext_12
set_option maxHeartbeats 4000000 in
theorem met_J27_hasNext (l : Launch) (D : gh_D) (v0 : Nat) (Q : Int32 → gh_H → Prop) (X : String → gh_H → Prop) (h : gh_H) (sz : Nat) (hw : wp_J27_hasNext D.2.2 v0 Q X h) (hst : l.stackTraces = false) : vx_Met l yJ27_hasNext (ws_ yJ27_hasNext cJ27_hasNext 1 (some .boolean)) rm_J27_hasNext (gh_Pc D h sz [.ref v0]) (gh_Qi Q D h sz) (gh_X X D h sz) 0 0 (gh_A h sz) := by
  refine vx_ofW (by decide) rfl (fun p e s m args below meth c s₁ B hml hex hP => ?_)
  obtain ⟨rfl, rfl, hK, hT, hE, G⟩ := gh_start hP
  have M : gh_M D p l s m _ meth c RJ27 cJ27_hasNext 1 (gh_A h s.heap.size) := ⟨⟨B.exec, B.bytes, hml, findClass_of_methodNamed B.named, fun w hw => atoms_spec (ws := ws_ yJ27_hasNext cJ27_hasNext 1 (some .boolean)) B.pre w (List.mem_cons_of_mem _ hw)⟩, hK, hT, hE, B.notSynchronized, hst⟩
  have hr := B.returns
  have hx := M.1.1
  have hb := M.1.2.1
  refine gh_enter (vs := [(1, .ref v0)]) (gh_w1 rfl gh_wn) (Nat.le_of_ble_eq_true rfl) (fun ls hl => ?_)
  replace hl : gh_L ls 1 [(0, 1, va_rf (some v0))] := hl
  unfold wp_J27_hasNext at hw
  refine gh_aload_n hx hb dJ27_hasNext_0 rfl (gh_at hl 0 rfl) ?_
  refine gh_getR M G hw fl_J27_26 dJ27_hasNext_1 (fun x1 hw => ?_)
  refine gh_ifnull (tgt := 11) hx hb dJ27_hasNext_4 (by decide) (fun hc => ?_) (fun hc => ?_)
  · replace hw := hw.1 hc
    refine lv_iconst (v := (0 : Int32)) hx hb dJ27_hasNext_11 (by decide) ?_
    exact wk_J27_hasNext_12 M hr hex  (0 : Int32) _ _ _ _ G (gh_sub hl [] rfl) hw
  · replace hw := hw.2 hc
    refine lv_iconst (v := (1 : Int32)) hx hb dJ27_hasNext_7 (by decide) ?_
    refine lv_goto (tgt := 12) hx hb dJ27_hasNext_8 (by decide) ?_
    exact wk_J27_hasNext_12 M hr hex  (1 : Int32) _ _ _ _ G (gh_sub hl [] rfl) hw
/-! java/util/TreeMap.successor (Ljava/util/TreeMap$Entry;)Ljava/util/TreeMap$Entry; -/
def rm_J6_successor : Room := { frames := 1, cells := 0, slots := 0, locals := 40 }
def wb_J6_successor_64 (κ : Nat → Nat)  (Q : Option Nat → gh_H → Prop) (X : String → gh_H → Prop) (v1 : Option Nat) (h : gh_H) : Prop := (Q v1 h)
def wb_J6_successor_42 (κ : Nat → Nat) (K42 : Option Nat → Option Nat → gh_H → Prop) (Q : Option Nat → gh_H → Prop) (X : String → gh_H → Prop) (v1 : Option Nat) (v2 : Option Nat) (h : gh_H) : Prop := ((v1 = none → wb_J6_successor_64 κ Q X v1 h) ∧ (¬ v1 = none → (gh_GR h v1 [(12, 3)] (fun x1 => ((v2 = x1 → (gh_GR h v1 [(12, 4)] (fun x2 => K42 x2 v1 h))) ∧ (¬ v2 = x1 → wb_J6_successor_64 κ Q X v1 h))))))
def wl_J6_successor_42 (κ : Nat → Nat)  (Q : Option Nat → gh_H → Prop) (X : String → gh_H → Prop) : Nat → Option Nat → Option Nat → gh_H → Prop
  | 0 => fun _ _ _ => False
  | n + 1 => fun v1 v2 h => wb_J6_successor_42 κ (wl_J6_successor_42 κ Q X n) Q X v1 v2 h
def wb_J6_successor_18 (κ : Nat → Nat) (K18 : Option Nat → gh_H → Prop) (Q : Option Nat → gh_H → Prop) (X : String → gh_H → Prop) (v1 : Option Nat) (h : gh_H) : Prop := (gh_GR h v1 [(12, 2)] (fun x1 => ((x1 = none → (Q v1 h)) ∧ (¬ x1 = none → (gh_GR h v1 [(12, 2)] (fun x2 => K18 x2 h))))))
def wl_J6_successor_18 (κ : Nat → Nat)  (Q : Option Nat → gh_H → Prop) (X : String → gh_H → Prop) : Nat → Option Nat → gh_H → Prop
  | 0 => fun _ _ => False
  | n + 1 => fun v1 h => wb_J6_successor_18 κ (wl_J6_successor_18 κ Q X n) Q X v1 h
def wp_J6_successor (κ : Nat → Nat) (v0 : Option Nat) (Q : Option Nat → gh_H → Prop) (X : String → gh_H → Prop) (h : gh_H) : Prop := ((v0 = none → (Q none h)) ∧ (¬ v0 = none → (gh_GR h v0 [(12, 3)] (fun x1 => ((x1 = none → (gh_GR h v0 [(12, 4)] (fun x2 => (∃ n : Nat, wl_J6_successor_42 κ Q X n x2 v0 h)))) ∧ (¬ x1 = none → (gh_GR h v0 [(12, 3)] (fun x3 => (∃ n : Nat, wl_J6_successor_18 κ Q X n x3 h)))))))))
set_option maxHeartbeats 4000000 in
theorem wk_J6_successor_64 {D : gh_D} {p : Program} {l : Launch} {e : Env} {s : State} {m : MethodId} {args : Array Value} {below : List Frame} {meth : Method} {c : Code} {h0 : gh_H} (M : gh_M D p l s m args meth c RJ6 cJ6_successor 3 (gh_A h0 s.heap.size)) (hr : meth.sig.returnType = (some (.object "java/util/TreeMap$Entry"))) (hex : ∀ x ∈ c.exceptionTable.toList, False)   {Q : Option Nat → gh_H → Prop} {X : String → gh_H → Prop}   (v1 : Option Nat) (H : Heap) (locs : List Loc) (ls : Array Slot) (h : gh_H) (G : gh_Inv D h0 (gh_A h0 s.heap.size) s.heap s H locs h) (hl : gh_L ls 3 [(1, 1, va_rf v1)]) (hw : wb_J6_successor_64 D.2.2 Q X v1 h) : W p l e rm_J6_successor s m args below meth c H locs 0 0 (vx_MQ below (gh_Qq Q D h0 s.heap.size) (gh_X X D h0 s.heap.size) args s 0 0 (gh_A h0 s.heap.size)) (F0 m 64 ls []) := by
  unfold wb_J6_successor_64 at hw
  have hx := M.1.1
  have hb := M.1.2.1
  refine gh_aload_n hx hb dJ6_successor_64 rfl (gh_at hl 0 rfl) ?_
  exact gh_aret M G hr (Or.inl ⟨_, rfl⟩) hw (by exact Nat.le_of_ble_eq_true rfl) (by exact Nat.le_of_ble_eq_true rfl) dJ6_successor_65
set_option maxHeartbeats 4000000 in
theorem wk1_J6_successor_42 {D : gh_D} {p : Program} {l : Launch} {e : Env} {s : State} {m : MethodId} {args : Array Value} {below : List Frame} {meth : Method} {c : Code} {h0 : gh_H} (M : gh_M D p l s m args meth c RJ6 cJ6_successor 3 (gh_A h0 s.heap.size)) (hr : meth.sig.returnType = (some (.object "java/util/TreeMap$Entry"))) (hex : ∀ x ∈ c.exceptionTable.toList, False) {K42 : Option Nat → Option Nat → gh_H → Prop}  {Q : Option Nat → gh_H → Prop} {X : String → gh_H → Prop} (k42 : ∀ (v1 : Option Nat) (v2 : Option Nat) (H : Heap) (locs : List Loc) (ls : Array Slot) (h : gh_H) (_ : gh_Inv D h0 (gh_A h0 s.heap.size) s.heap s H locs h) (_ : gh_L ls 3 [(1, 1, va_rf v1), (2, 1, va_rf v2)]) (_ : K42 v1 v2 h), W p l e rm_J6_successor s m args below meth c H locs 0 0 (vx_MQ below (gh_Qq Q D h0 s.heap.size) (gh_X X D h0 s.heap.size) args s 0 0 (gh_A h0 s.heap.size)) (F0 m 42 ls []))  (v1 : Option Nat) (v2 : Option Nat) (H : Heap) (locs : List Loc) (ls : Array Slot) (h : gh_H) (G : gh_Inv D h0 (gh_A h0 s.heap.size) s.heap s H locs h) (hl : gh_L ls 3 [(1, 1, va_rf v1), (2, 1, va_rf v2)]) (hw : wb_J6_successor_42 D.2.2 K42 Q X v1 v2 h) : W p l e rm_J6_successor s m args below meth c H locs 0 0 (vx_MQ below (gh_Qq Q D h0 s.heap.size) (gh_X X D h0 s.heap.size) args s 0 0 (gh_A h0 s.heap.size)) (F0 m 42 ls []) := by
  unfold wb_J6_successor_42 at hw
  have hx := M.1.1
  have hb := M.1.2.1
  refine gh_aload_n hx hb dJ6_successor_42 rfl (gh_at hl 0 rfl) ?_
  refine gh_ifnull (tgt := 64) hx hb dJ6_successor_43 (by decide) (fun hc => ?_) (fun hc => ?_)
  · replace hw := hw.1 hc
    exact wk_J6_successor_64 M hr hex  v1 _ _ _ _ G (gh_sub hl [0] rfl) hw
  · replace hw := hw.2 hc
    refine gh_aload_n hx hb dJ6_successor_46 rfl (gh_at hl 1 rfl) ?_
    refine gh_aload_n hx hb dJ6_successor_47 rfl (gh_at hl 0 rfl) ?_
    refine gh_getR M G hw fl_J6_114 dJ6_successor_48 (fun x1 hw => ?_)
    refine lv_acmp_ne (rx := v2) (ry := x1) (tgt := 64) hx hb dJ6_successor_51 (by decide) (fun hc => ?_) (fun hc => ?_)
    · replace hw := hw.2 hc
      exact wk_J6_successor_64 M hr hex  v1 _ _ _ _ G (gh_sub hl [0] rfl) hw
    · replace hw := hw.1 hc
      refine gh_aload_n hx hb dJ6_successor_54 rfl (gh_at hl 0 rfl) ?_
      refine gh_astore_n (lv' := [(2, 1, va_rf v1), (1, 1, va_rf v1)]) hx hb dJ6_successor_55 rfl hl (by decide) rfl (fun ls hl => ?_)
      refine gh_aload_n hx hb dJ6_successor_56 rfl (gh_at hl 1 rfl) ?_
      refine gh_getR M G hw fl_J6_124 dJ6_successor_57 (fun x2 hw => ?_)
      refine gh_astore_n (lv' := [(1, 1, va_rf x2), (2, 1, va_rf v1)]) hx hb dJ6_successor_60 rfl hl (by decide) rfl (fun ls hl => ?_)
      refine lv_goto (tgt := 42) hx hb dJ6_successor_61 (by decide) ?_
      exact k42 x2 v1 _ _ _ _ G (gh_sub hl [0, 1] rfl) hw
theorem wk_J6_successor_42 {D : gh_D} {p : Program} {l : Launch} {e : Env} {s : State} {m : MethodId} {args : Array Value} {below : List Frame} {meth : Method} {c : Code} {h0 : gh_H} (M : gh_M D p l s m args meth c RJ6 cJ6_successor 3 (gh_A h0 s.heap.size)) (hr : meth.sig.returnType = (some (.object "java/util/TreeMap$Entry"))) (hex : ∀ x ∈ c.exceptionTable.toList, False)   {Q : Option Nat → gh_H → Prop} {X : String → gh_H → Prop}   : ∀ (n : Nat) (v1 : Option Nat) (v2 : Option Nat) (H : Heap) (locs : List Loc) (ls : Array Slot) (h : gh_H) (_ : gh_Inv D h0 (gh_A h0 s.heap.size) s.heap s H locs h) (_ : gh_L ls 3 [(1, 1, va_rf v1), (2, 1, va_rf v2)]) (_ : wl_J6_successor_42 D.2.2 Q X n v1 v2 h), W p l e rm_J6_successor s m args below meth c H locs 0 0 (vx_MQ below (gh_Qq Q D h0 s.heap.size) (gh_X X D h0 s.heap.size) args s 0 0 (gh_A h0 s.heap.size)) (F0 m 42 ls []) := by
  intro fu
  induction fu with
  | zero => intro v1 v2 H locs ls h G hl hw; exact False.elim hw
  | succ n1 ih =>
    intro v1 v2 H locs ls h G hl hw
    exact wk1_J6_successor_42 M hr hex ih  v1 v2 _ _ _ _ G hl hw
set_option maxHeartbeats 4000000 in
theorem wk1_J6_successor_18 {D : gh_D} {p : Program} {l : Launch} {e : Env} {s : State} {m : MethodId} {args : Array Value} {below : List Frame} {meth : Method} {c : Code} {h0 : gh_H} (M : gh_M D p l s m args meth c RJ6 cJ6_successor 3 (gh_A h0 s.heap.size)) (hr : meth.sig.returnType = (some (.object "java/util/TreeMap$Entry"))) (hex : ∀ x ∈ c.exceptionTable.toList, False) {K18 : Option Nat → gh_H → Prop}  {Q : Option Nat → gh_H → Prop} {X : String → gh_H → Prop} (k18 : ∀ (v1 : Option Nat) (H : Heap) (locs : List Loc) (ls : Array Slot) (h : gh_H) (_ : gh_Inv D h0 (gh_A h0 s.heap.size) s.heap s H locs h) (_ : gh_L ls 3 [(1, 1, va_rf v1)]) (_ : K18 v1 h), W p l e rm_J6_successor s m args below meth c H locs 0 0 (vx_MQ below (gh_Qq Q D h0 s.heap.size) (gh_X X D h0 s.heap.size) args s 0 0 (gh_A h0 s.heap.size)) (F0 m 18 ls []))  (v1 : Option Nat) (H : Heap) (locs : List Loc) (ls : Array Slot) (h : gh_H) (G : gh_Inv D h0 (gh_A h0 s.heap.size) s.heap s H locs h) (hl : gh_L ls 3 [(1, 1, va_rf v1)]) (hw : wb_J6_successor_18 D.2.2 K18 Q X v1 h) : W p l e rm_J6_successor s m args below meth c H locs 0 0 (vx_MQ below (gh_Qq Q D h0 s.heap.size) (gh_X X D h0 s.heap.size) args s 0 0 (gh_A h0 s.heap.size)) (F0 m 18 ls []) := by
  unfold wb_J6_successor_18 at hw
  have hx := M.1.1
  have hb := M.1.2.1
  refine gh_aload_n hx hb dJ6_successor_18 rfl (gh_at hl 0 rfl) ?_
  refine gh_getR M G hw fl_J6_111 dJ6_successor_19 (fun x1 hw => ?_)
  refine gh_ifnull (tgt := 33) hx hb dJ6_successor_22 (by decide) (fun hc => ?_) (fun hc => ?_)
  · replace hw := hw.1 hc
    refine gh_aload_n hx hb dJ6_successor_33 rfl (gh_at hl 0 rfl) ?_
    exact gh_aret M G hr (Or.inl ⟨_, rfl⟩) hw (by exact Nat.le_of_ble_eq_true rfl) (by exact Nat.le_of_ble_eq_true rfl) dJ6_successor_34
  · replace hw := hw.2 hc
    refine gh_aload_n hx hb dJ6_successor_25 rfl (gh_at hl 0 rfl) ?_
    refine gh_getR M G hw fl_J6_111 dJ6_successor_26 (fun x2 hw => ?_)
    refine gh_astore_n (lv' := [(1, 1, va_rf x2)]) hx hb dJ6_successor_29 rfl hl (by decide) rfl (fun ls hl => ?_)
    refine lv_goto (tgt := 18) hx hb dJ6_successor_30 (by decide) ?_
    exact k18 x2 _ _ _ _ G (gh_sub hl [0] rfl) hw
theorem wk_J6_successor_18 {D : gh_D} {p : Program} {l : Launch} {e : Env} {s : State} {m : MethodId} {args : Array Value} {below : List Frame} {meth : Method} {c : Code} {h0 : gh_H} (M : gh_M D p l s m args meth c RJ6 cJ6_successor 3 (gh_A h0 s.heap.size)) (hr : meth.sig.returnType = (some (.object "java/util/TreeMap$Entry"))) (hex : ∀ x ∈ c.exceptionTable.toList, False)   {Q : Option Nat → gh_H → Prop} {X : String → gh_H → Prop}   : ∀ (n : Nat) (v1 : Option Nat) (H : Heap) (locs : List Loc) (ls : Array Slot) (h : gh_H) (_ : gh_Inv D h0 (gh_A h0 s.heap.size) s.heap s H locs h) (_ : gh_L ls 3 [(1, 1, va_rf v1)]) (_ : wl_J6_successor_18 D.2.2 Q X n v1 h), W p l e rm_J6_successor s m args below meth c H locs 0 0 (vx_MQ below (gh_Qq Q D h0 s.heap.size) (gh_X X D h0 s.heap.size) args s 0 0 (gh_A h0 s.heap.size)) (F0 m 18 ls []) := by
  intro fu
  induction fu with
  | zero => intro v1 H locs ls h G hl hw; exact False.elim hw
  | succ n1 ih =>
    intro v1 H locs ls h G hl hw
    exact wk1_J6_successor_18 M hr hex ih  v1 _ _ _ _ G hl hw
set_option maxHeartbeats 4000000 in
theorem met_J6_successor (l : Launch) (D : gh_D) (v0 : Option Nat) (Q : Option Nat → gh_H → Prop) (X : String → gh_H → Prop) (h : gh_H) (sz : Nat) (hw : wp_J6_successor D.2.2 v0 Q X h) (hst : l.stackTraces = false) : vx_Met l yJ6_successor (ws_ yJ6_successor cJ6_successor 3 (some (.object "java/util/TreeMap$Entry"))) rm_J6_successor (gh_Pc D h sz [va_rf v0]) (gh_Qq Q D h sz) (gh_X X D h sz) 0 0 (gh_A h sz) := by
  refine vx_ofW (by decide) rfl (fun p e s m args below meth c s₁ B hml hex hP => ?_)
  obtain ⟨rfl, rfl, hK, hT, hE, G⟩ := gh_start hP
  have M : gh_M D p l s m _ meth c RJ6 cJ6_successor 3 (gh_A h s.heap.size) := ⟨⟨B.exec, B.bytes, hml, findClass_of_methodNamed B.named, fun w hw => atoms_spec (ws := ws_ yJ6_successor cJ6_successor 3 (some (.object "java/util/TreeMap$Entry"))) B.pre w (List.mem_cons_of_mem _ hw)⟩, hK, hT, hE, B.notSynchronized, hst⟩
  have hr := B.returns
  have hx := M.1.1
  have hb := M.1.2.1
  refine gh_enter (vs := [(1, va_rf v0)]) (gh_w1 (gh_cat _) gh_wn) (Nat.le_of_ble_eq_true rfl) (fun ls hl => ?_)
  replace hl : gh_L ls 3 [(0, 1, va_rf v0)] := hl
  unfold wp_J6_successor at hw
  refine gh_aload_n hx hb dJ6_successor_0 rfl (gh_at hl 0 rfl) ?_
  refine gh_ifnonnull (tgt := 6) hx hb dJ6_successor_1 (by decide) (fun hc => ?_) (fun hc => ?_)
  · replace hw := hw.2 hc
    refine gh_aload_n hx hb dJ6_successor_6 rfl (gh_at hl 0 rfl) ?_
    refine gh_getR M G hw fl_J6_114 dJ6_successor_7 (fun x1 hw => ?_)
    refine gh_ifnull (tgt := 35) hx hb dJ6_successor_10 (by decide) (fun hc => ?_) (fun hc => ?_)
    · replace hw := hw.1 hc
      refine gh_aload_n hx hb dJ6_successor_35 rfl (gh_at hl 0 rfl) ?_
      refine gh_getR M G hw fl_J6_124 dJ6_successor_36 (fun x2 hw => ?_)
      refine gh_astore_n (lv' := [(1, 1, va_rf x2), (0, 1, va_rf v0)]) hx hb dJ6_successor_39 rfl hl (by decide) rfl (fun ls hl => ?_)
      refine gh_aload_n hx hb dJ6_successor_40 rfl (gh_at hl 1 rfl) ?_
      refine gh_astore_n (lv' := [(2, 1, va_rf v0), (1, 1, va_rf x2), (0, 1, va_rf v0)]) hx hb dJ6_successor_41 rfl hl (by decide) rfl (fun ls hl => ?_)
      obtain ⟨n, hw⟩ := hw
      exact wk_J6_successor_42 M hr hex  n x2 v0 _ _ _ _ G (gh_sub hl [1, 0] rfl) hw
    · replace hw := hw.2 hc
      refine gh_aload_n hx hb dJ6_successor_13 rfl (gh_at hl 0 rfl) ?_
      refine gh_getR M G hw fl_J6_114 dJ6_successor_14 (fun x3 hw => ?_)
      refine gh_astore_n (lv' := [(1, 1, va_rf x3), (0, 1, va_rf v0)]) hx hb dJ6_successor_17 rfl hl (by decide) rfl (fun ls hl => ?_)
      obtain ⟨n, hw⟩ := hw
      exact wk_J6_successor_18 M hr hex  n x3 _ _ _ _ G (gh_sub hl [0] rfl) hw
  · replace hw := hw.1 hc
    refine gh_null hx hb dJ6_successor_4 ?_
    exact gh_aret M G hr (Or.inl ⟨_, rfl⟩) hw (by exact Nat.le_of_ble_eq_true rfl) (by exact Nat.le_of_ble_eq_true rfl) dJ6_successor_5
/-! java/util/TreeMap$PrivateEntryIterator.nextEntry ()Ljava/util/TreeMap$Entry; -/
theorem at_J27_31 {args : Array Value} {s : State} (hts : ∀ w ∈ lw_all, w.before args s = true) (tb : gh_Tb s) : ∀ w ∈ (vx_at0 RJ27 31 "java/util/NoSuchElementException" ["java/lang/RuntimeException", "java/lang/Exception"]), w.before args s = true := by
  refine vx_hat (B := [Cond.declares ({ cls := "java/lang/RuntimeException", name := "<init>", desc := "()V" } : MethodName), Cond.declares ({ cls := "java/lang/Exception", name := "<init>", desc := "()V" } : MethodName), Cond.declares ({ cls := "java/lang/Throwable", name := "<init>", desc := "()V" } : MethodName), Cond.castable "java/util/NoSuchElementException" "java/util/NoSuchElementException"]) (fun w hw => hts w (lw_in _ [51, 291, 300, 309, 312, 314, 292, 293, 91, 92, 294, 299, 310, 327, 281, 328, 283, 329, 285, 295, 297, 287, 602, 603, 604, 319, 319, 320, 321, 322, 322, 323, 324, 292, 619, 593, 595, 308, 596, 597, 598, 599, 290, 289, 600] (by decide +kernel) (by decide +kernel) w hw)) (by decide +kernel) ?_
  exact vx_c (va_Nw.use rfl (tb.1 _ (List.mem_of_getElem? (i := 116) rfl))) (vx_c (va_Nw.use rfl (tb.1 _ (List.mem_of_getElem? (i := 114) rfl))) (vx_c (va_Nw.use rfl (tb.1 _ (List.mem_of_getElem? (i := 111) rfl))) (vx_c (va_Nw.use rfl (tb.1 _ (List.mem_of_getElem? (i := 46) rfl))) (vx_n))))
theorem at_J27_31_g : ∀ w ∈ Cond.classLink RJ27 29 "java/util/NoSuchElementException" :: Cond.initialized "java/util/NoSuchElementException" :: (vx_at0 RJ27 31 "java/util/NoSuchElementException" ["java/lang/RuntimeException", "java/lang/Exception"]), vx_ot w = true := by decide +kernel
def rm_J27_nextEntry : Room := { frames := 6, cells := 1, slots := 6, locals := 100 }
def wp_J27_nextEntry (κ : Nat → Nat) (v0 : Nat) (Q : Option Nat → gh_H → Prop) (X : String → gh_H → Prop) (h : gh_H) : Prop := (gh_GR h (some v0) [(13, 0)] (fun x1 => ((x1 = none → (X "java/util/NoSuchElementException" h)) ∧ (¬ x1 = none → (gh_GR h (some v0) [(13, 3)] (fun x2 => (gh_GI h x2 [(11, 5)] (fun x3 => (gh_GI h (some v0) [(13, 2)] (fun x4 => ((x3 = x4 → (wp_J6_successor κ x1 (fun r5 h6 => (gh_PV h6 (some v0) [(13, 0)] (va_rf r5) (fun h7 => (gh_PV h7 (some v0) [(13, 1)] (va_rf x1) (fun h8 => (Q x1 h8)))))) X h)) ∧ (¬ x3 = x4 → False))))))))))))
set_option maxHeartbeats 4000000 in
theorem met_J27_nextEntry (l : Launch) (D : gh_D) (v0 : Nat) (Q : Option Nat → gh_H → Prop) (X : String → gh_H → Prop) (h : gh_H) (sz : Nat) (hw : wp_J27_nextEntry D.2.2 v0 Q X h) (hst : l.stackTraces = false) : vx_Met l yJ27_nextEntry (ws_ yJ27_nextEntry cJ27_nextEntry 2 (some (.object "java/util/TreeMap$Entry"))) rm_J27_nextEntry (gh_Pc D h sz [.ref v0]) (gh_Qq Q D h sz) (gh_X X D h sz) 1 6 (gh_A h sz) := by
  refine vx_ofW (by decide) rfl (fun p e s m args below meth c s₁ B hml hex hP => ?_)
  obtain ⟨rfl, rfl, hK, hT, hE, G⟩ := gh_start hP
  have M : gh_M D p l s m _ meth c RJ27 cJ27_nextEntry 2 (gh_A h s.heap.size) := ⟨⟨B.exec, B.bytes, hml, findClass_of_methodNamed B.named, fun w hw => atoms_spec (ws := ws_ yJ27_nextEntry cJ27_nextEntry 2 (some (.object "java/util/TreeMap$Entry"))) B.pre w (List.mem_cons_of_mem _ hw)⟩, hK, hT, hE, B.notSynchronized, hst⟩
  have hr := B.returns
  have hx := M.1.1
  have hb := M.1.2.1
  refine gh_enter (vs := [(1, .ref v0)]) (gh_w1 rfl gh_wn) (Nat.le_of_ble_eq_true rfl) (fun ls hl => ?_)
  replace hl : gh_L ls 2 [(0, 1, va_rf (some v0))] := hl
  unfold wp_J27_nextEntry at hw
  refine gh_aload_n hx hb dJ27_nextEntry_0 rfl (gh_at hl 0 rfl) ?_
  refine gh_getR M G hw fl_J27_26 dJ27_nextEntry_1 (fun x1 hw => ?_)
  refine gh_astore_n (lv' := [(1, 1, va_rf x1), (0, 1, va_rf (some v0))]) hx hb dJ27_nextEntry_4 rfl hl (by decide) rfl (fun ls hl => ?_)
  refine gh_aload_n hx hb dJ27_nextEntry_5 rfl (gh_at hl 0 rfl) ?_
  refine gh_ifnonnull (tgt := 17) hx hb dJ27_nextEntry_6 (by decide) (fun hc => ?_) (fun hc => ?_)
  · replace hw := hw.2 hc
    refine gh_aload_n hx hb dJ27_nextEntry_17 rfl (gh_at hl 1 rfl) ?_
    refine gh_getR M G hw fl_J27_1 dJ27_nextEntry_18 (fun x2 hw => ?_)
    refine gh_getI M G hw fl_J27_13 dJ27_nextEntry_21 (fun x3 hw => ?_)
    refine gh_aload_n hx hb dJ27_nextEntry_24 rfl (gh_at hl 1 rfl) ?_
    refine gh_getI M G hw fl_J27_19 dJ27_nextEntry_25 (fun x4 hw => ?_)
    refine lv_icmp_eq (tgt := 39) hx hb dJ27_nextEntry_28 (by decide) (fun hc => ?_) (fun hc => ?_)
    · replace hw := hw.1 hc
      refine gh_aload_n hx hb dJ27_nextEntry_39 rfl (gh_at hl 1 rfl) ?_
      refine gh_aload_n hx hb dJ27_nextEntry_40 rfl (gh_at hl 0 rfl) ?_
      refine gh_kq G (vx_runS M.1 (met_J6_successor l D _ _ _ _ _ hw M.2.2.2.2.2) (va_cwS 1 (gh_Mts M) (lw_S q620 q621 q48 q622) rfl rfl rfl ⟨by decide, by decide, rfl⟩ ⟨Nat.le_of_ble_eq_true rfl, Nat.le_of_ble_eq_true rfl⟩) (gh_pre M G (As := [va_rf x1])) rfl rfl hl.1.1 rfl (lv_room (Nat.le_trans (gh_r1 (gh_cat _) gh_r0) (Nat.le_of_ble_eq_true rfl : 1 ≤ 8))) dJ27_nextEntry_41 ⟨(Nat.le_of_ble_eq_true rfl), (Nat.le_of_ble_eq_true rfl)⟩) (gh_out M hex (by exact Nat.le_of_ble_eq_true rfl) (by exact Nat.le_of_ble_eq_true rfl)) (fun r5 h6 H locs hw G => ?_)
      refine gh_put M G hw fp_J27_26 (gh_narR _ _) (gh_fitR _ _) dJ27_nextEntry_44 (fun h7 H locs hw G => ?_)
      refine gh_aload_n hx hb dJ27_nextEntry_47 rfl (gh_at hl 1 rfl) ?_
      refine gh_aload_n hx hb dJ27_nextEntry_48 rfl (gh_at hl 0 rfl) ?_
      refine gh_put M G hw fp_J27_22 (gh_narR _ _) (gh_fitR _ _) dJ27_nextEntry_49 (fun h8 H locs hw G => ?_)
      refine gh_aload_n hx hb dJ27_nextEntry_52 rfl (gh_at hl 0 rfl) ?_
      exact gh_aret M G hr (Or.inl ⟨_, rfl⟩) hw (by exact Nat.le_of_ble_eq_true rfl) (by exact Nat.le_of_ble_eq_true rfl) dJ27_nextEntry_53
    · replace hw := hw.2 hc
      exact hw.elim
  · replace hw := hw.1 hc
    exact gh_throw (names := ["java/lang/RuntimeException", "java/lang/Exception"]) M G hex hw (by decide +kernel) (by decide +kernel) q618 q67 (at_J27_31 (gh_Mts M) M.2.2.1) at_J27_31_g hl.1.1 dJ27_nextEntry_9 dJ27_nextEntry_12 dJ27_nextEntry_13 dJ27_nextEntry_16 (Nat.le_of_ble_eq_true rfl) (Nat.le_trans (Nat.add_le_add_right gh_r0 _) (Nat.le_of_ble_eq_true rfl)) (Nat.le_of_ble_eq_true rfl) (Nat.le_of_ble_eq_true rfl) (Nat.le_of_ble_eq_true rfl) (Nat.le_of_ble_eq_true rfl)
/-! java/util/TreeMap$KeyIterator.next ()Ljava/lang/Object; -/
theorem fl_J28_13 : gh_FL RJ28 13 [(12, 0)] := by
  intro args s hts tb q hq
  simp only [List.mem_cons, List.not_mem_nil, or_false] at hq
  subst hq
  exact ⟨_, "java/util/TreeMap$Entry", rfl, by decide, Or.inl (hts _ q1010), (fun x h => h)⟩
def rm_J28_next : Room := { frames := 7, cells := 1, slots := 6, locals := 121 }
def wp_J28_next (κ : Nat → Nat) (v0 : Nat) (Q : Option Nat → gh_H → Prop) (X : String → gh_H → Prop) (h : gh_H) : Prop := (gh_RC h (some v0) 13 (fun _ => (wp_J27_nextEntry κ v0 (fun r2 h3 => (gh_GR h3 r2 [(12, 0)] (fun x4 => (Q x4 h3)))) X h)))
set_option maxHeartbeats 4000000 in
theorem met_J28_next (l : Launch) (D : gh_D) (v0 : Nat) (Q : Option Nat → gh_H → Prop) (X : String → gh_H → Prop) (h : gh_H) (sz : Nat) (hw : wp_J28_next D.2.2 v0 Q X h) (hst : l.stackTraces = false) : vx_Met l yJ28_next (ws_ yJ28_next cJ28_next 1 (some (.object "java/lang/Object"))) rm_J28_next (gh_Pc D h sz [.ref v0]) (gh_Qq Q D h sz) (gh_X X D h sz) 1 6 (gh_A h sz) := by
  refine vx_ofW (by decide) rfl (fun p e s m args below meth c s₁ B hml hex hP => ?_)
  obtain ⟨rfl, rfl, hK, hT, hE, G⟩ := gh_start hP
  have M : gh_M D p l s m _ meth c RJ28 cJ28_next 1 (gh_A h s.heap.size) := ⟨⟨B.exec, B.bytes, hml, findClass_of_methodNamed B.named, fun w hw => atoms_spec (ws := ws_ yJ28_next cJ28_next 1 (some (.object "java/lang/Object"))) B.pre w (List.mem_cons_of_mem _ hw)⟩, hK, hT, hE, B.notSynchronized, hst⟩
  have hr := B.returns
  have hx := M.1.1
  have hb := M.1.2.1
  refine gh_enter (vs := [(1, .ref v0)]) (gh_w1 rfl gh_wn) (Nat.le_of_ble_eq_true rfl) (fun ls hl => ?_)
  replace hl : gh_L ls 1 [(0, 1, va_rf (some v0))] := hl
  unfold wp_J28_next at hw
  refine gh_aload_n hx hb dJ28_next_0 rfl (gh_at hl 0 rfl) ?_
  obtain ⟨a1, lba1, fsa1, hra1, haa1, hw⟩ := hw
  rw [← Option.some.inj hra1] at haa1
  refine gh_kq G (vx_runU (C := "java/util/TreeMap$KeyIterator") M.1 (met_J27_nextEntry l D _ _ _ _ _ hw M.2.2.2.2.2) (va_cwU 0 (gh_Mts M) (gh_gU q612 q613 q615 q616 q79 q617) rfl rfl rfl rfl ⟨by decide, by decide, rfl⟩ ⟨Nat.le_of_ble_eq_true rfl, Nat.le_of_ble_eq_true rfl⟩) (gh_preV (As := []) M G (gh_rec M G haa1 rfl)) rfl rfl hl.1.1 rfl (lv_room (Nat.le_of_ble_eq_true rfl)) dJ28_next_1 ⟨(Nat.le_of_ble_eq_true rfl), (Nat.le_of_ble_eq_true rfl)⟩) (gh_out M hex (by exact Nat.le_of_ble_eq_true rfl) (by exact Nat.le_of_ble_eq_true rfl)) (fun r2 h3 H locs hw G => ?_)
  refine gh_getR M G hw fl_J28_13 dJ28_next_4 (fun x4 hw => ?_)
  exact gh_aret M G hr (Or.inl ⟨_, rfl⟩) hw (by exact Nat.le_of_ble_eq_true rfl) (by exact Nat.le_of_ble_eq_true rfl) dJ28_next_7
/-! java/util/TreeMap.getEntry (Ljava/lang/Object;)Ljava/util/TreeMap$Entry; -/
def rm_J6_getEntry : Room := { frames := 4, cells := 0, slots := 0, locals := 103 }
def wb_J6_getEntry_72 (κ : Nat → Nat) (K28 : Option Nat → Option Nat → gh_H → Prop) (Q : Option Nat → gh_H → Prop) (X : String → gh_H → Prop) (v2 : Option Nat) (v3 : Option Nat) (h : gh_H) : Prop := K28 v2 v3 h
def wb_J6_getEntry_28 (κ : Nat → Nat) (K28 : Option Nat → Option Nat → gh_H → Prop) (Q : Option Nat → gh_H → Prop) (X : String → gh_H → Prop) (v2 : Option Nat) (v3 : Option Nat) (h : gh_H) : Prop := ((v3 = none → (Q none h)) ∧ (¬ v3 = none → (gh_GR h v3 [(12, 0)] (fun x1 => (gh_RC h v2 15 (fun a2 => (wp_J25_compareTo κ a2 x1 (fun r3 h4 => ((0 ≤ r3 → ((r3 ≤ 0 → (Q v3 h4)) ∧ (¬ r3 ≤ 0 → (gh_GR h4 v3 [(12, 3)] (fun x5 => wb_J6_getEntry_72 κ K28 Q X (some a2) x5 h4))))) ∧ (¬ 0 ≤ r3 → (gh_GR h4 v3 [(12, 2)] (fun x6 => wb_J6_getEntry_72 κ K28 Q X (some a2) x6 h4))))) X h)))))))
def wl_J6_getEntry_28 (κ : Nat → Nat)  (Q : Option Nat → gh_H → Prop) (X : String → gh_H → Prop) : Nat → Option Nat → Option Nat → gh_H → Prop
  | 0 => fun _ _ _ => False
  | n + 1 => fun v2 v3 h => wb_J6_getEntry_28 κ (wl_J6_getEntry_28 κ Q X n) Q X v2 v3 h
def wp_J6_getEntry (κ : Nat → Nat) (v0 : Nat) (v1 : Option Nat) (Q : Option Nat → gh_H → Prop) (X : String → gh_H → Prop) (h : gh_H) : Prop := (gh_GR h (some v0) [(11, 2)] (fun x1 => ((x1 = none → (wp_J17_requireNonNull κ v1 (fun r2 h3 => (gh_CK h3 v1 [15, 16, 17, 18] (gh_GR h3 (some v0) [(11, 3)] (fun x4 => (∃ n : Nat, wl_J6_getEntry_28 κ Q X n v1 x4 h3))))) X h)) ∧ (¬ x1 = none → False))))
set_option maxHeartbeats 4000000 in
theorem wk_J6_getEntry_72 {D : gh_D} {p : Program} {l : Launch} {e : Env} {s : State} {m : MethodId} {args : Array Value} {below : List Frame} {meth : Method} {c : Code} {h0 : gh_H} (M : gh_M D p l s m args meth c RJ6 cJ6_getEntry 5 (gh_A h0 s.heap.size)) (hr : meth.sig.returnType = (some (.object "java/util/TreeMap$Entry"))) (hex : ∀ x ∈ c.exceptionTable.toList, False) {K28 : Option Nat → Option Nat → gh_H → Prop}  {Q : Option Nat → gh_H → Prop} {X : String → gh_H → Prop} (k28 : ∀ (v2 : Option Nat) (v3 : Option Nat) (H : Heap) (locs : List Loc) (ls : Array Slot) (h : gh_H) (_ : gh_Inv D h0 (gh_A h0 s.heap.size) s.heap s H locs h) (_ : gh_L ls 5 [(2, 1, va_rf v2), (3, 1, va_rf v3)]) (_ : K28 v2 v3 h), W p l e rm_J6_getEntry s m args below meth c H locs 0 0 (vx_MQ below (gh_Qq Q D h0 s.heap.size) (gh_X X D h0 s.heap.size) args s 0 0 (gh_A h0 s.heap.size)) (F0 m 28 ls []))  (v2 : Option Nat) (v3 : Option Nat) (H : Heap) (locs : List Loc) (ls : Array Slot) (h : gh_H) (G : gh_Inv D h0 (gh_A h0 s.heap.size) s.heap s H locs h) (hl : gh_L ls 5 [(2, 1, va_rf v2), (3, 1, va_rf v3)]) (hw : wb_J6_getEntry_72 D.2.2 K28 Q X v2 v3 h) : W p l e rm_J6_getEntry s m args below meth c H locs 0 0 (vx_MQ below (gh_Qq Q D h0 s.heap.size) (gh_X X D h0 s.heap.size) args s 0 0 (gh_A h0 s.heap.size)) (F0 m 72 ls []) := by
  unfold wb_J6_getEntry_72 at hw
  have hx := M.1.1
  have hb := M.1.2.1
  refine lv_goto (tgt := 28) hx hb dJ6_getEntry_72 (by decide) ?_
  exact k28 v2 v3 _ _ _ _ G (gh_sub hl [0, 1] rfl) hw
set_option maxHeartbeats 4000000 in
theorem wk1_J6_getEntry_28 {D : gh_D} {p : Program} {l : Launch} {e : Env} {s : State} {m : MethodId} {args : Array Value} {below : List Frame} {meth : Method} {c : Code} {h0 : gh_H} (M : gh_M D p l s m args meth c RJ6 cJ6_getEntry 5 (gh_A h0 s.heap.size)) (hr : meth.sig.returnType = (some (.object "java/util/TreeMap$Entry"))) (hex : ∀ x ∈ c.exceptionTable.toList, False) {K28 : Option Nat → Option Nat → gh_H → Prop}  {Q : Option Nat → gh_H → Prop} {X : String → gh_H → Prop} (k28 : ∀ (v2 : Option Nat) (v3 : Option Nat) (H : Heap) (locs : List Loc) (ls : Array Slot) (h : gh_H) (_ : gh_Inv D h0 (gh_A h0 s.heap.size) s.heap s H locs h) (_ : gh_L ls 5 [(2, 1, va_rf v2), (3, 1, va_rf v3)]) (_ : K28 v2 v3 h), W p l e rm_J6_getEntry s m args below meth c H locs 0 0 (vx_MQ below (gh_Qq Q D h0 s.heap.size) (gh_X X D h0 s.heap.size) args s 0 0 (gh_A h0 s.heap.size)) (F0 m 28 ls []))  (v2 : Option Nat) (v3 : Option Nat) (H : Heap) (locs : List Loc) (ls : Array Slot) (h : gh_H) (G : gh_Inv D h0 (gh_A h0 s.heap.size) s.heap s H locs h) (hl : gh_L ls 5 [(2, 1, va_rf v2), (3, 1, va_rf v3)]) (hw : wb_J6_getEntry_28 D.2.2 K28 Q X v2 v3 h) : W p l e rm_J6_getEntry s m args below meth c H locs 0 0 (vx_MQ below (gh_Qq Q D h0 s.heap.size) (gh_X X D h0 s.heap.size) args s 0 0 (gh_A h0 s.heap.size)) (F0 m 28 ls []) := by
  unfold wb_J6_getEntry_28 at hw
  have hx := M.1.1
  have hb := M.1.2.1
  refine gh_aload_n hx hb dJ6_getEntry_28 rfl (gh_at hl 1 rfl) ?_
  refine gh_ifnull (tgt := 75) hx hb dJ6_getEntry_29 (by decide) (fun hc => ?_) (fun hc => ?_)
  · replace hw := hw.1 hc
    refine gh_null hx hb dJ6_getEntry_75 ?_
    exact gh_aret M G hr (Or.inl ⟨_, rfl⟩) hw (by exact Nat.le_of_ble_eq_true rfl) (by exact Nat.le_of_ble_eq_true rfl) dJ6_getEntry_76
  · replace hw := hw.2 hc
    refine gh_aload_n hx hb dJ6_getEntry_32 rfl (gh_at hl 0 rfl) ?_
    refine gh_aload_n hx hb dJ6_getEntry_33 rfl (gh_at hl 1 rfl) ?_
    refine gh_getR M G hw fl_J6_105 dJ6_getEntry_34 (fun x1 hw => ?_)
    obtain ⟨a2, lba2, fsa2, rfl, haa2, hw⟩ := hw
    refine gh_kFi G (vx_runF (C := "java/lang/Integer") (M.2.1.1.1 15 _ rfl).2 M.1 (met_J25_compareTo l D _ _ _ _ _ _ hw M.2.2.2.2.2) (va_cwF 1 (gh_Mts M) (gh_gF q938 q970 q972 q76 q974) rfl rfl rfl (M.2.2.1.2.1 _ (List.mem_of_getElem? (i := 14) rfl)) ⟨by decide, by decide, rfl⟩ ⟨Nat.le_of_ble_eq_true rfl, Nat.le_of_ble_eq_true rfl⟩) (gh_preV (As := [va_rf x1]) M G (gh_rec M G haa2 rfl)) rfl rfl hl.1.1 rfl (lv_room (Nat.le_of_ble_eq_true rfl)) dJ6_getEntry_37 ⟨(Nat.le_of_ble_eq_true rfl), (Nat.le_of_ble_eq_true rfl)⟩) (gh_out M hex (by exact Nat.le_of_ble_eq_true rfl) (by exact Nat.le_of_ble_eq_true rfl)) (fun r3 h4 H locs hw G => ?_)
    refine gh_istore (lv' := [(4, 1, .int r3), (2, 1, va_rf (some a2)), (3, 1, va_rf v3)]) hx hb dJ6_getEntry_42 hl (by decide) rfl (fun ls hl => ?_)
    refine lv_iload hx hb dJ6_getEntry_44 (gh_at hl 0 rfl) ?_
    refine lv_if_ge (tgt := 57) hx hb dJ6_getEntry_46 (by decide) (fun hc => ?_) (fun hc => ?_)
    · replace hw := hw.1 hc
      refine lv_iload hx hb dJ6_getEntry_57 (gh_at hl 0 rfl) ?_
      refine lv_if_le (tgt := 70) hx hb dJ6_getEntry_59 (by decide) (fun hc => ?_) (fun hc => ?_)
      · replace hw := hw.1 hc
        refine gh_aload_n hx hb dJ6_getEntry_70 rfl (gh_at hl 2 rfl) ?_
        exact gh_aret M G hr (Or.inl ⟨_, rfl⟩) hw (by exact Nat.le_of_ble_eq_true rfl) (by exact Nat.le_of_ble_eq_true rfl) dJ6_getEntry_71
      · replace hw := hw.2 hc
        refine gh_aload_n hx hb dJ6_getEntry_62 rfl (gh_at hl 2 rfl) ?_
        refine gh_getR M G hw fl_J6_114 dJ6_getEntry_63 (fun x5 hw => ?_)
        refine gh_astore_n (lv' := [(3, 1, va_rf x5), (4, 1, .int r3), (2, 1, va_rf (some a2))]) hx hb dJ6_getEntry_66 rfl hl (by decide) rfl (fun ls hl => ?_)
        refine lv_goto (tgt := 72) hx hb dJ6_getEntry_67 (by decide) ?_
        exact wk_J6_getEntry_72 M hr hex k28 (some a2) x5 _ _ _ _ G (gh_sub hl [2, 0] rfl) hw
    · replace hw := hw.2 hc
      refine gh_aload_n hx hb dJ6_getEntry_49 rfl (gh_at hl 2 rfl) ?_
      refine gh_getR M G hw fl_J6_111 dJ6_getEntry_50 (fun x6 hw => ?_)
      refine gh_astore_n (lv' := [(3, 1, va_rf x6), (4, 1, .int r3), (2, 1, va_rf (some a2))]) hx hb dJ6_getEntry_53 rfl hl (by decide) rfl (fun ls hl => ?_)
      refine lv_goto (tgt := 72) hx hb dJ6_getEntry_54 (by decide) ?_
      exact wk_J6_getEntry_72 M hr hex k28 (some a2) x6 _ _ _ _ G (gh_sub hl [2, 0] rfl) hw
theorem wk_J6_getEntry_28 {D : gh_D} {p : Program} {l : Launch} {e : Env} {s : State} {m : MethodId} {args : Array Value} {below : List Frame} {meth : Method} {c : Code} {h0 : gh_H} (M : gh_M D p l s m args meth c RJ6 cJ6_getEntry 5 (gh_A h0 s.heap.size)) (hr : meth.sig.returnType = (some (.object "java/util/TreeMap$Entry"))) (hex : ∀ x ∈ c.exceptionTable.toList, False)   {Q : Option Nat → gh_H → Prop} {X : String → gh_H → Prop}   : ∀ (n : Nat) (v2 : Option Nat) (v3 : Option Nat) (H : Heap) (locs : List Loc) (ls : Array Slot) (h : gh_H) (_ : gh_Inv D h0 (gh_A h0 s.heap.size) s.heap s H locs h) (_ : gh_L ls 5 [(2, 1, va_rf v2), (3, 1, va_rf v3)]) (_ : wl_J6_getEntry_28 D.2.2 Q X n v2 v3 h), W p l e rm_J6_getEntry s m args below meth c H locs 0 0 (vx_MQ below (gh_Qq Q D h0 s.heap.size) (gh_X X D h0 s.heap.size) args s 0 0 (gh_A h0 s.heap.size)) (F0 m 28 ls []) := by
  intro fu
  induction fu with
  | zero => intro v2 v3 H locs ls h G hl hw; exact False.elim hw
  | succ n1 ih =>
    intro v2 v3 H locs ls h G hl hw
    exact wk1_J6_getEntry_28 M hr hex ih  v2 v3 _ _ _ _ G hl hw
set_option maxHeartbeats 4000000 in
theorem met_J6_getEntry (l : Launch) (D : gh_D) (v0 : Nat) (v1 : Option Nat) (Q : Option Nat → gh_H → Prop) (X : String → gh_H → Prop) (h : gh_H) (sz : Nat) (hw : wp_J6_getEntry D.2.2 v0 v1 Q X h) (hst : l.stackTraces = false) : vx_Met l yJ6_getEntry (ws_ yJ6_getEntry cJ6_getEntry 5 (some (.object "java/util/TreeMap$Entry"))) rm_J6_getEntry (gh_Pc D h sz [.ref v0, va_rf v1]) (gh_Qq Q D h sz) (gh_X X D h sz) 0 0 (gh_A h sz) := by
  refine vx_ofW (by decide) rfl (fun p e s m args below meth c s₁ B hml hex hP => ?_)
  obtain ⟨rfl, rfl, hK, hT, hE, G⟩ := gh_start hP
  have M : gh_M D p l s m _ meth c RJ6 cJ6_getEntry 5 (gh_A h s.heap.size) := ⟨⟨B.exec, B.bytes, hml, findClass_of_methodNamed B.named, fun w hw => atoms_spec (ws := ws_ yJ6_getEntry cJ6_getEntry 5 (some (.object "java/util/TreeMap$Entry"))) B.pre w (List.mem_cons_of_mem _ hw)⟩, hK, hT, hE, B.notSynchronized, hst⟩
  have hr := B.returns
  have hx := M.1.1
  have hb := M.1.2.1
  refine gh_enter (vs := [(1, .ref v0), (1, va_rf v1)]) (gh_w1 rfl (gh_w1 (gh_cat _) gh_wn)) (Nat.le_of_ble_eq_true rfl) (fun ls hl => ?_)
  replace hl : gh_L ls 5 [(0, 1, va_rf (some v0)), (1, 1, va_rf v1)] := hl
  unfold wp_J6_getEntry at hw
  refine gh_aload_n hx hb dJ6_getEntry_0 rfl (gh_at hl 0 rfl) ?_
  refine gh_getR M G hw fl_J6_16 dJ6_getEntry_1 (fun x1 hw => ?_)
  refine gh_ifnull (tgt := 13) hx hb dJ6_getEntry_4 (by decide) (fun hc => ?_) (fun hc => ?_)
  · replace hw := hw.1 hc
    refine gh_aload_n hx hb dJ6_getEntry_13 rfl (gh_at hl 1 rfl) ?_
    refine gh_kq G (vx_runS M.1 (met_J17_requireNonNull l D _ _ _ _ _ hw M.2.2.2.2.2) (va_cwS 1 (gh_Mts M) (lw_S q1035 q1036 q63 q1037) rfl rfl rfl ⟨by decide, by decide, rfl⟩ ⟨Nat.le_of_ble_eq_true rfl, Nat.le_of_ble_eq_true rfl⟩) (gh_pre M G (As := [va_rf v1])) rfl rfl hl.1.1 rfl (lv_room (Nat.le_of_ble_eq_true rfl)) dJ6_getEntry_14 ⟨(Nat.le_of_ble_eq_true rfl), (Nat.le_of_ble_eq_true rfl)⟩) (gh_out M hex (by exact Nat.le_of_ble_eq_true rfl) (by exact Nat.le_of_ble_eq_true rfl)) (fun r2 h3 H locs hw G => ?_)
    refine lv_pop hx hb dJ6_getEntry_17 (gh_cat _) ?_
    refine gh_aload_n hx hb dJ6_getEntry_18 rfl (gh_at hl 1 rfl) ?_
    refine gh_cast (cis := [15, 16, 17, 18]) M G hw q936 (List.forall_mem_cons.mpr ⟨⟨_, rfl, Or.inr (List.mem_of_getElem? (i := 53) rfl)⟩, List.forall_mem_cons.mpr ⟨⟨_, rfl, Or.inr (List.mem_of_getElem? (i := 133) rfl)⟩, List.forall_mem_cons.mpr ⟨⟨_, rfl, Or.inr (List.mem_of_getElem? (i := 138) rfl)⟩, List.forall_mem_cons.mpr ⟨⟨_, rfl, Or.inr (List.mem_of_getElem? (i := 143) rfl)⟩, fun _ h => absurd h List.not_mem_nil⟩⟩⟩⟩) dJ6_getEntry_19 (fun hw => ?_)
    refine gh_astore_n (lv' := [(2, 1, va_rf v1), (0, 1, va_rf (some v0)), (1, 1, va_rf v1)]) hx hb dJ6_getEntry_22 rfl hl (by decide) rfl (fun ls hl => ?_)
    refine gh_aload_n hx hb dJ6_getEntry_23 rfl (gh_at hl 1 rfl) ?_
    refine gh_getR M G hw fl_J6_101 dJ6_getEntry_24 (fun x4 hw => ?_)
    refine gh_astore_n (lv' := [(3, 1, va_rf x4), (2, 1, va_rf v1), (0, 1, va_rf (some v0)), (1, 1, va_rf v1)]) hx hb dJ6_getEntry_27 rfl hl (by decide) rfl (fun ls hl => ?_)
    obtain ⟨n, hw⟩ := hw
    exact wk_J6_getEntry_28 M hr hex  n v1 x4 _ _ _ _ G (gh_sub hl [1, 0] rfl) hw
  · replace hw := hw.2 hc
    refine gh_aload_n hx hb dJ6_getEntry_7 rfl (gh_at hl 0 rfl) ?_
    refine gh_aload_n hx hb dJ6_getEntry_8 rfl (gh_at hl 1 rfl) ?_
    exact hw.elim
/-! java/util/TreeMap.fixAfterDeletion (Ljava/util/TreeMap$Entry;)V -/
def rm_J6_fixAfterDeletion : Room := { frames := 2, cells := 0, slots := 0, locals := 62 }
def wb_J6_fixAfterDeletion_345 (κ : Nat → Nat)  (Q : gh_H → Prop) (X : String → gh_H → Prop) (v1 : Option Nat) (h : gh_H) : Prop := (wp_J6_setColor κ v1 (1 : Int32) (fun h1 => (Q h1)) X h)
def wb_J6_fixAfterDeletion_342 (κ : Nat → Nat) (K0 : Nat → Option Nat → gh_H → Prop) (Q : gh_H → Prop) (X : String → gh_H → Prop) (v0 : Nat) (v1 : Option Nat) (h : gh_H) : Prop := K0 v0 v1 h
def wb_J6_fixAfterDeletion_302 (κ : Nat → Nat) (K0 : Nat → Option Nat → gh_H → Prop) (Q : gh_H → Prop) (X : String → gh_H → Prop) (v0 : Nat) (v1 : Option Nat) (v2 : Option Nat) (h : gh_H) : Prop := (wp_J6_parentOf κ v1 (fun r1 h2 => (wp_J6_colorOf κ r1 (fun r3 h4 => (wp_J6_setColor κ v2 r3 (fun h5 => (wp_J6_parentOf κ v1 (fun r6 h7 => (wp_J6_setColor κ r6 (1 : Int32) (fun h8 => (wp_J6_leftOf κ v2 (fun r9 h10 => (wp_J6_setColor κ r9 (1 : Int32) (fun h11 => (wp_J6_parentOf κ v1 (fun r12 h13 => (gh_RC h13 (some v0) 11 (fun _ => (wp_J6_rotateRight κ v0 r12 (fun h15 => (gh_GR h15 (some v0) [(11, 3)] (fun x16 => wb_J6_fixAfterDeletion_342 κ K0 Q X v0 x16 h15))) X h13)))) X h11)) X h10)) X h8)) X h7)) X h5)) X h4)) X h2)) X h)
def wb_J6_fixAfterDeletion_265 (κ : Nat → Nat) (K0 : Nat → Option Nat → gh_H → Prop) (Q : gh_H → Prop) (X : String → gh_H → Prop) (v0 : Nat) (v1 : Option Nat) (v2 : Option Nat) (h : gh_H) : Prop := (wp_J6_leftOf κ v2 (fun r1 h2 => (wp_J6_colorOf κ r1 (fun r3 h4 => ((r3 = (1 : Int32) → (wp_J6_rightOf κ v2 (fun r5 h6 => (wp_J6_setColor κ r5 (1 : Int32) (fun h7 => (wp_J6_setColor κ v2 (0 : Int32) (fun h8 => (gh_RC h8 (some v0) 11 (fun _ => (wp_J6_rotateLeft κ v0 v2 (fun h10 => (wp_J6_parentOf κ v1 (fun r11 h12 => (wp_J6_leftOf κ r11 (fun r13 h14 => wb_J6_fixAfterDeletion_302 κ K0 Q X v0 v1 r13 h14) X h12)) X h10)) X h8)))) X h7)) X h6)) X h4)) ∧ (¬ r3 = (1 : Int32) → wb_J6_fixAfterDeletion_302 κ K0 Q X v0 v1 v2 h4))) X h2)) X h)
def wb_J6_fixAfterDeletion_230 (κ : Nat → Nat) (K0 : Nat → Option Nat → gh_H → Prop) (Q : gh_H → Prop) (X : String → gh_H → Prop) (v0 : Nat) (v1 : Option Nat) (v2 : Option Nat) (h : gh_H) : Prop := (wp_J6_rightOf κ v2 (fun r1 h2 => (wp_J6_colorOf κ r1 (fun r3 h4 => ((r3 = (1 : Int32) → (wp_J6_leftOf κ v2 (fun r5 h6 => (wp_J6_colorOf κ r5 (fun r7 h8 => ((r7 = (1 : Int32) → (wp_J6_setColor κ v2 (0 : Int32) (fun h9 => (wp_J6_parentOf κ v1 (fun r10 h11 => wb_J6_fixAfterDeletion_342 κ K0 Q X v0 r10 h11) X h9)) X h8)) ∧ (¬ r7 = (1 : Int32) → wb_J6_fixAfterDeletion_265 κ K0 Q X v0 v1 v2 h8))) X h6)) X h4)) ∧ (¬ r3 = (1 : Int32) → wb_J6_fixAfterDeletion_265 κ K0 Q X v0 v1 v2 h4))) X h2)) X h)
def wb_J6_fixAfterDeletion_183 (κ : Nat → Nat) (K0 : Nat → Option Nat → gh_H → Prop) (Q : gh_H → Prop) (X : String → gh_H → Prop) (v0 : Nat) (v1 : Option Nat) (h : gh_H) : Prop := K0 v0 v1 h
def wb_J6_fixAfterDeletion_143 (κ : Nat → Nat) (K0 : Nat → Option Nat → gh_H → Prop) (Q : gh_H → Prop) (X : String → gh_H → Prop) (v0 : Nat) (v1 : Option Nat) (v2 : Option Nat) (h : gh_H) : Prop := (wp_J6_parentOf κ v1 (fun r1 h2 => (wp_J6_colorOf κ r1 (fun r3 h4 => (wp_J6_setColor κ v2 r3 (fun h5 => (wp_J6_parentOf κ v1 (fun r6 h7 => (wp_J6_setColor κ r6 (1 : Int32) (fun h8 => (wp_J6_rightOf κ v2 (fun r9 h10 => (wp_J6_setColor κ r9 (1 : Int32) (fun h11 => (wp_J6_parentOf κ v1 (fun r12 h13 => (gh_RC h13 (some v0) 11 (fun _ => (wp_J6_rotateLeft κ v0 r12 (fun h15 => (gh_GR h15 (some v0) [(11, 3)] (fun x16 => wb_J6_fixAfterDeletion_183 κ K0 Q X v0 x16 h15))) X h13)))) X h11)) X h10)) X h8)) X h7)) X h5)) X h4)) X h2)) X h)
def wb_J6_fixAfterDeletion_106 (κ : Nat → Nat) (K0 : Nat → Option Nat → gh_H → Prop) (Q : gh_H → Prop) (X : String → gh_H → Prop) (v0 : Nat) (v1 : Option Nat) (v2 : Option Nat) (h : gh_H) : Prop := (wp_J6_rightOf κ v2 (fun r1 h2 => (wp_J6_colorOf κ r1 (fun r3 h4 => ((r3 = (1 : Int32) → (wp_J6_leftOf κ v2 (fun r5 h6 => (wp_J6_setColor κ r5 (1 : Int32) (fun h7 => (wp_J6_setColor κ v2 (0 : Int32) (fun h8 => (gh_RC h8 (some v0) 11 (fun _ => (wp_J6_rotateRight κ v0 v2 (fun h10 => (wp_J6_parentOf κ v1 (fun r11 h12 => (wp_J6_rightOf κ r11 (fun r13 h14 => wb_J6_fixAfterDeletion_143 κ K0 Q X v0 v1 r13 h14) X h12)) X h10)) X h8)))) X h7)) X h6)) X h4)) ∧ (¬ r3 = (1 : Int32) → wb_J6_fixAfterDeletion_143 κ K0 Q X v0 v1 v2 h4))) X h2)) X h)
def wb_J6_fixAfterDeletion_71 (κ : Nat → Nat) (K0 : Nat → Option Nat → gh_H → Prop) (Q : gh_H → Prop) (X : String → gh_H → Prop) (v0 : Nat) (v1 : Option Nat) (v2 : Option Nat) (h : gh_H) : Prop := (wp_J6_leftOf κ v2 (fun r1 h2 => (wp_J6_colorOf κ r1 (fun r3 h4 => ((r3 = (1 : Int32) → (wp_J6_rightOf κ v2 (fun r5 h6 => (wp_J6_colorOf κ r5 (fun r7 h8 => ((r7 = (1 : Int32) → (wp_J6_setColor κ v2 (0 : Int32) (fun h9 => (wp_J6_parentOf κ v1 (fun r10 h11 => wb_J6_fixAfterDeletion_183 κ K0 Q X v0 r10 h11) X h9)) X h8)) ∧ (¬ r7 = (1 : Int32) → wb_J6_fixAfterDeletion_106 κ K0 Q X v0 v1 v2 h8))) X h6)) X h4)) ∧ (¬ r3 = (1 : Int32) → wb_J6_fixAfterDeletion_106 κ K0 Q X v0 v1 v2 h4))) X h2)) X h)
def wb_J6_fixAfterDeletion_0 (κ : Nat → Nat) (K0 : Nat → Option Nat → gh_H → Prop) (Q : gh_H → Prop) (X : String → gh_H → Prop) (v0 : Nat) (v1 : Option Nat) (h : gh_H) : Prop := (gh_GR h (some v0) [(11, 3)] (fun x1 => ((v1 = x1 → wb_J6_fixAfterDeletion_345 κ Q X v1 h) ∧ (¬ v1 = x1 → (wp_J6_colorOf κ v1 (fun r2 h3 => ((r2 = (1 : Int32) → (wp_J6_parentOf κ v1 (fun r4 h5 => (wp_J6_leftOf κ r4 (fun r6 h7 => ((v1 = r6 → (wp_J6_parentOf κ v1 (fun r26 h27 => (wp_J6_rightOf κ r26 (fun r28 h29 => (wp_J6_colorOf κ r28 (fun r30 h31 => ((r30 = 0 → (wp_J6_setColor κ r28 (1 : Int32) (fun h32 => (wp_J6_parentOf κ v1 (fun r33 h34 => (wp_J6_setColor κ r33 (0 : Int32) (fun h35 => (wp_J6_parentOf κ v1 (fun r36 h37 => (gh_RC h37 (some v0) 11 (fun _ => (wp_J6_rotateLeft κ v0 r36 (fun h39 => (wp_J6_parentOf κ v1 (fun r40 h41 => (wp_J6_rightOf κ r40 (fun r42 h43 => wb_J6_fixAfterDeletion_71 κ K0 Q X v0 v1 r42 h43) X h41)) X h39)) X h37)))) X h35)) X h34)) X h32)) X h31)) ∧ (¬ r30 = 0 → wb_J6_fixAfterDeletion_71 κ K0 Q X v0 v1 r28 h31))) X h29)) X h27)) X h7)) ∧ (¬ v1 = r6 → (wp_J6_parentOf κ v1 (fun r8 h9 => (wp_J6_leftOf κ r8 (fun r10 h11 => (wp_J6_colorOf κ r10 (fun r12 h13 => ((r12 = 0 → (wp_J6_setColor κ r10 (1 : Int32) (fun h14 => (wp_J6_parentOf κ v1 (fun r15 h16 => (wp_J6_setColor κ r15 (0 : Int32) (fun h17 => (wp_J6_parentOf κ v1 (fun r18 h19 => (gh_RC h19 (some v0) 11 (fun _ => (wp_J6_rotateRight κ v0 r18 (fun h21 => (wp_J6_parentOf κ v1 (fun r22 h23 => (wp_J6_leftOf κ r22 (fun r24 h25 => wb_J6_fixAfterDeletion_230 κ K0 Q X v0 v1 r24 h25) X h23)) X h21)) X h19)))) X h17)) X h16)) X h14)) X h13)) ∧ (¬ r12 = 0 → wb_J6_fixAfterDeletion_230 κ K0 Q X v0 v1 r10 h13))) X h11)) X h9)) X h7)))) X h5)) X h3)) ∧ (¬ r2 = (1 : Int32) → wb_J6_fixAfterDeletion_345 κ Q X v1 h3))) X h)))))
def wl_J6_fixAfterDeletion_0 (κ : Nat → Nat)  (Q : gh_H → Prop) (X : String → gh_H → Prop) : Nat → Nat → Option Nat → gh_H → Prop
  | 0 => fun _ _ _ => False
  | n + 1 => fun v0 v1 h => wb_J6_fixAfterDeletion_0 κ (wl_J6_fixAfterDeletion_0 κ Q X n) Q X v0 v1 h
def wp_J6_fixAfterDeletion (κ : Nat → Nat) (v0 : Nat) (v1 : Option Nat) (Q : gh_H → Prop) (X : String → gh_H → Prop) (h : gh_H) : Prop := (∃ n : Nat, wl_J6_fixAfterDeletion_0 κ Q X n v0 v1 h)
set_option maxHeartbeats 4000000 in
theorem wk_J6_fixAfterDeletion_345 {D : gh_D} {p : Program} {l : Launch} {e : Env} {s : State} {m : MethodId} {args : Array Value} {below : List Frame} {meth : Method} {c : Code} {h0 : gh_H} (M : gh_M D p l s m args meth c RJ6 cJ6_fixAfterDeletion 3 (gh_A h0 s.heap.size)) (hr : meth.sig.returnType = none) (hex : ∀ x ∈ c.exceptionTable.toList, False)   {Q : gh_H → Prop} {X : String → gh_H → Prop}   (v1 : Option Nat) (H : Heap) (locs : List Loc) (ls : Array Slot) (h : gh_H) (G : gh_Inv D h0 (gh_A h0 s.heap.size) s.heap s H locs h) (hl : gh_L ls 3 [(1, 1, va_rf v1)]) (hw : wb_J6_fixAfterDeletion_345 D.2.2 Q X v1 h) : W p l e rm_J6_fixAfterDeletion s m args below meth c H locs 0 0 (vx_MQ below (gh_Qv Q D h0 s.heap.size) (gh_X X D h0 s.heap.size) args s 0 0 (gh_A h0 s.heap.size)) (F0 m 345 ls []) := by
  unfold wb_J6_fixAfterDeletion_345 at hw
  have hx := M.1.1
  have hb := M.1.2.1
  refine gh_aload_n hx hb dJ6_fixAfterDeletion_345 rfl (gh_at hl 0 rfl) ?_
  refine lv_iconst (v := (1 : Int32)) hx hb dJ6_fixAfterDeletion_346 (by decide) ?_
  refine gh_kv G (vx_runS M.1 (met_J6_setColor l D _ _ _ _ _ _ hw M.2.2.2.2.2) (va_cwS 2 (gh_Mts M) (lw_S q1058 q1059 q48 q1060) rfl rfl rfl ⟨by decide, by decide, rfl⟩ ⟨Nat.le_of_ble_eq_true rfl, Nat.le_of_ble_eq_true rfl⟩) (gh_pre M G (As := [va_rf v1, .int (1 : Int32)])) rfl rfl hl.1.1 rfl (lv_room (Nat.le_of_ble_eq_true rfl)) dJ6_fixAfterDeletion_347 ⟨(Nat.le_of_ble_eq_true rfl), (Nat.le_of_ble_eq_true rfl)⟩) (gh_out M hex (by exact Nat.le_of_ble_eq_true rfl) (by exact Nat.le_of_ble_eq_true rfl)) (fun h1 H locs hw G => ?_)
  exact gh_vret M G hr hw (by exact Nat.le_of_ble_eq_true rfl) (by exact Nat.le_of_ble_eq_true rfl) dJ6_fixAfterDeletion_350
set_option maxHeartbeats 4000000 in
theorem wk_J6_fixAfterDeletion_342 {D : gh_D} {p : Program} {l : Launch} {e : Env} {s : State} {m : MethodId} {args : Array Value} {below : List Frame} {meth : Method} {c : Code} {h0 : gh_H} (M : gh_M D p l s m args meth c RJ6 cJ6_fixAfterDeletion 3 (gh_A h0 s.heap.size)) (hr : meth.sig.returnType = none) (hex : ∀ x ∈ c.exceptionTable.toList, False) {K0 : Nat → Option Nat → gh_H → Prop}  {Q : gh_H → Prop} {X : String → gh_H → Prop} (k0 : ∀ (v0 : Nat) (v1 : Option Nat) (H : Heap) (locs : List Loc) (ls : Array Slot) (h : gh_H) (_ : gh_Inv D h0 (gh_A h0 s.heap.size) s.heap s H locs h) (_ : gh_L ls 3 [(0, 1, va_rf (some v0)), (1, 1, va_rf v1)]) (_ : K0 v0 v1 h), W p l e rm_J6_fixAfterDeletion s m args below meth c H locs 0 0 (vx_MQ below (gh_Qv Q D h0 s.heap.size) (gh_X X D h0 s.heap.size) args s 0 0 (gh_A h0 s.heap.size)) (F0 m 0 ls []))  (v0 : Nat) (v1 : Option Nat) (H : Heap) (locs : List Loc) (ls : Array Slot) (h : gh_H) (G : gh_Inv D h0 (gh_A h0 s.heap.size) s.heap s H locs h) (hl : gh_L ls 3 [(0, 1, va_rf (some v0)), (1, 1, va_rf v1)]) (hw : wb_J6_fixAfterDeletion_342 D.2.2 K0 Q X v0 v1 h) : W p l e rm_J6_fixAfterDeletion s m args below meth c H locs 0 0 (vx_MQ below (gh_Qv Q D h0 s.heap.size) (gh_X X D h0 s.heap.size) args s 0 0 (gh_A h0 s.heap.size)) (F0 m 342 ls []) := by
  unfold wb_J6_fixAfterDeletion_342 at hw
  have hx := M.1.1
  have hb := M.1.2.1
  refine lv_goto (tgt := 0) hx hb dJ6_fixAfterDeletion_342 (by decide) ?_
  exact k0 v0 v1 _ _ _ _ G (gh_sub hl [0, 1] rfl) hw
set_option maxHeartbeats 4000000 in
theorem wk_J6_fixAfterDeletion_302 {D : gh_D} {p : Program} {l : Launch} {e : Env} {s : State} {m : MethodId} {args : Array Value} {below : List Frame} {meth : Method} {c : Code} {h0 : gh_H} (M : gh_M D p l s m args meth c RJ6 cJ6_fixAfterDeletion 3 (gh_A h0 s.heap.size)) (hr : meth.sig.returnType = none) (hex : ∀ x ∈ c.exceptionTable.toList, False) {K0 : Nat → Option Nat → gh_H → Prop}  {Q : gh_H → Prop} {X : String → gh_H → Prop} (k0 : ∀ (v0 : Nat) (v1 : Option Nat) (H : Heap) (locs : List Loc) (ls : Array Slot) (h : gh_H) (_ : gh_Inv D h0 (gh_A h0 s.heap.size) s.heap s H locs h) (_ : gh_L ls 3 [(0, 1, va_rf (some v0)), (1, 1, va_rf v1)]) (_ : K0 v0 v1 h), W p l e rm_J6_fixAfterDeletion s m args below meth c H locs 0 0 (vx_MQ below (gh_Qv Q D h0 s.heap.size) (gh_X X D h0 s.heap.size) args s 0 0 (gh_A h0 s.heap.size)) (F0 m 0 ls []))  (v0 : Nat) (v1 : Option Nat) (v2 : Option Nat) (H : Heap) (locs : List Loc) (ls : Array Slot) (h : gh_H) (G : gh_Inv D h0 (gh_A h0 s.heap.size) s.heap s H locs h) (hl : gh_L ls 3 [(0, 1, va_rf (some v0)), (1, 1, va_rf v1), (2, 1, va_rf v2)]) (hw : wb_J6_fixAfterDeletion_302 D.2.2 K0 Q X v0 v1 v2 h) : W p l e rm_J6_fixAfterDeletion s m args below meth c H locs 0 0 (vx_MQ below (gh_Qv Q D h0 s.heap.size) (gh_X X D h0 s.heap.size) args s 0 0 (gh_A h0 s.heap.size)) (F0 m 302 ls []) := by
  unfold wb_J6_fixAfterDeletion_302 at hw
  have hx := M.1.1
  have hb := M.1.2.1
  refine gh_aload_n hx hb dJ6_fixAfterDeletion_302 rfl (gh_at hl 2 rfl) ?_
  refine gh_aload_n hx hb dJ6_fixAfterDeletion_303 rfl (gh_at hl 1 rfl) ?_
  refine gh_kq G (vx_runS M.1 (met_J6_parentOf l D _ _ _ _ _ hw M.2.2.2.2.2) (va_cwS 1 (gh_Mts M) (lw_S q1046 q1047 q48 q1048) rfl rfl rfl ⟨by decide, by decide, rfl⟩ ⟨Nat.le_of_ble_eq_true rfl, Nat.le_of_ble_eq_true rfl⟩) (gh_pre M G (As := [va_rf v1])) rfl rfl hl.1.1 rfl (lv_room (Nat.le_trans (gh_r1 (gh_cat _) gh_r0) (Nat.le_of_ble_eq_true rfl : 1 ≤ 8))) dJ6_fixAfterDeletion_304 ⟨(Nat.le_of_ble_eq_true rfl), (Nat.le_of_ble_eq_true rfl)⟩) (gh_out M hex (by exact Nat.le_of_ble_eq_true rfl) (by exact Nat.le_of_ble_eq_true rfl)) (fun r1 h2 H locs hw G => ?_)
  refine gh_ki G (vx_runS M.1 (met_J6_colorOf l D _ _ _ _ _ hw M.2.2.2.2.2) (va_cwS 1 (gh_Mts M) (lw_S q1055 q1056 q48 q1057) rfl rfl rfl ⟨by decide, by decide, rfl⟩ ⟨Nat.le_of_ble_eq_true rfl, Nat.le_of_ble_eq_true rfl⟩) (gh_pre M G (As := [va_rf r1])) rfl rfl hl.1.1 rfl (lv_room (Nat.le_trans (gh_r1 (gh_cat _) gh_r0) (Nat.le_of_ble_eq_true rfl : 1 ≤ 8))) dJ6_fixAfterDeletion_307 ⟨(Nat.le_of_ble_eq_true rfl), (Nat.le_of_ble_eq_true rfl)⟩) (gh_out M hex (by exact Nat.le_of_ble_eq_true rfl) (by exact Nat.le_of_ble_eq_true rfl)) (fun r3 h4 H locs hw G => ?_)
  refine gh_kv G (vx_runS M.1 (met_J6_setColor l D _ _ _ _ _ _ hw M.2.2.2.2.2) (va_cwS 2 (gh_Mts M) (lw_S q1058 q1059 q48 q1060) rfl rfl rfl ⟨by decide, by decide, rfl⟩ ⟨Nat.le_of_ble_eq_true rfl, Nat.le_of_ble_eq_true rfl⟩) (gh_pre M G (As := [va_rf v2, .int r3])) rfl rfl hl.1.1 rfl (lv_room (Nat.le_of_ble_eq_true rfl)) dJ6_fixAfterDeletion_310 ⟨(Nat.le_of_ble_eq_true rfl), (Nat.le_of_ble_eq_true rfl)⟩) (gh_out M hex (by exact Nat.le_of_ble_eq_true rfl) (by exact Nat.le_of_ble_eq_true rfl)) (fun h5 H locs hw G => ?_)
  refine gh_aload_n hx hb dJ6_fixAfterDeletion_313 rfl (gh_at hl 1 rfl) ?_
  refine gh_kq G (vx_runS M.1 (met_J6_parentOf l D _ _ _ _ _ hw M.2.2.2.2.2) (va_cwS 1 (gh_Mts M) (lw_S q1046 q1047 q48 q1048) rfl rfl rfl ⟨by decide, by decide, rfl⟩ ⟨Nat.le_of_ble_eq_true rfl, Nat.le_of_ble_eq_true rfl⟩) (gh_pre M G (As := [va_rf v1])) rfl rfl hl.1.1 rfl (lv_room (Nat.le_of_ble_eq_true rfl)) dJ6_fixAfterDeletion_314 ⟨(Nat.le_of_ble_eq_true rfl), (Nat.le_of_ble_eq_true rfl)⟩) (gh_out M hex (by exact Nat.le_of_ble_eq_true rfl) (by exact Nat.le_of_ble_eq_true rfl)) (fun r6 h7 H locs hw G => ?_)
  refine lv_iconst (v := (1 : Int32)) hx hb dJ6_fixAfterDeletion_317 (by decide) ?_
  refine gh_kv G (vx_runS M.1 (met_J6_setColor l D _ _ _ _ _ _ hw M.2.2.2.2.2) (va_cwS 2 (gh_Mts M) (lw_S q1058 q1059 q48 q1060) rfl rfl rfl ⟨by decide, by decide, rfl⟩ ⟨Nat.le_of_ble_eq_true rfl, Nat.le_of_ble_eq_true rfl⟩) (gh_pre M G (As := [va_rf r6, .int (1 : Int32)])) rfl rfl hl.1.1 rfl (lv_room (Nat.le_of_ble_eq_true rfl)) dJ6_fixAfterDeletion_318 ⟨(Nat.le_of_ble_eq_true rfl), (Nat.le_of_ble_eq_true rfl)⟩) (gh_out M hex (by exact Nat.le_of_ble_eq_true rfl) (by exact Nat.le_of_ble_eq_true rfl)) (fun h8 H locs hw G => ?_)
  refine gh_aload_n hx hb dJ6_fixAfterDeletion_321 rfl (gh_at hl 2 rfl) ?_
  refine gh_kq G (vx_runS M.1 (met_J6_leftOf l D _ _ _ _ _ hw M.2.2.2.2.2) (va_cwS 1 (gh_Mts M) (lw_S q1049 q1050 q48 q1051) rfl rfl rfl ⟨by decide, by decide, rfl⟩ ⟨Nat.le_of_ble_eq_true rfl, Nat.le_of_ble_eq_true rfl⟩) (gh_pre M G (As := [va_rf v2])) rfl rfl hl.1.1 rfl (lv_room (Nat.le_of_ble_eq_true rfl)) dJ6_fixAfterDeletion_322 ⟨(Nat.le_of_ble_eq_true rfl), (Nat.le_of_ble_eq_true rfl)⟩) (gh_out M hex (by exact Nat.le_of_ble_eq_true rfl) (by exact Nat.le_of_ble_eq_true rfl)) (fun r9 h10 H locs hw G => ?_)
  refine lv_iconst (v := (1 : Int32)) hx hb dJ6_fixAfterDeletion_325 (by decide) ?_
  refine gh_kv G (vx_runS M.1 (met_J6_setColor l D _ _ _ _ _ _ hw M.2.2.2.2.2) (va_cwS 2 (gh_Mts M) (lw_S q1058 q1059 q48 q1060) rfl rfl rfl ⟨by decide, by decide, rfl⟩ ⟨Nat.le_of_ble_eq_true rfl, Nat.le_of_ble_eq_true rfl⟩) (gh_pre M G (As := [va_rf r9, .int (1 : Int32)])) rfl rfl hl.1.1 rfl (lv_room (Nat.le_of_ble_eq_true rfl)) dJ6_fixAfterDeletion_326 ⟨(Nat.le_of_ble_eq_true rfl), (Nat.le_of_ble_eq_true rfl)⟩) (gh_out M hex (by exact Nat.le_of_ble_eq_true rfl) (by exact Nat.le_of_ble_eq_true rfl)) (fun h11 H locs hw G => ?_)
  refine gh_aload_n hx hb dJ6_fixAfterDeletion_329 rfl (gh_at hl 0 rfl) ?_
  refine gh_aload_n hx hb dJ6_fixAfterDeletion_330 rfl (gh_at hl 1 rfl) ?_
  refine gh_kq G (vx_runS M.1 (met_J6_parentOf l D _ _ _ _ _ hw M.2.2.2.2.2) (va_cwS 1 (gh_Mts M) (lw_S q1046 q1047 q48 q1048) rfl rfl rfl ⟨by decide, by decide, rfl⟩ ⟨Nat.le_of_ble_eq_true rfl, Nat.le_of_ble_eq_true rfl⟩) (gh_pre M G (As := [va_rf v1])) rfl rfl hl.1.1 rfl (lv_room (Nat.le_trans (gh_r1 (gh_cat _) gh_r0) (Nat.le_of_ble_eq_true rfl : 1 ≤ 8))) dJ6_fixAfterDeletion_331 ⟨(Nat.le_of_ble_eq_true rfl), (Nat.le_of_ble_eq_true rfl)⟩) (gh_out M hex (by exact Nat.le_of_ble_eq_true rfl) (by exact Nat.le_of_ble_eq_true rfl)) (fun r12 h13 H locs hw G => ?_)
  obtain ⟨a14, lba14, fsa14, hra14, haa14, hw⟩ := hw
  rw [← Option.some.inj hra14] at haa14
  refine gh_kv G (vx_runV M.1 (met_J6_rotateRight l D _ _ _ _ _ _ hw M.2.2.2.2.2) (cwV 1 (gh_Mts M) (lw_V q1065 q1067 qs14 q48 q1068) rfl rfl rfl ⟨rfl, by decide, by decide, rfl⟩ ⟨Nat.le_of_ble_eq_true rfl, Nat.le_of_ble_eq_true rfl⟩) (gh_preV (As := [va_rf r12]) M G (gh_rec M G haa14 rfl)) rfl rfl hl.1.1 rfl (lv_room (Nat.le_of_ble_eq_true rfl)) dJ6_fixAfterDeletion_334 ⟨(Nat.le_of_ble_eq_true rfl), (Nat.le_of_ble_eq_true rfl)⟩) (gh_out M hex (by exact Nat.le_of_ble_eq_true rfl) (by exact Nat.le_of_ble_eq_true rfl)) (fun h15 H locs hw G => ?_)
  refine gh_aload_n hx hb dJ6_fixAfterDeletion_337 rfl (gh_at hl 0 rfl) ?_
  refine gh_getR M G hw fl_J6_101 dJ6_fixAfterDeletion_338 (fun x16 hw => ?_)
  refine gh_astore_n (lv' := [(1, 1, va_rf x16), (0, 1, va_rf (some v0)), (2, 1, va_rf v2)]) hx hb dJ6_fixAfterDeletion_341 rfl hl (by decide) rfl (fun ls hl => ?_)
  exact wk_J6_fixAfterDeletion_342 M hr hex k0 v0 x16 _ _ _ _ G (gh_sub hl [1, 0] rfl) hw
set_option maxHeartbeats 4000000 in
theorem wk_J6_fixAfterDeletion_265 {D : gh_D} {p : Program} {l : Launch} {e : Env} {s : State} {m : MethodId} {args : Array Value} {below : List Frame} {meth : Method} {c : Code} {h0 : gh_H} (M : gh_M D p l s m args meth c RJ6 cJ6_fixAfterDeletion 3 (gh_A h0 s.heap.size)) (hr : meth.sig.returnType = none) (hex : ∀ x ∈ c.exceptionTable.toList, False) {K0 : Nat → Option Nat → gh_H → Prop}  {Q : gh_H → Prop} {X : String → gh_H → Prop} (k0 : ∀ (v0 : Nat) (v1 : Option Nat) (H : Heap) (locs : List Loc) (ls : Array Slot) (h : gh_H) (_ : gh_Inv D h0 (gh_A h0 s.heap.size) s.heap s H locs h) (_ : gh_L ls 3 [(0, 1, va_rf (some v0)), (1, 1, va_rf v1)]) (_ : K0 v0 v1 h), W p l e rm_J6_fixAfterDeletion s m args below meth c H locs 0 0 (vx_MQ below (gh_Qv Q D h0 s.heap.size) (gh_X X D h0 s.heap.size) args s 0 0 (gh_A h0 s.heap.size)) (F0 m 0 ls []))  (v0 : Nat) (v1 : Option Nat) (v2 : Option Nat) (H : Heap) (locs : List Loc) (ls : Array Slot) (h : gh_H) (G : gh_Inv D h0 (gh_A h0 s.heap.size) s.heap s H locs h) (hl : gh_L ls 3 [(0, 1, va_rf (some v0)), (1, 1, va_rf v1), (2, 1, va_rf v2)]) (hw : wb_J6_fixAfterDeletion_265 D.2.2 K0 Q X v0 v1 v2 h) : W p l e rm_J6_fixAfterDeletion s m args below meth c H locs 0 0 (vx_MQ below (gh_Qv Q D h0 s.heap.size) (gh_X X D h0 s.heap.size) args s 0 0 (gh_A h0 s.heap.size)) (F0 m 265 ls []) := by
  unfold wb_J6_fixAfterDeletion_265 at hw
  have hx := M.1.1
  have hb := M.1.2.1
  refine gh_aload_n hx hb dJ6_fixAfterDeletion_265 rfl (gh_at hl 2 rfl) ?_
  refine gh_kq G (vx_runS M.1 (met_J6_leftOf l D _ _ _ _ _ hw M.2.2.2.2.2) (va_cwS 1 (gh_Mts M) (lw_S q1049 q1050 q48 q1051) rfl rfl rfl ⟨by decide, by decide, rfl⟩ ⟨Nat.le_of_ble_eq_true rfl, Nat.le_of_ble_eq_true rfl⟩) (gh_pre M G (As := [va_rf v2])) rfl rfl hl.1.1 rfl (lv_room (Nat.le_of_ble_eq_true rfl)) dJ6_fixAfterDeletion_266 ⟨(Nat.le_of_ble_eq_true rfl), (Nat.le_of_ble_eq_true rfl)⟩) (gh_out M hex (by exact Nat.le_of_ble_eq_true rfl) (by exact Nat.le_of_ble_eq_true rfl)) (fun r1 h2 H locs hw G => ?_)
  refine gh_ki G (vx_runS M.1 (met_J6_colorOf l D _ _ _ _ _ hw M.2.2.2.2.2) (va_cwS 1 (gh_Mts M) (lw_S q1055 q1056 q48 q1057) rfl rfl rfl ⟨by decide, by decide, rfl⟩ ⟨Nat.le_of_ble_eq_true rfl, Nat.le_of_ble_eq_true rfl⟩) (gh_pre M G (As := [va_rf r1])) rfl rfl hl.1.1 rfl (lv_room (Nat.le_of_ble_eq_true rfl)) dJ6_fixAfterDeletion_269 ⟨(Nat.le_of_ble_eq_true rfl), (Nat.le_of_ble_eq_true rfl)⟩) (gh_out M hex (by exact Nat.le_of_ble_eq_true rfl) (by exact Nat.le_of_ble_eq_true rfl)) (fun r3 h4 H locs hw G => ?_)
  refine lv_iconst (v := (1 : Int32)) hx hb dJ6_fixAfterDeletion_272 (by decide) ?_
  refine lv_icmp_ne (tgt := 302) hx hb dJ6_fixAfterDeletion_273 (by decide) (fun hc => ?_) (fun hc => ?_)
  · replace hw := hw.2 hc
    exact wk_J6_fixAfterDeletion_302 M hr hex k0 v0 v1 v2 _ _ _ _ G (gh_sub hl [0, 1, 2] rfl) hw
  · replace hw := hw.1 hc
    refine gh_aload_n hx hb dJ6_fixAfterDeletion_276 rfl (gh_at hl 2 rfl) ?_
    refine gh_kq G (vx_runS M.1 (met_J6_rightOf l D _ _ _ _ _ hw M.2.2.2.2.2) (va_cwS 1 (gh_Mts M) (lw_S q1052 q1053 q48 q1054) rfl rfl rfl ⟨by decide, by decide, rfl⟩ ⟨Nat.le_of_ble_eq_true rfl, Nat.le_of_ble_eq_true rfl⟩) (gh_pre M G (As := [va_rf v2])) rfl rfl hl.1.1 rfl (lv_room (Nat.le_of_ble_eq_true rfl)) dJ6_fixAfterDeletion_277 ⟨(Nat.le_of_ble_eq_true rfl), (Nat.le_of_ble_eq_true rfl)⟩) (gh_out M hex (by exact Nat.le_of_ble_eq_true rfl) (by exact Nat.le_of_ble_eq_true rfl)) (fun r5 h6 H locs hw G => ?_)
    refine lv_iconst (v := (1 : Int32)) hx hb dJ6_fixAfterDeletion_280 (by decide) ?_
    refine gh_kv G (vx_runS M.1 (met_J6_setColor l D _ _ _ _ _ _ hw M.2.2.2.2.2) (va_cwS 2 (gh_Mts M) (lw_S q1058 q1059 q48 q1060) rfl rfl rfl ⟨by decide, by decide, rfl⟩ ⟨Nat.le_of_ble_eq_true rfl, Nat.le_of_ble_eq_true rfl⟩) (gh_pre M G (As := [va_rf r5, .int (1 : Int32)])) rfl rfl hl.1.1 rfl (lv_room (Nat.le_of_ble_eq_true rfl)) dJ6_fixAfterDeletion_281 ⟨(Nat.le_of_ble_eq_true rfl), (Nat.le_of_ble_eq_true rfl)⟩) (gh_out M hex (by exact Nat.le_of_ble_eq_true rfl) (by exact Nat.le_of_ble_eq_true rfl)) (fun h7 H locs hw G => ?_)
    refine gh_aload_n hx hb dJ6_fixAfterDeletion_284 rfl (gh_at hl 2 rfl) ?_
    refine lv_iconst (v := (0 : Int32)) hx hb dJ6_fixAfterDeletion_285 (by decide) ?_
    refine gh_kv G (vx_runS M.1 (met_J6_setColor l D _ _ _ _ _ _ hw M.2.2.2.2.2) (va_cwS 2 (gh_Mts M) (lw_S q1058 q1059 q48 q1060) rfl rfl rfl ⟨by decide, by decide, rfl⟩ ⟨Nat.le_of_ble_eq_true rfl, Nat.le_of_ble_eq_true rfl⟩) (gh_pre M G (As := [va_rf v2, .int (0 : Int32)])) rfl rfl hl.1.1 rfl (lv_room (Nat.le_of_ble_eq_true rfl)) dJ6_fixAfterDeletion_286 ⟨(Nat.le_of_ble_eq_true rfl), (Nat.le_of_ble_eq_true rfl)⟩) (gh_out M hex (by exact Nat.le_of_ble_eq_true rfl) (by exact Nat.le_of_ble_eq_true rfl)) (fun h8 H locs hw G => ?_)
    refine gh_aload_n hx hb dJ6_fixAfterDeletion_289 rfl (gh_at hl 0 rfl) ?_
    refine gh_aload_n hx hb dJ6_fixAfterDeletion_290 rfl (gh_at hl 2 rfl) ?_
    obtain ⟨a9, lba9, fsa9, hra9, haa9, hw⟩ := hw
    rw [← Option.some.inj hra9] at haa9
    refine gh_kv G (vx_runV M.1 (met_J6_rotateLeft l D _ _ _ _ _ _ hw M.2.2.2.2.2) (cwV 1 (gh_Mts M) (lw_V q1061 q1063 qs13 q48 q1064) rfl rfl rfl ⟨rfl, by decide, by decide, rfl⟩ ⟨Nat.le_of_ble_eq_true rfl, Nat.le_of_ble_eq_true rfl⟩) (gh_preV (As := [va_rf v2]) M G (gh_rec M G haa9 rfl)) rfl rfl hl.1.1 rfl (lv_room (Nat.le_of_ble_eq_true rfl)) dJ6_fixAfterDeletion_291 ⟨(Nat.le_of_ble_eq_true rfl), (Nat.le_of_ble_eq_true rfl)⟩) (gh_out M hex (by exact Nat.le_of_ble_eq_true rfl) (by exact Nat.le_of_ble_eq_true rfl)) (fun h10 H locs hw G => ?_)
    refine gh_aload_n hx hb dJ6_fixAfterDeletion_294 rfl (gh_at hl 1 rfl) ?_
    refine gh_kq G (vx_runS M.1 (met_J6_parentOf l D _ _ _ _ _ hw M.2.2.2.2.2) (va_cwS 1 (gh_Mts M) (lw_S q1046 q1047 q48 q1048) rfl rfl rfl ⟨by decide, by decide, rfl⟩ ⟨Nat.le_of_ble_eq_true rfl, Nat.le_of_ble_eq_true rfl⟩) (gh_pre M G (As := [va_rf v1])) rfl rfl hl.1.1 rfl (lv_room (Nat.le_of_ble_eq_true rfl)) dJ6_fixAfterDeletion_295 ⟨(Nat.le_of_ble_eq_true rfl), (Nat.le_of_ble_eq_true rfl)⟩) (gh_out M hex (by exact Nat.le_of_ble_eq_true rfl) (by exact Nat.le_of_ble_eq_true rfl)) (fun r11 h12 H locs hw G => ?_)
    refine gh_kq G (vx_runS M.1 (met_J6_leftOf l D _ _ _ _ _ hw M.2.2.2.2.2) (va_cwS 1 (gh_Mts M) (lw_S q1049 q1050 q48 q1051) rfl rfl rfl ⟨by decide, by decide, rfl⟩ ⟨Nat.le_of_ble_eq_true rfl, Nat.le_of_ble_eq_true rfl⟩) (gh_pre M G (As := [va_rf r11])) rfl rfl hl.1.1 rfl (lv_room (Nat.le_of_ble_eq_true rfl)) dJ6_fixAfterDeletion_298 ⟨(Nat.le_of_ble_eq_true rfl), (Nat.le_of_ble_eq_true rfl)⟩) (gh_out M hex (by exact Nat.le_of_ble_eq_true rfl) (by exact Nat.le_of_ble_eq_true rfl)) (fun r13 h14 H locs hw G => ?_)
    refine gh_astore_n (lv' := [(2, 1, va_rf r13), (0, 1, va_rf (some v0)), (1, 1, va_rf v1)]) hx hb dJ6_fixAfterDeletion_301 rfl hl (by decide) rfl (fun ls hl => ?_)
    exact wk_J6_fixAfterDeletion_302 M hr hex k0 v0 v1 r13 _ _ _ _ G (gh_sub hl [1, 2, 0] rfl) hw
set_option maxHeartbeats 4000000 in
theorem wk_J6_fixAfterDeletion_230 {D : gh_D} {p : Program} {l : Launch} {e : Env} {s : State} {m : MethodId} {args : Array Value} {below : List Frame} {meth : Method} {c : Code} {h0 : gh_H} (M : gh_M D p l s m args meth c RJ6 cJ6_fixAfterDeletion 3 (gh_A h0 s.heap.size)) (hr : meth.sig.returnType = none) (hex : ∀ x ∈ c.exceptionTable.toList, False) {K0 : Nat → Option Nat → gh_H → Prop}  {Q : gh_H → Prop} {X : String → gh_H → Prop} (k0 : ∀ (v0 : Nat) (v1 : Option Nat) (H : Heap) (locs : List Loc) (ls : Array Slot) (h : gh_H) (_ : gh_Inv D h0 (gh_A h0 s.heap.size) s.heap s H locs h) (_ : gh_L ls 3 [(0, 1, va_rf (some v0)), (1, 1, va_rf v1)]) (_ : K0 v0 v1 h), W p l e rm_J6_fixAfterDeletion s m args below meth c H locs 0 0 (vx_MQ below (gh_Qv Q D h0 s.heap.size) (gh_X X D h0 s.heap.size) args s 0 0 (gh_A h0 s.heap.size)) (F0 m 0 ls []))  (v0 : Nat) (v1 : Option Nat) (v2 : Option Nat) (H : Heap) (locs : List Loc) (ls : Array Slot) (h : gh_H) (G : gh_Inv D h0 (gh_A h0 s.heap.size) s.heap s H locs h) (hl : gh_L ls 3 [(0, 1, va_rf (some v0)), (1, 1, va_rf v1), (2, 1, va_rf v2)]) (hw : wb_J6_fixAfterDeletion_230 D.2.2 K0 Q X v0 v1 v2 h) : W p l e rm_J6_fixAfterDeletion s m args below meth c H locs 0 0 (vx_MQ below (gh_Qv Q D h0 s.heap.size) (gh_X X D h0 s.heap.size) args s 0 0 (gh_A h0 s.heap.size)) (F0 m 230 ls []) := by
  unfold wb_J6_fixAfterDeletion_230 at hw
  have hx := M.1.1
  have hb := M.1.2.1
  refine gh_aload_n hx hb dJ6_fixAfterDeletion_230 rfl (gh_at hl 2 rfl) ?_
  refine gh_kq G (vx_runS M.1 (met_J6_rightOf l D _ _ _ _ _ hw M.2.2.2.2.2) (va_cwS 1 (gh_Mts M) (lw_S q1052 q1053 q48 q1054) rfl rfl rfl ⟨by decide, by decide, rfl⟩ ⟨Nat.le_of_ble_eq_true rfl, Nat.le_of_ble_eq_true rfl⟩) (gh_pre M G (As := [va_rf v2])) rfl rfl hl.1.1 rfl (lv_room (Nat.le_of_ble_eq_true rfl)) dJ6_fixAfterDeletion_231 ⟨(Nat.le_of_ble_eq_true rfl), (Nat.le_of_ble_eq_true rfl)⟩) (gh_out M hex (by exact Nat.le_of_ble_eq_true rfl) (by exact Nat.le_of_ble_eq_true rfl)) (fun r1 h2 H locs hw G => ?_)
  refine gh_ki G (vx_runS M.1 (met_J6_colorOf l D _ _ _ _ _ hw M.2.2.2.2.2) (va_cwS 1 (gh_Mts M) (lw_S q1055 q1056 q48 q1057) rfl rfl rfl ⟨by decide, by decide, rfl⟩ ⟨Nat.le_of_ble_eq_true rfl, Nat.le_of_ble_eq_true rfl⟩) (gh_pre M G (As := [va_rf r1])) rfl rfl hl.1.1 rfl (lv_room (Nat.le_of_ble_eq_true rfl)) dJ6_fixAfterDeletion_234 ⟨(Nat.le_of_ble_eq_true rfl), (Nat.le_of_ble_eq_true rfl)⟩) (gh_out M hex (by exact Nat.le_of_ble_eq_true rfl) (by exact Nat.le_of_ble_eq_true rfl)) (fun r3 h4 H locs hw G => ?_)
  refine lv_iconst (v := (1 : Int32)) hx hb dJ6_fixAfterDeletion_237 (by decide) ?_
  refine lv_icmp_ne (tgt := 265) hx hb dJ6_fixAfterDeletion_238 (by decide) (fun hc => ?_) (fun hc => ?_)
  · replace hw := hw.2 hc
    exact wk_J6_fixAfterDeletion_265 M hr hex k0 v0 v1 v2 _ _ _ _ G (gh_sub hl [0, 1, 2] rfl) hw
  · replace hw := hw.1 hc
    refine gh_aload_n hx hb dJ6_fixAfterDeletion_241 rfl (gh_at hl 2 rfl) ?_
    refine gh_kq G (vx_runS M.1 (met_J6_leftOf l D _ _ _ _ _ hw M.2.2.2.2.2) (va_cwS 1 (gh_Mts M) (lw_S q1049 q1050 q48 q1051) rfl rfl rfl ⟨by decide, by decide, rfl⟩ ⟨Nat.le_of_ble_eq_true rfl, Nat.le_of_ble_eq_true rfl⟩) (gh_pre M G (As := [va_rf v2])) rfl rfl hl.1.1 rfl (lv_room (Nat.le_of_ble_eq_true rfl)) dJ6_fixAfterDeletion_242 ⟨(Nat.le_of_ble_eq_true rfl), (Nat.le_of_ble_eq_true rfl)⟩) (gh_out M hex (by exact Nat.le_of_ble_eq_true rfl) (by exact Nat.le_of_ble_eq_true rfl)) (fun r5 h6 H locs hw G => ?_)
    refine gh_ki G (vx_runS M.1 (met_J6_colorOf l D _ _ _ _ _ hw M.2.2.2.2.2) (va_cwS 1 (gh_Mts M) (lw_S q1055 q1056 q48 q1057) rfl rfl rfl ⟨by decide, by decide, rfl⟩ ⟨Nat.le_of_ble_eq_true rfl, Nat.le_of_ble_eq_true rfl⟩) (gh_pre M G (As := [va_rf r5])) rfl rfl hl.1.1 rfl (lv_room (Nat.le_of_ble_eq_true rfl)) dJ6_fixAfterDeletion_245 ⟨(Nat.le_of_ble_eq_true rfl), (Nat.le_of_ble_eq_true rfl)⟩) (gh_out M hex (by exact Nat.le_of_ble_eq_true rfl) (by exact Nat.le_of_ble_eq_true rfl)) (fun r7 h8 H locs hw G => ?_)
    refine lv_iconst (v := (1 : Int32)) hx hb dJ6_fixAfterDeletion_248 (by decide) ?_
    refine lv_icmp_ne (tgt := 265) hx hb dJ6_fixAfterDeletion_249 (by decide) (fun hc => ?_) (fun hc => ?_)
    · replace hw := hw.2 hc
      exact wk_J6_fixAfterDeletion_265 M hr hex k0 v0 v1 v2 _ _ _ _ G (gh_sub hl [0, 1, 2] rfl) hw
    · replace hw := hw.1 hc
      refine gh_aload_n hx hb dJ6_fixAfterDeletion_252 rfl (gh_at hl 2 rfl) ?_
      refine lv_iconst (v := (0 : Int32)) hx hb dJ6_fixAfterDeletion_253 (by decide) ?_
      refine gh_kv G (vx_runS M.1 (met_J6_setColor l D _ _ _ _ _ _ hw M.2.2.2.2.2) (va_cwS 2 (gh_Mts M) (lw_S q1058 q1059 q48 q1060) rfl rfl rfl ⟨by decide, by decide, rfl⟩ ⟨Nat.le_of_ble_eq_true rfl, Nat.le_of_ble_eq_true rfl⟩) (gh_pre M G (As := [va_rf v2, .int (0 : Int32)])) rfl rfl hl.1.1 rfl (lv_room (Nat.le_of_ble_eq_true rfl)) dJ6_fixAfterDeletion_254 ⟨(Nat.le_of_ble_eq_true rfl), (Nat.le_of_ble_eq_true rfl)⟩) (gh_out M hex (by exact Nat.le_of_ble_eq_true rfl) (by exact Nat.le_of_ble_eq_true rfl)) (fun h9 H locs hw G => ?_)
      refine gh_aload_n hx hb dJ6_fixAfterDeletion_257 rfl (gh_at hl 1 rfl) ?_
      refine gh_kq G (vx_runS M.1 (met_J6_parentOf l D _ _ _ _ _ hw M.2.2.2.2.2) (va_cwS 1 (gh_Mts M) (lw_S q1046 q1047 q48 q1048) rfl rfl rfl ⟨by decide, by decide, rfl⟩ ⟨Nat.le_of_ble_eq_true rfl, Nat.le_of_ble_eq_true rfl⟩) (gh_pre M G (As := [va_rf v1])) rfl rfl hl.1.1 rfl (lv_room (Nat.le_of_ble_eq_true rfl)) dJ6_fixAfterDeletion_258 ⟨(Nat.le_of_ble_eq_true rfl), (Nat.le_of_ble_eq_true rfl)⟩) (gh_out M hex (by exact Nat.le_of_ble_eq_true rfl) (by exact Nat.le_of_ble_eq_true rfl)) (fun r10 h11 H locs hw G => ?_)
      refine gh_astore_n (lv' := [(1, 1, va_rf r10), (0, 1, va_rf (some v0)), (2, 1, va_rf v2)]) hx hb dJ6_fixAfterDeletion_261 rfl hl (by decide) rfl (fun ls hl => ?_)
      refine lv_goto (tgt := 342) hx hb dJ6_fixAfterDeletion_262 (by decide) ?_
      exact wk_J6_fixAfterDeletion_342 M hr hex k0 v0 r10 _ _ _ _ G (gh_sub hl [1, 0] rfl) hw
set_option maxHeartbeats 4000000 in
theorem wk_J6_fixAfterDeletion_183 {D : gh_D} {p : Program} {l : Launch} {e : Env} {s : State} {m : MethodId} {args : Array Value} {below : List Frame} {meth : Method} {c : Code} {h0 : gh_H} (M : gh_M D p l s m args meth c RJ6 cJ6_fixAfterDeletion 3 (gh_A h0 s.heap.size)) (hr : meth.sig.returnType = none) (hex : ∀ x ∈ c.exceptionTable.toList, False) {K0 : Nat → Option Nat → gh_H → Prop}  {Q : gh_H → Prop} {X : String → gh_H → Prop} (k0 : ∀ (v0 : Nat) (v1 : Option Nat) (H : Heap) (locs : List Loc) (ls : Array Slot) (h : gh_H) (_ : gh_Inv D h0 (gh_A h0 s.heap.size) s.heap s H locs h) (_ : gh_L ls 3 [(0, 1, va_rf (some v0)), (1, 1, va_rf v1)]) (_ : K0 v0 v1 h), W p l e rm_J6_fixAfterDeletion s m args below meth c H locs 0 0 (vx_MQ below (gh_Qv Q D h0 s.heap.size) (gh_X X D h0 s.heap.size) args s 0 0 (gh_A h0 s.heap.size)) (F0 m 0 ls []))  (v0 : Nat) (v1 : Option Nat) (H : Heap) (locs : List Loc) (ls : Array Slot) (h : gh_H) (G : gh_Inv D h0 (gh_A h0 s.heap.size) s.heap s H locs h) (hl : gh_L ls 3 [(0, 1, va_rf (some v0)), (1, 1, va_rf v1)]) (hw : wb_J6_fixAfterDeletion_183 D.2.2 K0 Q X v0 v1 h) : W p l e rm_J6_fixAfterDeletion s m args below meth c H locs 0 0 (vx_MQ below (gh_Qv Q D h0 s.heap.size) (gh_X X D h0 s.heap.size) args s 0 0 (gh_A h0 s.heap.size)) (F0 m 183 ls []) := by
  unfold wb_J6_fixAfterDeletion_183 at hw
  have hx := M.1.1
  have hb := M.1.2.1
  refine lv_goto (tgt := 0) hx hb dJ6_fixAfterDeletion_183 (by decide) ?_
  exact k0 v0 v1 _ _ _ _ G (gh_sub hl [0, 1] rfl) hw
set_option maxHeartbeats 4000000 in
theorem wk_J6_fixAfterDeletion_143 {D : gh_D} {p : Program} {l : Launch} {e : Env} {s : State} {m : MethodId} {args : Array Value} {below : List Frame} {meth : Method} {c : Code} {h0 : gh_H} (M : gh_M D p l s m args meth c RJ6 cJ6_fixAfterDeletion 3 (gh_A h0 s.heap.size)) (hr : meth.sig.returnType = none) (hex : ∀ x ∈ c.exceptionTable.toList, False) {K0 : Nat → Option Nat → gh_H → Prop}  {Q : gh_H → Prop} {X : String → gh_H → Prop} (k0 : ∀ (v0 : Nat) (v1 : Option Nat) (H : Heap) (locs : List Loc) (ls : Array Slot) (h : gh_H) (_ : gh_Inv D h0 (gh_A h0 s.heap.size) s.heap s H locs h) (_ : gh_L ls 3 [(0, 1, va_rf (some v0)), (1, 1, va_rf v1)]) (_ : K0 v0 v1 h), W p l e rm_J6_fixAfterDeletion s m args below meth c H locs 0 0 (vx_MQ below (gh_Qv Q D h0 s.heap.size) (gh_X X D h0 s.heap.size) args s 0 0 (gh_A h0 s.heap.size)) (F0 m 0 ls []))  (v0 : Nat) (v1 : Option Nat) (v2 : Option Nat) (H : Heap) (locs : List Loc) (ls : Array Slot) (h : gh_H) (G : gh_Inv D h0 (gh_A h0 s.heap.size) s.heap s H locs h) (hl : gh_L ls 3 [(0, 1, va_rf (some v0)), (1, 1, va_rf v1), (2, 1, va_rf v2)]) (hw : wb_J6_fixAfterDeletion_143 D.2.2 K0 Q X v0 v1 v2 h) : W p l e rm_J6_fixAfterDeletion s m args below meth c H locs 0 0 (vx_MQ below (gh_Qv Q D h0 s.heap.size) (gh_X X D h0 s.heap.size) args s 0 0 (gh_A h0 s.heap.size)) (F0 m 143 ls []) := by
  unfold wb_J6_fixAfterDeletion_143 at hw
  have hx := M.1.1
  have hb := M.1.2.1
  refine gh_aload_n hx hb dJ6_fixAfterDeletion_143 rfl (gh_at hl 2 rfl) ?_
  refine gh_aload_n hx hb dJ6_fixAfterDeletion_144 rfl (gh_at hl 1 rfl) ?_
  refine gh_kq G (vx_runS M.1 (met_J6_parentOf l D _ _ _ _ _ hw M.2.2.2.2.2) (va_cwS 1 (gh_Mts M) (lw_S q1046 q1047 q48 q1048) rfl rfl rfl ⟨by decide, by decide, rfl⟩ ⟨Nat.le_of_ble_eq_true rfl, Nat.le_of_ble_eq_true rfl⟩) (gh_pre M G (As := [va_rf v1])) rfl rfl hl.1.1 rfl (lv_room (Nat.le_trans (gh_r1 (gh_cat _) gh_r0) (Nat.le_of_ble_eq_true rfl : 1 ≤ 8))) dJ6_fixAfterDeletion_145 ⟨(Nat.le_of_ble_eq_true rfl), (Nat.le_of_ble_eq_true rfl)⟩) (gh_out M hex (by exact Nat.le_of_ble_eq_true rfl) (by exact Nat.le_of_ble_eq_true rfl)) (fun r1 h2 H locs hw G => ?_)
  refine gh_ki G (vx_runS M.1 (met_J6_colorOf l D _ _ _ _ _ hw M.2.2.2.2.2) (va_cwS 1 (gh_Mts M) (lw_S q1055 q1056 q48 q1057) rfl rfl rfl ⟨by decide, by decide, rfl⟩ ⟨Nat.le_of_ble_eq_true rfl, Nat.le_of_ble_eq_true rfl⟩) (gh_pre M G (As := [va_rf r1])) rfl rfl hl.1.1 rfl (lv_room (Nat.le_trans (gh_r1 (gh_cat _) gh_r0) (Nat.le_of_ble_eq_true rfl : 1 ≤ 8))) dJ6_fixAfterDeletion_148 ⟨(Nat.le_of_ble_eq_true rfl), (Nat.le_of_ble_eq_true rfl)⟩) (gh_out M hex (by exact Nat.le_of_ble_eq_true rfl) (by exact Nat.le_of_ble_eq_true rfl)) (fun r3 h4 H locs hw G => ?_)
  refine gh_kv G (vx_runS M.1 (met_J6_setColor l D _ _ _ _ _ _ hw M.2.2.2.2.2) (va_cwS 2 (gh_Mts M) (lw_S q1058 q1059 q48 q1060) rfl rfl rfl ⟨by decide, by decide, rfl⟩ ⟨Nat.le_of_ble_eq_true rfl, Nat.le_of_ble_eq_true rfl⟩) (gh_pre M G (As := [va_rf v2, .int r3])) rfl rfl hl.1.1 rfl (lv_room (Nat.le_of_ble_eq_true rfl)) dJ6_fixAfterDeletion_151 ⟨(Nat.le_of_ble_eq_true rfl), (Nat.le_of_ble_eq_true rfl)⟩) (gh_out M hex (by exact Nat.le_of_ble_eq_true rfl) (by exact Nat.le_of_ble_eq_true rfl)) (fun h5 H locs hw G => ?_)
  refine gh_aload_n hx hb dJ6_fixAfterDeletion_154 rfl (gh_at hl 1 rfl) ?_
  refine gh_kq G (vx_runS M.1 (met_J6_parentOf l D _ _ _ _ _ hw M.2.2.2.2.2) (va_cwS 1 (gh_Mts M) (lw_S q1046 q1047 q48 q1048) rfl rfl rfl ⟨by decide, by decide, rfl⟩ ⟨Nat.le_of_ble_eq_true rfl, Nat.le_of_ble_eq_true rfl⟩) (gh_pre M G (As := [va_rf v1])) rfl rfl hl.1.1 rfl (lv_room (Nat.le_of_ble_eq_true rfl)) dJ6_fixAfterDeletion_155 ⟨(Nat.le_of_ble_eq_true rfl), (Nat.le_of_ble_eq_true rfl)⟩) (gh_out M hex (by exact Nat.le_of_ble_eq_true rfl) (by exact Nat.le_of_ble_eq_true rfl)) (fun r6 h7 H locs hw G => ?_)
  refine lv_iconst (v := (1 : Int32)) hx hb dJ6_fixAfterDeletion_158 (by decide) ?_
  refine gh_kv G (vx_runS M.1 (met_J6_setColor l D _ _ _ _ _ _ hw M.2.2.2.2.2) (va_cwS 2 (gh_Mts M) (lw_S q1058 q1059 q48 q1060) rfl rfl rfl ⟨by decide, by decide, rfl⟩ ⟨Nat.le_of_ble_eq_true rfl, Nat.le_of_ble_eq_true rfl⟩) (gh_pre M G (As := [va_rf r6, .int (1 : Int32)])) rfl rfl hl.1.1 rfl (lv_room (Nat.le_of_ble_eq_true rfl)) dJ6_fixAfterDeletion_159 ⟨(Nat.le_of_ble_eq_true rfl), (Nat.le_of_ble_eq_true rfl)⟩) (gh_out M hex (by exact Nat.le_of_ble_eq_true rfl) (by exact Nat.le_of_ble_eq_true rfl)) (fun h8 H locs hw G => ?_)
  refine gh_aload_n hx hb dJ6_fixAfterDeletion_162 rfl (gh_at hl 2 rfl) ?_
  refine gh_kq G (vx_runS M.1 (met_J6_rightOf l D _ _ _ _ _ hw M.2.2.2.2.2) (va_cwS 1 (gh_Mts M) (lw_S q1052 q1053 q48 q1054) rfl rfl rfl ⟨by decide, by decide, rfl⟩ ⟨Nat.le_of_ble_eq_true rfl, Nat.le_of_ble_eq_true rfl⟩) (gh_pre M G (As := [va_rf v2])) rfl rfl hl.1.1 rfl (lv_room (Nat.le_of_ble_eq_true rfl)) dJ6_fixAfterDeletion_163 ⟨(Nat.le_of_ble_eq_true rfl), (Nat.le_of_ble_eq_true rfl)⟩) (gh_out M hex (by exact Nat.le_of_ble_eq_true rfl) (by exact Nat.le_of_ble_eq_true rfl)) (fun r9 h10 H locs hw G => ?_)
  refine lv_iconst (v := (1 : Int32)) hx hb dJ6_fixAfterDeletion_166 (by decide) ?_
  refine gh_kv G (vx_runS M.1 (met_J6_setColor l D _ _ _ _ _ _ hw M.2.2.2.2.2) (va_cwS 2 (gh_Mts M) (lw_S q1058 q1059 q48 q1060) rfl rfl rfl ⟨by decide, by decide, rfl⟩ ⟨Nat.le_of_ble_eq_true rfl, Nat.le_of_ble_eq_true rfl⟩) (gh_pre M G (As := [va_rf r9, .int (1 : Int32)])) rfl rfl hl.1.1 rfl (lv_room (Nat.le_of_ble_eq_true rfl)) dJ6_fixAfterDeletion_167 ⟨(Nat.le_of_ble_eq_true rfl), (Nat.le_of_ble_eq_true rfl)⟩) (gh_out M hex (by exact Nat.le_of_ble_eq_true rfl) (by exact Nat.le_of_ble_eq_true rfl)) (fun h11 H locs hw G => ?_)
  refine gh_aload_n hx hb dJ6_fixAfterDeletion_170 rfl (gh_at hl 0 rfl) ?_
  refine gh_aload_n hx hb dJ6_fixAfterDeletion_171 rfl (gh_at hl 1 rfl) ?_
  refine gh_kq G (vx_runS M.1 (met_J6_parentOf l D _ _ _ _ _ hw M.2.2.2.2.2) (va_cwS 1 (gh_Mts M) (lw_S q1046 q1047 q48 q1048) rfl rfl rfl ⟨by decide, by decide, rfl⟩ ⟨Nat.le_of_ble_eq_true rfl, Nat.le_of_ble_eq_true rfl⟩) (gh_pre M G (As := [va_rf v1])) rfl rfl hl.1.1 rfl (lv_room (Nat.le_trans (gh_r1 (gh_cat _) gh_r0) (Nat.le_of_ble_eq_true rfl : 1 ≤ 8))) dJ6_fixAfterDeletion_172 ⟨(Nat.le_of_ble_eq_true rfl), (Nat.le_of_ble_eq_true rfl)⟩) (gh_out M hex (by exact Nat.le_of_ble_eq_true rfl) (by exact Nat.le_of_ble_eq_true rfl)) (fun r12 h13 H locs hw G => ?_)
  obtain ⟨a14, lba14, fsa14, hra14, haa14, hw⟩ := hw
  rw [← Option.some.inj hra14] at haa14
  refine gh_kv G (vx_runV M.1 (met_J6_rotateLeft l D _ _ _ _ _ _ hw M.2.2.2.2.2) (cwV 1 (gh_Mts M) (lw_V q1061 q1063 qs13 q48 q1064) rfl rfl rfl ⟨rfl, by decide, by decide, rfl⟩ ⟨Nat.le_of_ble_eq_true rfl, Nat.le_of_ble_eq_true rfl⟩) (gh_preV (As := [va_rf r12]) M G (gh_rec M G haa14 rfl)) rfl rfl hl.1.1 rfl (lv_room (Nat.le_of_ble_eq_true rfl)) dJ6_fixAfterDeletion_175 ⟨(Nat.le_of_ble_eq_true rfl), (Nat.le_of_ble_eq_true rfl)⟩) (gh_out M hex (by exact Nat.le_of_ble_eq_true rfl) (by exact Nat.le_of_ble_eq_true rfl)) (fun h15 H locs hw G => ?_)
  refine gh_aload_n hx hb dJ6_fixAfterDeletion_178 rfl (gh_at hl 0 rfl) ?_
  refine gh_getR M G hw fl_J6_101 dJ6_fixAfterDeletion_179 (fun x16 hw => ?_)
  refine gh_astore_n (lv' := [(1, 1, va_rf x16), (0, 1, va_rf (some v0)), (2, 1, va_rf v2)]) hx hb dJ6_fixAfterDeletion_182 rfl hl (by decide) rfl (fun ls hl => ?_)
  exact wk_J6_fixAfterDeletion_183 M hr hex k0 v0 x16 _ _ _ _ G (gh_sub hl [1, 0] rfl) hw
set_option maxHeartbeats 4000000 in
theorem wk_J6_fixAfterDeletion_106 {D : gh_D} {p : Program} {l : Launch} {e : Env} {s : State} {m : MethodId} {args : Array Value} {below : List Frame} {meth : Method} {c : Code} {h0 : gh_H} (M : gh_M D p l s m args meth c RJ6 cJ6_fixAfterDeletion 3 (gh_A h0 s.heap.size)) (hr : meth.sig.returnType = none) (hex : ∀ x ∈ c.exceptionTable.toList, False) {K0 : Nat → Option Nat → gh_H → Prop}  {Q : gh_H → Prop} {X : String → gh_H → Prop} (k0 : ∀ (v0 : Nat) (v1 : Option Nat) (H : Heap) (locs : List Loc) (ls : Array Slot) (h : gh_H) (_ : gh_Inv D h0 (gh_A h0 s.heap.size) s.heap s H locs h) (_ : gh_L ls 3 [(0, 1, va_rf (some v0)), (1, 1, va_rf v1)]) (_ : K0 v0 v1 h), W p l e rm_J6_fixAfterDeletion s m args below meth c H locs 0 0 (vx_MQ below (gh_Qv Q D h0 s.heap.size) (gh_X X D h0 s.heap.size) args s 0 0 (gh_A h0 s.heap.size)) (F0 m 0 ls []))  (v0 : Nat) (v1 : Option Nat) (v2 : Option Nat) (H : Heap) (locs : List Loc) (ls : Array Slot) (h : gh_H) (G : gh_Inv D h0 (gh_A h0 s.heap.size) s.heap s H locs h) (hl : gh_L ls 3 [(0, 1, va_rf (some v0)), (1, 1, va_rf v1), (2, 1, va_rf v2)]) (hw : wb_J6_fixAfterDeletion_106 D.2.2 K0 Q X v0 v1 v2 h) : W p l e rm_J6_fixAfterDeletion s m args below meth c H locs 0 0 (vx_MQ below (gh_Qv Q D h0 s.heap.size) (gh_X X D h0 s.heap.size) args s 0 0 (gh_A h0 s.heap.size)) (F0 m 106 ls []) := by
  unfold wb_J6_fixAfterDeletion_106 at hw
  have hx := M.1.1
  have hb := M.1.2.1
  refine gh_aload_n hx hb dJ6_fixAfterDeletion_106 rfl (gh_at hl 2 rfl) ?_
  refine gh_kq G (vx_runS M.1 (met_J6_rightOf l D _ _ _ _ _ hw M.2.2.2.2.2) (va_cwS 1 (gh_Mts M) (lw_S q1052 q1053 q48 q1054) rfl rfl rfl ⟨by decide, by decide, rfl⟩ ⟨Nat.le_of_ble_eq_true rfl, Nat.le_of_ble_eq_true rfl⟩) (gh_pre M G (As := [va_rf v2])) rfl rfl hl.1.1 rfl (lv_room (Nat.le_of_ble_eq_true rfl)) dJ6_fixAfterDeletion_107 ⟨(Nat.le_of_ble_eq_true rfl), (Nat.le_of_ble_eq_true rfl)⟩) (gh_out M hex (by exact Nat.le_of_ble_eq_true rfl) (by exact Nat.le_of_ble_eq_true rfl)) (fun r1 h2 H locs hw G => ?_)
  refine gh_ki G (vx_runS M.1 (met_J6_colorOf l D _ _ _ _ _ hw M.2.2.2.2.2) (va_cwS 1 (gh_Mts M) (lw_S q1055 q1056 q48 q1057) rfl rfl rfl ⟨by decide, by decide, rfl⟩ ⟨Nat.le_of_ble_eq_true rfl, Nat.le_of_ble_eq_true rfl⟩) (gh_pre M G (As := [va_rf r1])) rfl rfl hl.1.1 rfl (lv_room (Nat.le_of_ble_eq_true rfl)) dJ6_fixAfterDeletion_110 ⟨(Nat.le_of_ble_eq_true rfl), (Nat.le_of_ble_eq_true rfl)⟩) (gh_out M hex (by exact Nat.le_of_ble_eq_true rfl) (by exact Nat.le_of_ble_eq_true rfl)) (fun r3 h4 H locs hw G => ?_)
  refine lv_iconst (v := (1 : Int32)) hx hb dJ6_fixAfterDeletion_113 (by decide) ?_
  refine lv_icmp_ne (tgt := 143) hx hb dJ6_fixAfterDeletion_114 (by decide) (fun hc => ?_) (fun hc => ?_)
  · replace hw := hw.2 hc
    exact wk_J6_fixAfterDeletion_143 M hr hex k0 v0 v1 v2 _ _ _ _ G (gh_sub hl [0, 1, 2] rfl) hw
  · replace hw := hw.1 hc
    refine gh_aload_n hx hb dJ6_fixAfterDeletion_117 rfl (gh_at hl 2 rfl) ?_
    refine gh_kq G (vx_runS M.1 (met_J6_leftOf l D _ _ _ _ _ hw M.2.2.2.2.2) (va_cwS 1 (gh_Mts M) (lw_S q1049 q1050 q48 q1051) rfl rfl rfl ⟨by decide, by decide, rfl⟩ ⟨Nat.le_of_ble_eq_true rfl, Nat.le_of_ble_eq_true rfl⟩) (gh_pre M G (As := [va_rf v2])) rfl rfl hl.1.1 rfl (lv_room (Nat.le_of_ble_eq_true rfl)) dJ6_fixAfterDeletion_118 ⟨(Nat.le_of_ble_eq_true rfl), (Nat.le_of_ble_eq_true rfl)⟩) (gh_out M hex (by exact Nat.le_of_ble_eq_true rfl) (by exact Nat.le_of_ble_eq_true rfl)) (fun r5 h6 H locs hw G => ?_)
    refine lv_iconst (v := (1 : Int32)) hx hb dJ6_fixAfterDeletion_121 (by decide) ?_
    refine gh_kv G (vx_runS M.1 (met_J6_setColor l D _ _ _ _ _ _ hw M.2.2.2.2.2) (va_cwS 2 (gh_Mts M) (lw_S q1058 q1059 q48 q1060) rfl rfl rfl ⟨by decide, by decide, rfl⟩ ⟨Nat.le_of_ble_eq_true rfl, Nat.le_of_ble_eq_true rfl⟩) (gh_pre M G (As := [va_rf r5, .int (1 : Int32)])) rfl rfl hl.1.1 rfl (lv_room (Nat.le_of_ble_eq_true rfl)) dJ6_fixAfterDeletion_122 ⟨(Nat.le_of_ble_eq_true rfl), (Nat.le_of_ble_eq_true rfl)⟩) (gh_out M hex (by exact Nat.le_of_ble_eq_true rfl) (by exact Nat.le_of_ble_eq_true rfl)) (fun h7 H locs hw G => ?_)
    refine gh_aload_n hx hb dJ6_fixAfterDeletion_125 rfl (gh_at hl 2 rfl) ?_
    refine lv_iconst (v := (0 : Int32)) hx hb dJ6_fixAfterDeletion_126 (by decide) ?_
    refine gh_kv G (vx_runS M.1 (met_J6_setColor l D _ _ _ _ _ _ hw M.2.2.2.2.2) (va_cwS 2 (gh_Mts M) (lw_S q1058 q1059 q48 q1060) rfl rfl rfl ⟨by decide, by decide, rfl⟩ ⟨Nat.le_of_ble_eq_true rfl, Nat.le_of_ble_eq_true rfl⟩) (gh_pre M G (As := [va_rf v2, .int (0 : Int32)])) rfl rfl hl.1.1 rfl (lv_room (Nat.le_of_ble_eq_true rfl)) dJ6_fixAfterDeletion_127 ⟨(Nat.le_of_ble_eq_true rfl), (Nat.le_of_ble_eq_true rfl)⟩) (gh_out M hex (by exact Nat.le_of_ble_eq_true rfl) (by exact Nat.le_of_ble_eq_true rfl)) (fun h8 H locs hw G => ?_)
    refine gh_aload_n hx hb dJ6_fixAfterDeletion_130 rfl (gh_at hl 0 rfl) ?_
    refine gh_aload_n hx hb dJ6_fixAfterDeletion_131 rfl (gh_at hl 2 rfl) ?_
    obtain ⟨a9, lba9, fsa9, hra9, haa9, hw⟩ := hw
    rw [← Option.some.inj hra9] at haa9
    refine gh_kv G (vx_runV M.1 (met_J6_rotateRight l D _ _ _ _ _ _ hw M.2.2.2.2.2) (cwV 1 (gh_Mts M) (lw_V q1065 q1067 qs14 q48 q1068) rfl rfl rfl ⟨rfl, by decide, by decide, rfl⟩ ⟨Nat.le_of_ble_eq_true rfl, Nat.le_of_ble_eq_true rfl⟩) (gh_preV (As := [va_rf v2]) M G (gh_rec M G haa9 rfl)) rfl rfl hl.1.1 rfl (lv_room (Nat.le_of_ble_eq_true rfl)) dJ6_fixAfterDeletion_132 ⟨(Nat.le_of_ble_eq_true rfl), (Nat.le_of_ble_eq_true rfl)⟩) (gh_out M hex (by exact Nat.le_of_ble_eq_true rfl) (by exact Nat.le_of_ble_eq_true rfl)) (fun h10 H locs hw G => ?_)
    refine gh_aload_n hx hb dJ6_fixAfterDeletion_135 rfl (gh_at hl 1 rfl) ?_
    refine gh_kq G (vx_runS M.1 (met_J6_parentOf l D _ _ _ _ _ hw M.2.2.2.2.2) (va_cwS 1 (gh_Mts M) (lw_S q1046 q1047 q48 q1048) rfl rfl rfl ⟨by decide, by decide, rfl⟩ ⟨Nat.le_of_ble_eq_true rfl, Nat.le_of_ble_eq_true rfl⟩) (gh_pre M G (As := [va_rf v1])) rfl rfl hl.1.1 rfl (lv_room (Nat.le_of_ble_eq_true rfl)) dJ6_fixAfterDeletion_136 ⟨(Nat.le_of_ble_eq_true rfl), (Nat.le_of_ble_eq_true rfl)⟩) (gh_out M hex (by exact Nat.le_of_ble_eq_true rfl) (by exact Nat.le_of_ble_eq_true rfl)) (fun r11 h12 H locs hw G => ?_)
    refine gh_kq G (vx_runS M.1 (met_J6_rightOf l D _ _ _ _ _ hw M.2.2.2.2.2) (va_cwS 1 (gh_Mts M) (lw_S q1052 q1053 q48 q1054) rfl rfl rfl ⟨by decide, by decide, rfl⟩ ⟨Nat.le_of_ble_eq_true rfl, Nat.le_of_ble_eq_true rfl⟩) (gh_pre M G (As := [va_rf r11])) rfl rfl hl.1.1 rfl (lv_room (Nat.le_of_ble_eq_true rfl)) dJ6_fixAfterDeletion_139 ⟨(Nat.le_of_ble_eq_true rfl), (Nat.le_of_ble_eq_true rfl)⟩) (gh_out M hex (by exact Nat.le_of_ble_eq_true rfl) (by exact Nat.le_of_ble_eq_true rfl)) (fun r13 h14 H locs hw G => ?_)
    refine gh_astore_n (lv' := [(2, 1, va_rf r13), (0, 1, va_rf (some v0)), (1, 1, va_rf v1)]) hx hb dJ6_fixAfterDeletion_142 rfl hl (by decide) rfl (fun ls hl => ?_)
    exact wk_J6_fixAfterDeletion_143 M hr hex k0 v0 v1 r13 _ _ _ _ G (gh_sub hl [1, 2, 0] rfl) hw
set_option maxHeartbeats 4000000 in
theorem wk_J6_fixAfterDeletion_71 {D : gh_D} {p : Program} {l : Launch} {e : Env} {s : State} {m : MethodId} {args : Array Value} {below : List Frame} {meth : Method} {c : Code} {h0 : gh_H} (M : gh_M D p l s m args meth c RJ6 cJ6_fixAfterDeletion 3 (gh_A h0 s.heap.size)) (hr : meth.sig.returnType = none) (hex : ∀ x ∈ c.exceptionTable.toList, False) {K0 : Nat → Option Nat → gh_H → Prop}  {Q : gh_H → Prop} {X : String → gh_H → Prop} (k0 : ∀ (v0 : Nat) (v1 : Option Nat) (H : Heap) (locs : List Loc) (ls : Array Slot) (h : gh_H) (_ : gh_Inv D h0 (gh_A h0 s.heap.size) s.heap s H locs h) (_ : gh_L ls 3 [(0, 1, va_rf (some v0)), (1, 1, va_rf v1)]) (_ : K0 v0 v1 h), W p l e rm_J6_fixAfterDeletion s m args below meth c H locs 0 0 (vx_MQ below (gh_Qv Q D h0 s.heap.size) (gh_X X D h0 s.heap.size) args s 0 0 (gh_A h0 s.heap.size)) (F0 m 0 ls []))  (v0 : Nat) (v1 : Option Nat) (v2 : Option Nat) (H : Heap) (locs : List Loc) (ls : Array Slot) (h : gh_H) (G : gh_Inv D h0 (gh_A h0 s.heap.size) s.heap s H locs h) (hl : gh_L ls 3 [(0, 1, va_rf (some v0)), (1, 1, va_rf v1), (2, 1, va_rf v2)]) (hw : wb_J6_fixAfterDeletion_71 D.2.2 K0 Q X v0 v1 v2 h) : W p l e rm_J6_fixAfterDeletion s m args below meth c H locs 0 0 (vx_MQ below (gh_Qv Q D h0 s.heap.size) (gh_X X D h0 s.heap.size) args s 0 0 (gh_A h0 s.heap.size)) (F0 m 71 ls []) := by
  unfold wb_J6_fixAfterDeletion_71 at hw
  have hx := M.1.1
  have hb := M.1.2.1
  refine gh_aload_n hx hb dJ6_fixAfterDeletion_71 rfl (gh_at hl 2 rfl) ?_
  refine gh_kq G (vx_runS M.1 (met_J6_leftOf l D _ _ _ _ _ hw M.2.2.2.2.2) (va_cwS 1 (gh_Mts M) (lw_S q1049 q1050 q48 q1051) rfl rfl rfl ⟨by decide, by decide, rfl⟩ ⟨Nat.le_of_ble_eq_true rfl, Nat.le_of_ble_eq_true rfl⟩) (gh_pre M G (As := [va_rf v2])) rfl rfl hl.1.1 rfl (lv_room (Nat.le_of_ble_eq_true rfl)) dJ6_fixAfterDeletion_72 ⟨(Nat.le_of_ble_eq_true rfl), (Nat.le_of_ble_eq_true rfl)⟩) (gh_out M hex (by exact Nat.le_of_ble_eq_true rfl) (by exact Nat.le_of_ble_eq_true rfl)) (fun r1 h2 H locs hw G => ?_)
  refine gh_ki G (vx_runS M.1 (met_J6_colorOf l D _ _ _ _ _ hw M.2.2.2.2.2) (va_cwS 1 (gh_Mts M) (lw_S q1055 q1056 q48 q1057) rfl rfl rfl ⟨by decide, by decide, rfl⟩ ⟨Nat.le_of_ble_eq_true rfl, Nat.le_of_ble_eq_true rfl⟩) (gh_pre M G (As := [va_rf r1])) rfl rfl hl.1.1 rfl (lv_room (Nat.le_of_ble_eq_true rfl)) dJ6_fixAfterDeletion_75 ⟨(Nat.le_of_ble_eq_true rfl), (Nat.le_of_ble_eq_true rfl)⟩) (gh_out M hex (by exact Nat.le_of_ble_eq_true rfl) (by exact Nat.le_of_ble_eq_true rfl)) (fun r3 h4 H locs hw G => ?_)
  refine lv_iconst (v := (1 : Int32)) hx hb dJ6_fixAfterDeletion_78 (by decide) ?_
  refine lv_icmp_ne (tgt := 106) hx hb dJ6_fixAfterDeletion_79 (by decide) (fun hc => ?_) (fun hc => ?_)
  · replace hw := hw.2 hc
    exact wk_J6_fixAfterDeletion_106 M hr hex k0 v0 v1 v2 _ _ _ _ G (gh_sub hl [0, 1, 2] rfl) hw
  · replace hw := hw.1 hc
    refine gh_aload_n hx hb dJ6_fixAfterDeletion_82 rfl (gh_at hl 2 rfl) ?_
    refine gh_kq G (vx_runS M.1 (met_J6_rightOf l D _ _ _ _ _ hw M.2.2.2.2.2) (va_cwS 1 (gh_Mts M) (lw_S q1052 q1053 q48 q1054) rfl rfl rfl ⟨by decide, by decide, rfl⟩ ⟨Nat.le_of_ble_eq_true rfl, Nat.le_of_ble_eq_true rfl⟩) (gh_pre M G (As := [va_rf v2])) rfl rfl hl.1.1 rfl (lv_room (Nat.le_of_ble_eq_true rfl)) dJ6_fixAfterDeletion_83 ⟨(Nat.le_of_ble_eq_true rfl), (Nat.le_of_ble_eq_true rfl)⟩) (gh_out M hex (by exact Nat.le_of_ble_eq_true rfl) (by exact Nat.le_of_ble_eq_true rfl)) (fun r5 h6 H locs hw G => ?_)
    refine gh_ki G (vx_runS M.1 (met_J6_colorOf l D _ _ _ _ _ hw M.2.2.2.2.2) (va_cwS 1 (gh_Mts M) (lw_S q1055 q1056 q48 q1057) rfl rfl rfl ⟨by decide, by decide, rfl⟩ ⟨Nat.le_of_ble_eq_true rfl, Nat.le_of_ble_eq_true rfl⟩) (gh_pre M G (As := [va_rf r5])) rfl rfl hl.1.1 rfl (lv_room (Nat.le_of_ble_eq_true rfl)) dJ6_fixAfterDeletion_86 ⟨(Nat.le_of_ble_eq_true rfl), (Nat.le_of_ble_eq_true rfl)⟩) (gh_out M hex (by exact Nat.le_of_ble_eq_true rfl) (by exact Nat.le_of_ble_eq_true rfl)) (fun r7 h8 H locs hw G => ?_)
    refine lv_iconst (v := (1 : Int32)) hx hb dJ6_fixAfterDeletion_89 (by decide) ?_
    refine lv_icmp_ne (tgt := 106) hx hb dJ6_fixAfterDeletion_90 (by decide) (fun hc => ?_) (fun hc => ?_)
    · replace hw := hw.2 hc
      exact wk_J6_fixAfterDeletion_106 M hr hex k0 v0 v1 v2 _ _ _ _ G (gh_sub hl [0, 1, 2] rfl) hw
    · replace hw := hw.1 hc
      refine gh_aload_n hx hb dJ6_fixAfterDeletion_93 rfl (gh_at hl 2 rfl) ?_
      refine lv_iconst (v := (0 : Int32)) hx hb dJ6_fixAfterDeletion_94 (by decide) ?_
      refine gh_kv G (vx_runS M.1 (met_J6_setColor l D _ _ _ _ _ _ hw M.2.2.2.2.2) (va_cwS 2 (gh_Mts M) (lw_S q1058 q1059 q48 q1060) rfl rfl rfl ⟨by decide, by decide, rfl⟩ ⟨Nat.le_of_ble_eq_true rfl, Nat.le_of_ble_eq_true rfl⟩) (gh_pre M G (As := [va_rf v2, .int (0 : Int32)])) rfl rfl hl.1.1 rfl (lv_room (Nat.le_of_ble_eq_true rfl)) dJ6_fixAfterDeletion_95 ⟨(Nat.le_of_ble_eq_true rfl), (Nat.le_of_ble_eq_true rfl)⟩) (gh_out M hex (by exact Nat.le_of_ble_eq_true rfl) (by exact Nat.le_of_ble_eq_true rfl)) (fun h9 H locs hw G => ?_)
      refine gh_aload_n hx hb dJ6_fixAfterDeletion_98 rfl (gh_at hl 1 rfl) ?_
      refine gh_kq G (vx_runS M.1 (met_J6_parentOf l D _ _ _ _ _ hw M.2.2.2.2.2) (va_cwS 1 (gh_Mts M) (lw_S q1046 q1047 q48 q1048) rfl rfl rfl ⟨by decide, by decide, rfl⟩ ⟨Nat.le_of_ble_eq_true rfl, Nat.le_of_ble_eq_true rfl⟩) (gh_pre M G (As := [va_rf v1])) rfl rfl hl.1.1 rfl (lv_room (Nat.le_of_ble_eq_true rfl)) dJ6_fixAfterDeletion_99 ⟨(Nat.le_of_ble_eq_true rfl), (Nat.le_of_ble_eq_true rfl)⟩) (gh_out M hex (by exact Nat.le_of_ble_eq_true rfl) (by exact Nat.le_of_ble_eq_true rfl)) (fun r10 h11 H locs hw G => ?_)
      refine gh_astore_n (lv' := [(1, 1, va_rf r10), (0, 1, va_rf (some v0)), (2, 1, va_rf v2)]) hx hb dJ6_fixAfterDeletion_102 rfl hl (by decide) rfl (fun ls hl => ?_)
      refine lv_goto (tgt := 183) hx hb dJ6_fixAfterDeletion_103 (by decide) ?_
      exact wk_J6_fixAfterDeletion_183 M hr hex k0 v0 r10 _ _ _ _ G (gh_sub hl [1, 0] rfl) hw
set_option maxHeartbeats 4000000 in
theorem wk1_J6_fixAfterDeletion_0 {D : gh_D} {p : Program} {l : Launch} {e : Env} {s : State} {m : MethodId} {args : Array Value} {below : List Frame} {meth : Method} {c : Code} {h0 : gh_H} (M : gh_M D p l s m args meth c RJ6 cJ6_fixAfterDeletion 3 (gh_A h0 s.heap.size)) (hr : meth.sig.returnType = none) (hex : ∀ x ∈ c.exceptionTable.toList, False) {K0 : Nat → Option Nat → gh_H → Prop}  {Q : gh_H → Prop} {X : String → gh_H → Prop} (k0 : ∀ (v0 : Nat) (v1 : Option Nat) (H : Heap) (locs : List Loc) (ls : Array Slot) (h : gh_H) (_ : gh_Inv D h0 (gh_A h0 s.heap.size) s.heap s H locs h) (_ : gh_L ls 3 [(0, 1, va_rf (some v0)), (1, 1, va_rf v1)]) (_ : K0 v0 v1 h), W p l e rm_J6_fixAfterDeletion s m args below meth c H locs 0 0 (vx_MQ below (gh_Qv Q D h0 s.heap.size) (gh_X X D h0 s.heap.size) args s 0 0 (gh_A h0 s.heap.size)) (F0 m 0 ls []))  (v0 : Nat) (v1 : Option Nat) (H : Heap) (locs : List Loc) (ls : Array Slot) (h : gh_H) (G : gh_Inv D h0 (gh_A h0 s.heap.size) s.heap s H locs h) (hl : gh_L ls 3 [(0, 1, va_rf (some v0)), (1, 1, va_rf v1)]) (hw : wb_J6_fixAfterDeletion_0 D.2.2 K0 Q X v0 v1 h) : W p l e rm_J6_fixAfterDeletion s m args below meth c H locs 0 0 (vx_MQ below (gh_Qv Q D h0 s.heap.size) (gh_X X D h0 s.heap.size) args s 0 0 (gh_A h0 s.heap.size)) (F0 m 0 ls []) := by
  unfold wb_J6_fixAfterDeletion_0 at hw
  have hx := M.1.1
  have hb := M.1.2.1
  refine gh_aload_n hx hb dJ6_fixAfterDeletion_0 rfl (gh_at hl 1 rfl) ?_
  refine gh_aload_n hx hb dJ6_fixAfterDeletion_1 rfl (gh_at hl 0 rfl) ?_
  refine gh_getR M G hw fl_J6_101 dJ6_fixAfterDeletion_2 (fun x1 hw => ?_)
  refine lv_acmp_eq (rx := v1) (ry := x1) (tgt := 345) hx hb dJ6_fixAfterDeletion_5 (by decide) (fun hc => ?_) (fun hc => ?_)
  · replace hw := hw.1 hc
    exact wk_J6_fixAfterDeletion_345 M hr hex  v1 _ _ _ _ G (gh_sub hl [1] rfl) hw
  · replace hw := hw.2 hc
    refine gh_aload_n hx hb dJ6_fixAfterDeletion_8 rfl (gh_at hl 1 rfl) ?_
    refine gh_ki G (vx_runS M.1 (met_J6_colorOf l D _ _ _ _ _ hw M.2.2.2.2.2) (va_cwS 1 (gh_Mts M) (lw_S q1055 q1056 q48 q1057) rfl rfl rfl ⟨by decide, by decide, rfl⟩ ⟨Nat.le_of_ble_eq_true rfl, Nat.le_of_ble_eq_true rfl⟩) (gh_pre M G (As := [va_rf v1])) rfl rfl hl.1.1 rfl (lv_room (Nat.le_of_ble_eq_true rfl)) dJ6_fixAfterDeletion_9 ⟨(Nat.le_of_ble_eq_true rfl), (Nat.le_of_ble_eq_true rfl)⟩) (gh_out M hex (by exact Nat.le_of_ble_eq_true rfl) (by exact Nat.le_of_ble_eq_true rfl)) (fun r2 h3 H locs hw G => ?_)
    refine lv_iconst (v := (1 : Int32)) hx hb dJ6_fixAfterDeletion_12 (by decide) ?_
    refine lv_icmp_ne (tgt := 345) hx hb dJ6_fixAfterDeletion_13 (by decide) (fun hc => ?_) (fun hc => ?_)
    · replace hw := hw.2 hc
      exact wk_J6_fixAfterDeletion_345 M hr hex  v1 _ _ _ _ G (gh_sub hl [1] rfl) hw
    · replace hw := hw.1 hc
      refine gh_aload_n hx hb dJ6_fixAfterDeletion_16 rfl (gh_at hl 1 rfl) ?_
      refine gh_aload_n hx hb dJ6_fixAfterDeletion_17 rfl (gh_at hl 1 rfl) ?_
      refine gh_kq G (vx_runS M.1 (met_J6_parentOf l D _ _ _ _ _ hw M.2.2.2.2.2) (va_cwS 1 (gh_Mts M) (lw_S q1046 q1047 q48 q1048) rfl rfl rfl ⟨by decide, by decide, rfl⟩ ⟨Nat.le_of_ble_eq_true rfl, Nat.le_of_ble_eq_true rfl⟩) (gh_pre M G (As := [va_rf v1])) rfl rfl hl.1.1 rfl (lv_room (Nat.le_trans (gh_r1 (gh_cat _) gh_r0) (Nat.le_of_ble_eq_true rfl : 1 ≤ 8))) dJ6_fixAfterDeletion_18 ⟨(Nat.le_of_ble_eq_true rfl), (Nat.le_of_ble_eq_true rfl)⟩) (gh_out M hex (by exact Nat.le_of_ble_eq_true rfl) (by exact Nat.le_of_ble_eq_true rfl)) (fun r4 h5 H locs hw G => ?_)
      refine gh_kq G (vx_runS M.1 (met_J6_leftOf l D _ _ _ _ _ hw M.2.2.2.2.2) (va_cwS 1 (gh_Mts M) (lw_S q1049 q1050 q48 q1051) rfl rfl rfl ⟨by decide, by decide, rfl⟩ ⟨Nat.le_of_ble_eq_true rfl, Nat.le_of_ble_eq_true rfl⟩) (gh_pre M G (As := [va_rf r4])) rfl rfl hl.1.1 rfl (lv_room (Nat.le_trans (gh_r1 (gh_cat _) gh_r0) (Nat.le_of_ble_eq_true rfl : 1 ≤ 8))) dJ6_fixAfterDeletion_21 ⟨(Nat.le_of_ble_eq_true rfl), (Nat.le_of_ble_eq_true rfl)⟩) (gh_out M hex (by exact Nat.le_of_ble_eq_true rfl) (by exact Nat.le_of_ble_eq_true rfl)) (fun r6 h7 H locs hw G => ?_)
      refine lv_acmp_ne (rx := v1) (ry := r6) (tgt := 186) hx hb dJ6_fixAfterDeletion_24 (by decide) (fun hc => ?_) (fun hc => ?_)
      · replace hw := hw.2 hc
        refine gh_aload_n hx hb dJ6_fixAfterDeletion_186 rfl (gh_at hl 1 rfl) ?_
        refine gh_kq G (vx_runS M.1 (met_J6_parentOf l D _ _ _ _ _ hw M.2.2.2.2.2) (va_cwS 1 (gh_Mts M) (lw_S q1046 q1047 q48 q1048) rfl rfl rfl ⟨by decide, by decide, rfl⟩ ⟨Nat.le_of_ble_eq_true rfl, Nat.le_of_ble_eq_true rfl⟩) (gh_pre M G (As := [va_rf v1])) rfl rfl hl.1.1 rfl (lv_room (Nat.le_of_ble_eq_true rfl)) dJ6_fixAfterDeletion_187 ⟨(Nat.le_of_ble_eq_true rfl), (Nat.le_of_ble_eq_true rfl)⟩) (gh_out M hex (by exact Nat.le_of_ble_eq_true rfl) (by exact Nat.le_of_ble_eq_true rfl)) (fun r8 h9 H locs hw G => ?_)
        refine gh_kq G (vx_runS M.1 (met_J6_leftOf l D _ _ _ _ _ hw M.2.2.2.2.2) (va_cwS 1 (gh_Mts M) (lw_S q1049 q1050 q48 q1051) rfl rfl rfl ⟨by decide, by decide, rfl⟩ ⟨Nat.le_of_ble_eq_true rfl, Nat.le_of_ble_eq_true rfl⟩) (gh_pre M G (As := [va_rf r8])) rfl rfl hl.1.1 rfl (lv_room (Nat.le_of_ble_eq_true rfl)) dJ6_fixAfterDeletion_190 ⟨(Nat.le_of_ble_eq_true rfl), (Nat.le_of_ble_eq_true rfl)⟩) (gh_out M hex (by exact Nat.le_of_ble_eq_true rfl) (by exact Nat.le_of_ble_eq_true rfl)) (fun r10 h11 H locs hw G => ?_)
        refine gh_astore_n (lv' := [(2, 1, va_rf r10), (0, 1, va_rf (some v0)), (1, 1, va_rf v1)]) hx hb dJ6_fixAfterDeletion_193 rfl hl (by decide) rfl (fun ls hl => ?_)
        refine gh_aload_n hx hb dJ6_fixAfterDeletion_194 rfl (gh_at hl 0 rfl) ?_
        refine gh_ki G (vx_runS M.1 (met_J6_colorOf l D _ _ _ _ _ hw M.2.2.2.2.2) (va_cwS 1 (gh_Mts M) (lw_S q1055 q1056 q48 q1057) rfl rfl rfl ⟨by decide, by decide, rfl⟩ ⟨Nat.le_of_ble_eq_true rfl, Nat.le_of_ble_eq_true rfl⟩) (gh_pre M G (As := [va_rf r10])) rfl rfl hl.1.1 rfl (lv_room (Nat.le_of_ble_eq_true rfl)) dJ6_fixAfterDeletion_195 ⟨(Nat.le_of_ble_eq_true rfl), (Nat.le_of_ble_eq_true rfl)⟩) (gh_out M hex (by exact Nat.le_of_ble_eq_true rfl) (by exact Nat.le_of_ble_eq_true rfl)) (fun r12 h13 H locs hw G => ?_)
        refine lv_if_ne (tgt := 230) hx hb dJ6_fixAfterDeletion_198 (by decide) (fun hc => ?_) (fun hc => ?_)
        · replace hw := hw.2 hc
          exact wk_J6_fixAfterDeletion_230 M hr hex k0 v0 v1 r10 _ _ _ _ G (gh_sub hl [1, 2, 0] rfl) hw
        · replace hw := hw.1 hc
          refine gh_aload_n hx hb dJ6_fixAfterDeletion_201 rfl (gh_at hl 0 rfl) ?_
          refine lv_iconst (v := (1 : Int32)) hx hb dJ6_fixAfterDeletion_202 (by decide) ?_
          refine gh_kv G (vx_runS M.1 (met_J6_setColor l D _ _ _ _ _ _ hw M.2.2.2.2.2) (va_cwS 2 (gh_Mts M) (lw_S q1058 q1059 q48 q1060) rfl rfl rfl ⟨by decide, by decide, rfl⟩ ⟨Nat.le_of_ble_eq_true rfl, Nat.le_of_ble_eq_true rfl⟩) (gh_pre M G (As := [va_rf r10, .int (1 : Int32)])) rfl rfl hl.1.1 rfl (lv_room (Nat.le_of_ble_eq_true rfl)) dJ6_fixAfterDeletion_203 ⟨(Nat.le_of_ble_eq_true rfl), (Nat.le_of_ble_eq_true rfl)⟩) (gh_out M hex (by exact Nat.le_of_ble_eq_true rfl) (by exact Nat.le_of_ble_eq_true rfl)) (fun h14 H locs hw G => ?_)
          refine gh_aload_n hx hb dJ6_fixAfterDeletion_206 rfl (gh_at hl 2 rfl) ?_
          refine gh_kq G (vx_runS M.1 (met_J6_parentOf l D _ _ _ _ _ hw M.2.2.2.2.2) (va_cwS 1 (gh_Mts M) (lw_S q1046 q1047 q48 q1048) rfl rfl rfl ⟨by decide, by decide, rfl⟩ ⟨Nat.le_of_ble_eq_true rfl, Nat.le_of_ble_eq_true rfl⟩) (gh_pre M G (As := [va_rf v1])) rfl rfl hl.1.1 rfl (lv_room (Nat.le_of_ble_eq_true rfl)) dJ6_fixAfterDeletion_207 ⟨(Nat.le_of_ble_eq_true rfl), (Nat.le_of_ble_eq_true rfl)⟩) (gh_out M hex (by exact Nat.le_of_ble_eq_true rfl) (by exact Nat.le_of_ble_eq_true rfl)) (fun r15 h16 H locs hw G => ?_)
          refine lv_iconst (v := (0 : Int32)) hx hb dJ6_fixAfterDeletion_210 (by decide) ?_
          refine gh_kv G (vx_runS M.1 (met_J6_setColor l D _ _ _ _ _ _ hw M.2.2.2.2.2) (va_cwS 2 (gh_Mts M) (lw_S q1058 q1059 q48 q1060) rfl rfl rfl ⟨by decide, by decide, rfl⟩ ⟨Nat.le_of_ble_eq_true rfl, Nat.le_of_ble_eq_true rfl⟩) (gh_pre M G (As := [va_rf r15, .int (0 : Int32)])) rfl rfl hl.1.1 rfl (lv_room (Nat.le_of_ble_eq_true rfl)) dJ6_fixAfterDeletion_211 ⟨(Nat.le_of_ble_eq_true rfl), (Nat.le_of_ble_eq_true rfl)⟩) (gh_out M hex (by exact Nat.le_of_ble_eq_true rfl) (by exact Nat.le_of_ble_eq_true rfl)) (fun h17 H locs hw G => ?_)
          refine gh_aload_n hx hb dJ6_fixAfterDeletion_214 rfl (gh_at hl 1 rfl) ?_
          refine gh_aload_n hx hb dJ6_fixAfterDeletion_215 rfl (gh_at hl 2 rfl) ?_
          refine gh_kq G (vx_runS M.1 (met_J6_parentOf l D _ _ _ _ _ hw M.2.2.2.2.2) (va_cwS 1 (gh_Mts M) (lw_S q1046 q1047 q48 q1048) rfl rfl rfl ⟨by decide, by decide, rfl⟩ ⟨Nat.le_of_ble_eq_true rfl, Nat.le_of_ble_eq_true rfl⟩) (gh_pre M G (As := [va_rf v1])) rfl rfl hl.1.1 rfl (lv_room (Nat.le_trans (gh_r1 (gh_cat _) gh_r0) (Nat.le_of_ble_eq_true rfl : 1 ≤ 8))) dJ6_fixAfterDeletion_216 ⟨(Nat.le_of_ble_eq_true rfl), (Nat.le_of_ble_eq_true rfl)⟩) (gh_out M hex (by exact Nat.le_of_ble_eq_true rfl) (by exact Nat.le_of_ble_eq_true rfl)) (fun r18 h19 H locs hw G => ?_)
          obtain ⟨a20, lba20, fsa20, hra20, haa20, hw⟩ := hw
          rw [← Option.some.inj hra20] at haa20
          refine gh_kv G (vx_runV M.1 (met_J6_rotateRight l D _ _ _ _ _ _ hw M.2.2.2.2.2) (cwV 1 (gh_Mts M) (lw_V q1065 q1067 qs14 q48 q1068) rfl rfl rfl ⟨rfl, by decide, by decide, rfl⟩ ⟨Nat.le_of_ble_eq_true rfl, Nat.le_of_ble_eq_true rfl⟩) (gh_preV (As := [va_rf r18]) M G (gh_rec M G haa20 rfl)) rfl rfl hl.1.1 rfl (lv_room (Nat.le_of_ble_eq_true rfl)) dJ6_fixAfterDeletion_219 ⟨(Nat.le_of_ble_eq_true rfl), (Nat.le_of_ble_eq_true rfl)⟩) (gh_out M hex (by exact Nat.le_of_ble_eq_true rfl) (by exact Nat.le_of_ble_eq_true rfl)) (fun h21 H locs hw G => ?_)
          refine gh_aload_n hx hb dJ6_fixAfterDeletion_222 rfl (gh_at hl 2 rfl) ?_
          refine gh_kq G (vx_runS M.1 (met_J6_parentOf l D _ _ _ _ _ hw M.2.2.2.2.2) (va_cwS 1 (gh_Mts M) (lw_S q1046 q1047 q48 q1048) rfl rfl rfl ⟨by decide, by decide, rfl⟩ ⟨Nat.le_of_ble_eq_true rfl, Nat.le_of_ble_eq_true rfl⟩) (gh_pre M G (As := [va_rf v1])) rfl rfl hl.1.1 rfl (lv_room (Nat.le_of_ble_eq_true rfl)) dJ6_fixAfterDeletion_223 ⟨(Nat.le_of_ble_eq_true rfl), (Nat.le_of_ble_eq_true rfl)⟩) (gh_out M hex (by exact Nat.le_of_ble_eq_true rfl) (by exact Nat.le_of_ble_eq_true rfl)) (fun r22 h23 H locs hw G => ?_)
          refine gh_kq G (vx_runS M.1 (met_J6_leftOf l D _ _ _ _ _ hw M.2.2.2.2.2) (va_cwS 1 (gh_Mts M) (lw_S q1049 q1050 q48 q1051) rfl rfl rfl ⟨by decide, by decide, rfl⟩ ⟨Nat.le_of_ble_eq_true rfl, Nat.le_of_ble_eq_true rfl⟩) (gh_pre M G (As := [va_rf r22])) rfl rfl hl.1.1 rfl (lv_room (Nat.le_of_ble_eq_true rfl)) dJ6_fixAfterDeletion_226 ⟨(Nat.le_of_ble_eq_true rfl), (Nat.le_of_ble_eq_true rfl)⟩) (gh_out M hex (by exact Nat.le_of_ble_eq_true rfl) (by exact Nat.le_of_ble_eq_true rfl)) (fun r24 h25 H locs hw G => ?_)
          refine gh_astore_n (lv' := [(2, 1, va_rf r24), (0, 1, va_rf (some v0)), (1, 1, va_rf v1)]) hx hb dJ6_fixAfterDeletion_229 rfl hl (by decide) rfl (fun ls hl => ?_)
          exact wk_J6_fixAfterDeletion_230 M hr hex k0 v0 v1 r24 _ _ _ _ G (gh_sub hl [1, 2, 0] rfl) hw
      · replace hw := hw.1 hc
        refine gh_aload_n hx hb dJ6_fixAfterDeletion_27 rfl (gh_at hl 1 rfl) ?_
        refine gh_kq G (vx_runS M.1 (met_J6_parentOf l D _ _ _ _ _ hw M.2.2.2.2.2) (va_cwS 1 (gh_Mts M) (lw_S q1046 q1047 q48 q1048) rfl rfl rfl ⟨by decide, by decide, rfl⟩ ⟨Nat.le_of_ble_eq_true rfl, Nat.le_of_ble_eq_true rfl⟩) (gh_pre M G (As := [va_rf v1])) rfl rfl hl.1.1 rfl (lv_room (Nat.le_of_ble_eq_true rfl)) dJ6_fixAfterDeletion_28 ⟨(Nat.le_of_ble_eq_true rfl), (Nat.le_of_ble_eq_true rfl)⟩) (gh_out M hex (by exact Nat.le_of_ble_eq_true rfl) (by exact Nat.le_of_ble_eq_true rfl)) (fun r26 h27 H locs hw G => ?_)
        refine gh_kq G (vx_runS M.1 (met_J6_rightOf l D _ _ _ _ _ hw M.2.2.2.2.2) (va_cwS 1 (gh_Mts M) (lw_S q1052 q1053 q48 q1054) rfl rfl rfl ⟨by decide, by decide, rfl⟩ ⟨Nat.le_of_ble_eq_true rfl, Nat.le_of_ble_eq_true rfl⟩) (gh_pre M G (As := [va_rf r26])) rfl rfl hl.1.1 rfl (lv_room (Nat.le_of_ble_eq_true rfl)) dJ6_fixAfterDeletion_31 ⟨(Nat.le_of_ble_eq_true rfl), (Nat.le_of_ble_eq_true rfl)⟩) (gh_out M hex (by exact Nat.le_of_ble_eq_true rfl) (by exact Nat.le_of_ble_eq_true rfl)) (fun r28 h29 H locs hw G => ?_)
        refine gh_astore_n (lv' := [(2, 1, va_rf r28), (0, 1, va_rf (some v0)), (1, 1, va_rf v1)]) hx hb dJ6_fixAfterDeletion_34 rfl hl (by decide) rfl (fun ls hl => ?_)
        refine gh_aload_n hx hb dJ6_fixAfterDeletion_35 rfl (gh_at hl 0 rfl) ?_
        refine gh_ki G (vx_runS M.1 (met_J6_colorOf l D _ _ _ _ _ hw M.2.2.2.2.2) (va_cwS 1 (gh_Mts M) (lw_S q1055 q1056 q48 q1057) rfl rfl rfl ⟨by decide, by decide, rfl⟩ ⟨Nat.le_of_ble_eq_true rfl, Nat.le_of_ble_eq_true rfl⟩) (gh_pre M G (As := [va_rf r28])) rfl rfl hl.1.1 rfl (lv_room (Nat.le_of_ble_eq_true rfl)) dJ6_fixAfterDeletion_36 ⟨(Nat.le_of_ble_eq_true rfl), (Nat.le_of_ble_eq_true rfl)⟩) (gh_out M hex (by exact Nat.le_of_ble_eq_true rfl) (by exact Nat.le_of_ble_eq_true rfl)) (fun r30 h31 H locs hw G => ?_)
        refine lv_if_ne (tgt := 71) hx hb dJ6_fixAfterDeletion_39 (by decide) (fun hc => ?_) (fun hc => ?_)
        · replace hw := hw.2 hc
          exact wk_J6_fixAfterDeletion_71 M hr hex k0 v0 v1 r28 _ _ _ _ G (gh_sub hl [1, 2, 0] rfl) hw
        · replace hw := hw.1 hc
          refine gh_aload_n hx hb dJ6_fixAfterDeletion_42 rfl (gh_at hl 0 rfl) ?_
          refine lv_iconst (v := (1 : Int32)) hx hb dJ6_fixAfterDeletion_43 (by decide) ?_
          refine gh_kv G (vx_runS M.1 (met_J6_setColor l D _ _ _ _ _ _ hw M.2.2.2.2.2) (va_cwS 2 (gh_Mts M) (lw_S q1058 q1059 q48 q1060) rfl rfl rfl ⟨by decide, by decide, rfl⟩ ⟨Nat.le_of_ble_eq_true rfl, Nat.le_of_ble_eq_true rfl⟩) (gh_pre M G (As := [va_rf r28, .int (1 : Int32)])) rfl rfl hl.1.1 rfl (lv_room (Nat.le_of_ble_eq_true rfl)) dJ6_fixAfterDeletion_44 ⟨(Nat.le_of_ble_eq_true rfl), (Nat.le_of_ble_eq_true rfl)⟩) (gh_out M hex (by exact Nat.le_of_ble_eq_true rfl) (by exact Nat.le_of_ble_eq_true rfl)) (fun h32 H locs hw G => ?_)
          refine gh_aload_n hx hb dJ6_fixAfterDeletion_47 rfl (gh_at hl 2 rfl) ?_
          refine gh_kq G (vx_runS M.1 (met_J6_parentOf l D _ _ _ _ _ hw M.2.2.2.2.2) (va_cwS 1 (gh_Mts M) (lw_S q1046 q1047 q48 q1048) rfl rfl rfl ⟨by decide, by decide, rfl⟩ ⟨Nat.le_of_ble_eq_true rfl, Nat.le_of_ble_eq_true rfl⟩) (gh_pre M G (As := [va_rf v1])) rfl rfl hl.1.1 rfl (lv_room (Nat.le_of_ble_eq_true rfl)) dJ6_fixAfterDeletion_48 ⟨(Nat.le_of_ble_eq_true rfl), (Nat.le_of_ble_eq_true rfl)⟩) (gh_out M hex (by exact Nat.le_of_ble_eq_true rfl) (by exact Nat.le_of_ble_eq_true rfl)) (fun r33 h34 H locs hw G => ?_)
          refine lv_iconst (v := (0 : Int32)) hx hb dJ6_fixAfterDeletion_51 (by decide) ?_
          refine gh_kv G (vx_runS M.1 (met_J6_setColor l D _ _ _ _ _ _ hw M.2.2.2.2.2) (va_cwS 2 (gh_Mts M) (lw_S q1058 q1059 q48 q1060) rfl rfl rfl ⟨by decide, by decide, rfl⟩ ⟨Nat.le_of_ble_eq_true rfl, Nat.le_of_ble_eq_true rfl⟩) (gh_pre M G (As := [va_rf r33, .int (0 : Int32)])) rfl rfl hl.1.1 rfl (lv_room (Nat.le_of_ble_eq_true rfl)) dJ6_fixAfterDeletion_52 ⟨(Nat.le_of_ble_eq_true rfl), (Nat.le_of_ble_eq_true rfl)⟩) (gh_out M hex (by exact Nat.le_of_ble_eq_true rfl) (by exact Nat.le_of_ble_eq_true rfl)) (fun h35 H locs hw G => ?_)
          refine gh_aload_n hx hb dJ6_fixAfterDeletion_55 rfl (gh_at hl 1 rfl) ?_
          refine gh_aload_n hx hb dJ6_fixAfterDeletion_56 rfl (gh_at hl 2 rfl) ?_
          refine gh_kq G (vx_runS M.1 (met_J6_parentOf l D _ _ _ _ _ hw M.2.2.2.2.2) (va_cwS 1 (gh_Mts M) (lw_S q1046 q1047 q48 q1048) rfl rfl rfl ⟨by decide, by decide, rfl⟩ ⟨Nat.le_of_ble_eq_true rfl, Nat.le_of_ble_eq_true rfl⟩) (gh_pre M G (As := [va_rf v1])) rfl rfl hl.1.1 rfl (lv_room (Nat.le_trans (gh_r1 (gh_cat _) gh_r0) (Nat.le_of_ble_eq_true rfl : 1 ≤ 8))) dJ6_fixAfterDeletion_57 ⟨(Nat.le_of_ble_eq_true rfl), (Nat.le_of_ble_eq_true rfl)⟩) (gh_out M hex (by exact Nat.le_of_ble_eq_true rfl) (by exact Nat.le_of_ble_eq_true rfl)) (fun r36 h37 H locs hw G => ?_)
          obtain ⟨a38, lba38, fsa38, hra38, haa38, hw⟩ := hw
          rw [← Option.some.inj hra38] at haa38
          refine gh_kv G (vx_runV M.1 (met_J6_rotateLeft l D _ _ _ _ _ _ hw M.2.2.2.2.2) (cwV 1 (gh_Mts M) (lw_V q1061 q1063 qs13 q48 q1064) rfl rfl rfl ⟨rfl, by decide, by decide, rfl⟩ ⟨Nat.le_of_ble_eq_true rfl, Nat.le_of_ble_eq_true rfl⟩) (gh_preV (As := [va_rf r36]) M G (gh_rec M G haa38 rfl)) rfl rfl hl.1.1 rfl (lv_room (Nat.le_of_ble_eq_true rfl)) dJ6_fixAfterDeletion_60 ⟨(Nat.le_of_ble_eq_true rfl), (Nat.le_of_ble_eq_true rfl)⟩) (gh_out M hex (by exact Nat.le_of_ble_eq_true rfl) (by exact Nat.le_of_ble_eq_true rfl)) (fun h39 H locs hw G => ?_)
          refine gh_aload_n hx hb dJ6_fixAfterDeletion_63 rfl (gh_at hl 2 rfl) ?_
          refine gh_kq G (vx_runS M.1 (met_J6_parentOf l D _ _ _ _ _ hw M.2.2.2.2.2) (va_cwS 1 (gh_Mts M) (lw_S q1046 q1047 q48 q1048) rfl rfl rfl ⟨by decide, by decide, rfl⟩ ⟨Nat.le_of_ble_eq_true rfl, Nat.le_of_ble_eq_true rfl⟩) (gh_pre M G (As := [va_rf v1])) rfl rfl hl.1.1 rfl (lv_room (Nat.le_of_ble_eq_true rfl)) dJ6_fixAfterDeletion_64 ⟨(Nat.le_of_ble_eq_true rfl), (Nat.le_of_ble_eq_true rfl)⟩) (gh_out M hex (by exact Nat.le_of_ble_eq_true rfl) (by exact Nat.le_of_ble_eq_true rfl)) (fun r40 h41 H locs hw G => ?_)
          refine gh_kq G (vx_runS M.1 (met_J6_rightOf l D _ _ _ _ _ hw M.2.2.2.2.2) (va_cwS 1 (gh_Mts M) (lw_S q1052 q1053 q48 q1054) rfl rfl rfl ⟨by decide, by decide, rfl⟩ ⟨Nat.le_of_ble_eq_true rfl, Nat.le_of_ble_eq_true rfl⟩) (gh_pre M G (As := [va_rf r40])) rfl rfl hl.1.1 rfl (lv_room (Nat.le_of_ble_eq_true rfl)) dJ6_fixAfterDeletion_67 ⟨(Nat.le_of_ble_eq_true rfl), (Nat.le_of_ble_eq_true rfl)⟩) (gh_out M hex (by exact Nat.le_of_ble_eq_true rfl) (by exact Nat.le_of_ble_eq_true rfl)) (fun r42 h43 H locs hw G => ?_)
          refine gh_astore_n (lv' := [(2, 1, va_rf r42), (0, 1, va_rf (some v0)), (1, 1, va_rf v1)]) hx hb dJ6_fixAfterDeletion_70 rfl hl (by decide) rfl (fun ls hl => ?_)
          exact wk_J6_fixAfterDeletion_71 M hr hex k0 v0 v1 r42 _ _ _ _ G (gh_sub hl [1, 2, 0] rfl) hw
theorem wk_J6_fixAfterDeletion_0 {D : gh_D} {p : Program} {l : Launch} {e : Env} {s : State} {m : MethodId} {args : Array Value} {below : List Frame} {meth : Method} {c : Code} {h0 : gh_H} (M : gh_M D p l s m args meth c RJ6 cJ6_fixAfterDeletion 3 (gh_A h0 s.heap.size)) (hr : meth.sig.returnType = none) (hex : ∀ x ∈ c.exceptionTable.toList, False)   {Q : gh_H → Prop} {X : String → gh_H → Prop}   : ∀ (n : Nat) (v0 : Nat) (v1 : Option Nat) (H : Heap) (locs : List Loc) (ls : Array Slot) (h : gh_H) (_ : gh_Inv D h0 (gh_A h0 s.heap.size) s.heap s H locs h) (_ : gh_L ls 3 [(0, 1, va_rf (some v0)), (1, 1, va_rf v1)]) (_ : wl_J6_fixAfterDeletion_0 D.2.2 Q X n v0 v1 h), W p l e rm_J6_fixAfterDeletion s m args below meth c H locs 0 0 (vx_MQ below (gh_Qv Q D h0 s.heap.size) (gh_X X D h0 s.heap.size) args s 0 0 (gh_A h0 s.heap.size)) (F0 m 0 ls []) := by
  intro fu
  induction fu with
  | zero => intro v0 v1 H locs ls h G hl hw; exact False.elim hw
  | succ n1 ih =>
    intro v0 v1 H locs ls h G hl hw
    exact wk1_J6_fixAfterDeletion_0 M hr hex ih  v0 v1 _ _ _ _ G hl hw
set_option maxHeartbeats 4000000 in
theorem met_J6_fixAfterDeletion (l : Launch) (D : gh_D) (v0 : Nat) (v1 : Option Nat) (Q : gh_H → Prop) (X : String → gh_H → Prop) (h : gh_H) (sz : Nat) (hw : wp_J6_fixAfterDeletion D.2.2 v0 v1 Q X h) (hst : l.stackTraces = false) : vx_Met l yJ6_fixAfterDeletion (ws_ yJ6_fixAfterDeletion cJ6_fixAfterDeletion 3 none) rm_J6_fixAfterDeletion (gh_Pc D h sz [.ref v0, va_rf v1]) (gh_Qv Q D h sz) (gh_X X D h sz) 0 0 (gh_A h sz) := by
  refine vx_ofW (by decide) rfl (fun p e s m args below meth c s₁ B hml hex hP => ?_)
  obtain ⟨rfl, rfl, hK, hT, hE, G⟩ := gh_start hP
  have M : gh_M D p l s m _ meth c RJ6 cJ6_fixAfterDeletion 3 (gh_A h s.heap.size) := ⟨⟨B.exec, B.bytes, hml, findClass_of_methodNamed B.named, fun w hw => atoms_spec (ws := ws_ yJ6_fixAfterDeletion cJ6_fixAfterDeletion 3 none) B.pre w (List.mem_cons_of_mem _ hw)⟩, hK, hT, hE, B.notSynchronized, hst⟩
  have hr := B.returns
  have hx := M.1.1
  have hb := M.1.2.1
  refine gh_enter (vs := [(1, .ref v0), (1, va_rf v1)]) (gh_w1 rfl (gh_w1 (gh_cat _) gh_wn)) (Nat.le_of_ble_eq_true rfl) (fun ls hl => ?_)
  replace hl : gh_L ls 3 [(0, 1, va_rf (some v0)), (1, 1, va_rf v1)] := hl
  unfold wp_J6_fixAfterDeletion at hw
  obtain ⟨n, hw⟩ := hw
  exact wk_J6_fixAfterDeletion_0 M hr hex  n v0 v1 _ _ _ _ G (gh_sub hl [0, 1] rfl) hw
/-! java/util/TreeMap.deleteEntry (Ljava/util/TreeMap$Entry;)V -/
theorem fp_J6_105 : gh_FP RJ6 105 [(12, 0)] (.object "java/lang/Object") false := by
  refine ⟨fl_J6_105, fun q hq => ?_⟩
  simp only [List.mem_cons, List.not_mem_nil, or_false] at hq
  subst hq
  exact ⟨_, rfl, rfl, by decide +kernel, fun h => by cases h⟩
def rm_J6_deleteEntry : Room := { frames := 3, cells := 0, slots := 0, locals := 84 }
def wb_J6_deleteEntry_245 (κ : Nat → Nat)  (Q : gh_H → Prop) (X : String → gh_H → Prop)  (h : gh_H) : Prop := (Q h)
def wb_J6_deleteEntry_240 (κ : Nat → Nat)  (Q : gh_H → Prop) (X : String → gh_H → Prop) (v1 : Option Nat) (h : gh_H) : Prop := (gh_PV h v1 [(12, 4)] (va_rf none) (fun h1 => wb_J6_deleteEntry_245 κ Q X h1))
def wb_J6_deleteEntry_192 (κ : Nat → Nat)  (Q : gh_H → Prop) (X : String → gh_H → Prop) (v1 : Option Nat) (h : gh_H) : Prop := (gh_GR h v1 [(12, 4)] (fun x1 => ((x1 = none → wb_J6_deleteEntry_245 κ Q X h) ∧ (¬ x1 = none → (gh_GR h v1 [(12, 4)] (fun x2 => (gh_GR h x2 [(12, 2)] (fun x3 => ((v1 = x3 → (gh_GR h v1 [(12, 4)] (fun x8 => (gh_PV h x8 [(12, 2)] (va_rf none) (fun h9 => wb_J6_deleteEntry_240 κ Q X v1 h9))))) ∧ (¬ v1 = x3 → (gh_GR h v1 [(12, 4)] (fun x4 => (gh_GR h x4 [(12, 3)] (fun x5 => ((v1 = x5 → (gh_GR h v1 [(12, 4)] (fun x6 => (gh_PV h x6 [(12, 3)] (va_rf none) (fun h7 => wb_J6_deleteEntry_240 κ Q X v1 h7))))) ∧ (¬ v1 = x5 → wb_J6_deleteEntry_240 κ Q X v1 h))))))))))))))))
def wb_J6_deleteEntry_133 (κ : Nat → Nat)  (Q : gh_H → Prop) (X : String → gh_H → Prop) (v0 : Nat) (v1 : Option Nat) (v2 : Option Nat) (h : gh_H) : Prop := (gh_PV h v1 [(12, 4)] (va_rf none) (fun h1 => (gh_PV h1 v1 [(12, 3)] (va_rf none) (fun h2 => (gh_PV h2 v1 [(12, 2)] (va_rf none) (fun h3 => (gh_GI h3 v1 [(12, 5)] (fun x4 => ((x4 = (1 : Int32) → (gh_RC h3 (some v0) 11 (fun _ => (wp_J6_fixAfterDeletion κ v0 v2 (fun h6 => wb_J6_deleteEntry_245 κ Q X h6) X h3)))) ∧ (¬ x4 = (1 : Int32) → wb_J6_deleteEntry_245 κ Q X h3))))))))))
def wb_J6_deleteEntry_75 (κ : Nat → Nat)  (Q : gh_H → Prop) (X : String → gh_H → Prop) (v0 : Nat) (v1 : Option Nat) (t0 : Option Nat) (h : gh_H) : Prop := ((t0 = none → (gh_GR h v1 [(12, 4)] (fun x1 => ((x1 = none → (gh_PV h (some v0) [(11, 3)] (va_rf none) (fun h5 => wb_J6_deleteEntry_245 κ Q X h5))) ∧ (¬ x1 = none → (gh_GI h v1 [(12, 5)] (fun x2 => ((x2 = (1 : Int32) → (gh_RC h (some v0) 11 (fun _ => (wp_J6_fixAfterDeletion κ v0 v1 (fun h4 => wb_J6_deleteEntry_192 κ Q X v1 h4) X h)))) ∧ (¬ x2 = (1 : Int32) → wb_J6_deleteEntry_192 κ Q X v1 h))))))))) ∧ (¬ t0 = none → (gh_GR h v1 [(12, 4)] (fun x6 => (gh_PV h t0 [(12, 4)] (va_rf x6) (fun h7 => (gh_GR h7 v1 [(12, 4)] (fun x8 => ((x8 = none → (gh_PV h7 (some v0) [(11, 3)] (va_rf t0) (fun h15 => wb_J6_deleteEntry_133 κ Q X v0 v1 t0 h15))) ∧ (¬ x8 = none → (gh_GR h7 v1 [(12, 4)] (fun x9 => (gh_GR h7 x9 [(12, 2)] (fun x10 => ((v1 = x10 → (gh_GR h7 v1 [(12, 4)] (fun x13 => (gh_PV h7 x13 [(12, 2)] (va_rf t0) (fun h14 => wb_J6_deleteEntry_133 κ Q X v0 v1 t0 h14))))) ∧ (¬ v1 = x10 → (gh_GR h7 v1 [(12, 4)] (fun x11 => (gh_PV h7 x11 [(12, 3)] (va_rf t0) (fun h12 => wb_J6_deleteEntry_133 κ Q X v0 v1 t0 h12))))))))))))))))))))
def wb_J6_deleteEntry_57 (κ : Nat → Nat)  (Q : gh_H → Prop) (X : String → gh_H → Prop) (v0 : Nat) (v1 : Option Nat) (h : gh_H) : Prop := (gh_GR h v1 [(12, 2)] (fun x1 => ((x1 = none → (gh_GR h v1 [(12, 3)] (fun x2 => wb_J6_deleteEntry_75 κ Q X v0 v1 x2 h))) ∧ (¬ x1 = none → (gh_GR h v1 [(12, 2)] (fun x3 => wb_J6_deleteEntry_75 κ Q X v0 v1 x3 h))))))
def wp_J6_deleteEntry (κ : Nat → Nat) (v0 : Nat) (v1 : Option Nat) (Q : gh_H → Prop) (X : String → gh_H → Prop) (h : gh_H) : Prop := (gh_GI h (some v0) [(11, 5)] (fun x1 => (gh_PV h (some v0) [(11, 5)] (.int (x1 + (1 : Int32))) (fun h2 => (gh_GI h2 (some v0) [(11, 4)] (fun x3 => (gh_PV h2 (some v0) [(11, 4)] (.int (x3 - (1 : Int32))) (fun h4 => (gh_GR h4 v1 [(12, 2)] (fun x5 => ((x5 = none → wb_J6_deleteEntry_57 κ Q X v0 v1 h4) ∧ (¬ x5 = none → (gh_GR h4 v1 [(12, 3)] (fun x6 => ((x6 = none → wb_J6_deleteEntry_57 κ Q X v0 v1 h4) ∧ (¬ x6 = none → (wp_J6_successor κ v1 (fun r7 h8 => (gh_GR h8 r7 [(12, 0)] (fun x9 => (gh_PV h8 v1 [(12, 0)] (va_rf x9) (fun h10 => (gh_GR h10 r7 [(12, 1)] (fun x11 => (gh_PV h10 v1 [(12, 1)] (va_rf x11) (fun h12 => wb_J6_deleteEntry_57 κ Q X v0 r7 h12))))))))) X h4)))))))))))))))))
set_option maxHeartbeats 4000000 in
theorem wk_J6_deleteEntry_245 {D : gh_D} {p : Program} {l : Launch} {e : Env} {s : State} {m : MethodId} {args : Array Value} {below : List Frame} {meth : Method} {c : Code} {h0 : gh_H} (M : gh_M D p l s m args meth c RJ6 cJ6_deleteEntry 3 (gh_A h0 s.heap.size)) (hr : meth.sig.returnType = none) (hex : ∀ x ∈ c.exceptionTable.toList, False)   {Q : gh_H → Prop} {X : String → gh_H → Prop}    (H : Heap) (locs : List Loc) (ls : Array Slot) (h : gh_H) (G : gh_Inv D h0 (gh_A h0 s.heap.size) s.heap s H locs h) (hl : gh_L ls 3 []) (hw : wb_J6_deleteEntry_245 D.2.2 Q X h) : W p l e rm_J6_deleteEntry s m args below meth c H locs 0 0 (vx_MQ below (gh_Qv Q D h0 s.heap.size) (gh_X X D h0 s.heap.size) args s 0 0 (gh_A h0 s.heap.size)) (F0 m 245 ls []) := by
  unfold wb_J6_deleteEntry_245 at hw
  have hx := M.1.1
  have hb := M.1.2.1
  exact gh_vret M G hr hw (by exact Nat.le_of_ble_eq_true rfl) (by exact Nat.le_of_ble_eq_true rfl) dJ6_deleteEntry_245
set_option maxHeartbeats 4000000 in
theorem wk_J6_deleteEntry_240 {D : gh_D} {p : Program} {l : Launch} {e : Env} {s : State} {m : MethodId} {args : Array Value} {below : List Frame} {meth : Method} {c : Code} {h0 : gh_H} (M : gh_M D p l s m args meth c RJ6 cJ6_deleteEntry 3 (gh_A h0 s.heap.size)) (hr : meth.sig.returnType = none) (hex : ∀ x ∈ c.exceptionTable.toList, False)   {Q : gh_H → Prop} {X : String → gh_H → Prop}   (v1 : Option Nat) (H : Heap) (locs : List Loc) (ls : Array Slot) (h : gh_H) (G : gh_Inv D h0 (gh_A h0 s.heap.size) s.heap s H locs h) (hl : gh_L ls 3 [(1, 1, va_rf v1)]) (hw : wb_J6_deleteEntry_240 D.2.2 Q X v1 h) : W p l e rm_J6_deleteEntry s m args below meth c H locs 0 0 (vx_MQ below (gh_Qv Q D h0 s.heap.size) (gh_X X D h0 s.heap.size) args s 0 0 (gh_A h0 s.heap.size)) (F0 m 240 ls []) := by
  unfold wb_J6_deleteEntry_240 at hw
  have hx := M.1.1
  have hb := M.1.2.1
  refine gh_aload_n hx hb dJ6_deleteEntry_240 rfl (gh_at hl 0 rfl) ?_
  refine gh_null hx hb dJ6_deleteEntry_241 ?_
  refine gh_put M G hw fp_J6_124 (gh_narR _ _) (gh_fitR _ _) dJ6_deleteEntry_242 (fun h1 H locs hw G => ?_)
  exact wk_J6_deleteEntry_245 M hr hex   _ _ _ _ G (gh_sub hl [] rfl) hw
set_option maxHeartbeats 4000000 in
theorem wk_J6_deleteEntry_192 {D : gh_D} {p : Program} {l : Launch} {e : Env} {s : State} {m : MethodId} {args : Array Value} {below : List Frame} {meth : Method} {c : Code} {h0 : gh_H} (M : gh_M D p l s m args meth c RJ6 cJ6_deleteEntry 3 (gh_A h0 s.heap.size)) (hr : meth.sig.returnType = none) (hex : ∀ x ∈ c.exceptionTable.toList, False)   {Q : gh_H → Prop} {X : String → gh_H → Prop}   (v1 : Option Nat) (H : Heap) (locs : List Loc) (ls : Array Slot) (h : gh_H) (G : gh_Inv D h0 (gh_A h0 s.heap.size) s.heap s H locs h) (hl : gh_L ls 3 [(1, 1, va_rf v1)]) (hw : wb_J6_deleteEntry_192 D.2.2 Q X v1 h) : W p l e rm_J6_deleteEntry s m args below meth c H locs 0 0 (vx_MQ below (gh_Qv Q D h0 s.heap.size) (gh_X X D h0 s.heap.size) args s 0 0 (gh_A h0 s.heap.size)) (F0 m 192 ls []) := by
  unfold wb_J6_deleteEntry_192 at hw
  have hx := M.1.1
  have hb := M.1.2.1
  refine gh_aload_n hx hb dJ6_deleteEntry_192 rfl (gh_at hl 0 rfl) ?_
  refine gh_getR M G hw fl_J6_124 dJ6_deleteEntry_193 (fun x1 hw => ?_)
  refine gh_ifnull (tgt := 245) hx hb dJ6_deleteEntry_196 (by decide) (fun hc => ?_) (fun hc => ?_)
  · replace hw := hw.1 hc
    exact wk_J6_deleteEntry_245 M hr hex   _ _ _ _ G (gh_sub hl [] rfl) hw
  · replace hw := hw.2 hc
    refine gh_aload_n hx hb dJ6_deleteEntry_199 rfl (gh_at hl 0 rfl) ?_
    refine gh_aload_n hx hb dJ6_deleteEntry_200 rfl (gh_at hl 0 rfl) ?_
    refine gh_getR M G hw fl_J6_124 dJ6_deleteEntry_201 (fun x2 hw => ?_)
    refine gh_getR M G hw fl_J6_111 dJ6_deleteEntry_204 (fun x3 hw => ?_)
    refine lv_acmp_ne (rx := v1) (ry := x3) (tgt := 221) hx hb dJ6_deleteEntry_207 (by decide) (fun hc => ?_) (fun hc => ?_)
    · replace hw := hw.2 hc
      refine gh_aload_n hx hb dJ6_deleteEntry_221 rfl (gh_at hl 0 rfl) ?_
      refine gh_aload_n hx hb dJ6_deleteEntry_222 rfl (gh_at hl 0 rfl) ?_
      refine gh_getR M G hw fl_J6_124 dJ6_deleteEntry_223 (fun x4 hw => ?_)
      refine gh_getR M G hw fl_J6_114 dJ6_deleteEntry_226 (fun x5 hw => ?_)
      refine lv_acmp_ne (rx := v1) (ry := x5) (tgt := 240) hx hb dJ6_deleteEntry_229 (by decide) (fun hc => ?_) (fun hc => ?_)
      · replace hw := hw.2 hc
        exact wk_J6_deleteEntry_240 M hr hex  v1 _ _ _ _ G (gh_sub hl [0] rfl) hw
      · replace hw := hw.1 hc
        refine gh_aload_n hx hb dJ6_deleteEntry_232 rfl (gh_at hl 0 rfl) ?_
        refine gh_getR M G hw fl_J6_124 dJ6_deleteEntry_233 (fun x6 hw => ?_)
        refine gh_null hx hb dJ6_deleteEntry_236 ?_
        refine gh_put M G hw fp_J6_114 (gh_narR _ _) (gh_fitR _ _) dJ6_deleteEntry_237 (fun h7 H locs hw G => ?_)
        exact wk_J6_deleteEntry_240 M hr hex  v1 _ _ _ _ G (gh_sub hl [0] rfl) hw
    · replace hw := hw.1 hc
      refine gh_aload_n hx hb dJ6_deleteEntry_210 rfl (gh_at hl 0 rfl) ?_
      refine gh_getR M G hw fl_J6_124 dJ6_deleteEntry_211 (fun x8 hw => ?_)
      refine gh_null hx hb dJ6_deleteEntry_214 ?_
      refine gh_put M G hw fp_J6_111 (gh_narR _ _) (gh_fitR _ _) dJ6_deleteEntry_215 (fun h9 H locs hw G => ?_)
      refine lv_goto (tgt := 240) hx hb dJ6_deleteEntry_218 (by decide) ?_
      exact wk_J6_deleteEntry_240 M hr hex  v1 _ _ _ _ G (gh_sub hl [0] rfl) hw
set_option maxHeartbeats 4000000 in
theorem wk_J6_deleteEntry_133 {D : gh_D} {p : Program} {l : Launch} {e : Env} {s : State} {m : MethodId} {args : Array Value} {below : List Frame} {meth : Method} {c : Code} {h0 : gh_H} (M : gh_M D p l s m args meth c RJ6 cJ6_deleteEntry 3 (gh_A h0 s.heap.size)) (hr : meth.sig.returnType = none) (hex : ∀ x ∈ c.exceptionTable.toList, False)   {Q : gh_H → Prop} {X : String → gh_H → Prop}   (v0 : Nat) (v1 : Option Nat) (v2 : Option Nat) (H : Heap) (locs : List Loc) (ls : Array Slot) (h : gh_H) (G : gh_Inv D h0 (gh_A h0 s.heap.size) s.heap s H locs h) (hl : gh_L ls 3 [(0, 1, va_rf (some v0)), (1, 1, va_rf v1), (2, 1, va_rf v2)]) (hw : wb_J6_deleteEntry_133 D.2.2 Q X v0 v1 v2 h) : W p l e rm_J6_deleteEntry s m args below meth c H locs 0 0 (vx_MQ below (gh_Qv Q D h0 s.heap.size) (gh_X X D h0 s.heap.size) args s 0 0 (gh_A h0 s.heap.size)) (F0 m 133 ls []) := by
  unfold wb_J6_deleteEntry_133 at hw
  have hx := M.1.1
  have hb := M.1.2.1
  refine gh_aload_n hx hb dJ6_deleteEntry_133 rfl (gh_at hl 1 rfl) ?_
  refine gh_aload_n hx hb dJ6_deleteEntry_134 rfl (gh_at hl 1 rfl) ?_
  refine gh_aload_n hx hb dJ6_deleteEntry_135 rfl (gh_at hl 1 rfl) ?_
  refine gh_null hx hb dJ6_deleteEntry_136 ?_
  refine lv_dup_x1 hx hb dJ6_deleteEntry_137 (gh_cat _) (gh_cat _) ?_
  refine gh_put M G hw fp_J6_124 (gh_narR _ _) (gh_fitR _ _) dJ6_deleteEntry_138 (fun h1 H locs hw G => ?_)
  refine lv_dup_x1 hx hb dJ6_deleteEntry_141 (gh_cat _) (gh_cat _) ?_
  refine gh_put M G hw fp_J6_114 (gh_narR _ _) (gh_fitR _ _) dJ6_deleteEntry_142 (fun h2 H locs hw G => ?_)
  refine gh_put M G hw fp_J6_111 (gh_narR _ _) (gh_fitR _ _) dJ6_deleteEntry_145 (fun h3 H locs hw G => ?_)
  refine gh_aload_n hx hb dJ6_deleteEntry_148 rfl (gh_at hl 1 rfl) ?_
  refine gh_getI M G hw fl_J6_290 dJ6_deleteEntry_149 (fun x4 hw => ?_)
  refine lv_iconst (v := (1 : Int32)) hx hb dJ6_deleteEntry_152 (by decide) ?_
  refine lv_icmp_ne (tgt := 245) hx hb dJ6_deleteEntry_153 (by decide) (fun hc => ?_) (fun hc => ?_)
  · replace hw := hw.2 hc
    exact wk_J6_deleteEntry_245 M hr hex   _ _ _ _ G (gh_sub hl [] rfl) hw
  · replace hw := hw.1 hc
    refine gh_aload_n hx hb dJ6_deleteEntry_156 rfl (gh_at hl 0 rfl) ?_
    refine gh_aload_n hx hb dJ6_deleteEntry_157 rfl (gh_at hl 2 rfl) ?_
    obtain ⟨a5, lba5, fsa5, hra5, haa5, hw⟩ := hw
    rw [← Option.some.inj hra5] at haa5
    refine gh_kv G (vx_runV M.1 (met_J6_fixAfterDeletion l D _ _ _ _ _ _ hw M.2.2.2.2.2) (cwV 1 (gh_Mts M) (lw_V q1257 q1259 qs17 q48 q1260) rfl rfl rfl ⟨rfl, by decide, by decide, rfl⟩ ⟨Nat.le_of_ble_eq_true rfl, Nat.le_of_ble_eq_true rfl⟩) (gh_preV (As := [va_rf v2]) M G (gh_rec M G haa5 rfl)) rfl rfl hl.1.1 rfl (lv_room (Nat.le_of_ble_eq_true rfl)) dJ6_deleteEntry_158 ⟨(Nat.le_of_ble_eq_true rfl), (Nat.le_of_ble_eq_true rfl)⟩) (gh_out M hex (by exact Nat.le_of_ble_eq_true rfl) (by exact Nat.le_of_ble_eq_true rfl)) (fun h6 H locs hw G => ?_)
    refine lv_goto (tgt := 245) hx hb dJ6_deleteEntry_161 (by decide) ?_
    exact wk_J6_deleteEntry_245 M hr hex   _ _ _ _ G (gh_sub hl [] rfl) hw
set_option maxHeartbeats 4000000 in
theorem wk_J6_deleteEntry_75 {D : gh_D} {p : Program} {l : Launch} {e : Env} {s : State} {m : MethodId} {args : Array Value} {below : List Frame} {meth : Method} {c : Code} {h0 : gh_H} (M : gh_M D p l s m args meth c RJ6 cJ6_deleteEntry 3 (gh_A h0 s.heap.size)) (hr : meth.sig.returnType = none) (hex : ∀ x ∈ c.exceptionTable.toList, False)   {Q : gh_H → Prop} {X : String → gh_H → Prop}   (v0 : Nat) (v1 : Option Nat) (t0 : Option Nat) (H : Heap) (locs : List Loc) (ls : Array Slot) (h : gh_H) (G : gh_Inv D h0 (gh_A h0 s.heap.size) s.heap s H locs h) (hl : gh_L ls 3 [(0, 1, va_rf (some v0)), (1, 1, va_rf v1)]) (hw : wb_J6_deleteEntry_75 D.2.2 Q X v0 v1 t0 h) : W p l e rm_J6_deleteEntry s m args below meth c H locs 0 0 (vx_MQ below (gh_Qv Q D h0 s.heap.size) (gh_X X D h0 s.heap.size) args s 0 0 (gh_A h0 s.heap.size)) (F0 m 75 ls [va_rf t0]) := by
  unfold wb_J6_deleteEntry_75 at hw
  have hx := M.1.1
  have hb := M.1.2.1
  refine gh_astore_n (lv' := [(2, 1, va_rf t0), (0, 1, va_rf (some v0)), (1, 1, va_rf v1)]) hx hb dJ6_deleteEntry_75 rfl hl (by decide) rfl (fun ls hl => ?_)
  refine gh_aload_n hx hb dJ6_deleteEntry_76 rfl (gh_at hl 0 rfl) ?_
  refine gh_ifnull (tgt := 164) hx hb dJ6_deleteEntry_77 (by decide) (fun hc => ?_) (fun hc => ?_)
  · replace hw := hw.1 hc
    refine gh_aload_n hx hb dJ6_deleteEntry_164 rfl (gh_at hl 2 rfl) ?_
    refine gh_getR M G hw fl_J6_124 dJ6_deleteEntry_165 (fun x1 hw => ?_)
    refine gh_ifnonnull (tgt := 179) hx hb dJ6_deleteEntry_168 (by decide) (fun hc => ?_) (fun hc => ?_)
    · replace hw := hw.2 hc
      refine gh_aload_n hx hb dJ6_deleteEntry_179 rfl (gh_at hl 2 rfl) ?_
      refine gh_getI M G hw fl_J6_290 dJ6_deleteEntry_180 (fun x2 hw => ?_)
      refine lv_iconst (v := (1 : Int32)) hx hb dJ6_deleteEntry_183 (by decide) ?_
      refine lv_icmp_ne (tgt := 192) hx hb dJ6_deleteEntry_184 (by decide) (fun hc => ?_) (fun hc => ?_)
      · replace hw := hw.2 hc
        exact wk_J6_deleteEntry_192 M hr hex  v1 _ _ _ _ G (gh_sub hl [2] rfl) hw
      · replace hw := hw.1 hc
        refine gh_aload_n hx hb dJ6_deleteEntry_187 rfl (gh_at hl 1 rfl) ?_
        refine gh_aload_n hx hb dJ6_deleteEntry_188 rfl (gh_at hl 2 rfl) ?_
        obtain ⟨a3, lba3, fsa3, hra3, haa3, hw⟩ := hw
        rw [← Option.some.inj hra3] at haa3
        refine gh_kv G (vx_runV M.1 (met_J6_fixAfterDeletion l D _ _ _ _ _ _ hw M.2.2.2.2.2) (cwV 1 (gh_Mts M) (lw_V q1257 q1259 qs17 q48 q1260) rfl rfl rfl ⟨rfl, by decide, by decide, rfl⟩ ⟨Nat.le_of_ble_eq_true rfl, Nat.le_of_ble_eq_true rfl⟩) (gh_preV (As := [va_rf v1]) M G (gh_rec M G haa3 rfl)) rfl rfl hl.1.1 rfl (lv_room (Nat.le_of_ble_eq_true rfl)) dJ6_deleteEntry_189 ⟨(Nat.le_of_ble_eq_true rfl), (Nat.le_of_ble_eq_true rfl)⟩) (gh_out M hex (by exact Nat.le_of_ble_eq_true rfl) (by exact Nat.le_of_ble_eq_true rfl)) (fun h4 H locs hw G => ?_)
        exact wk_J6_deleteEntry_192 M hr hex  v1 _ _ _ _ G (gh_sub hl [2] rfl) hw
    · replace hw := hw.1 hc
      refine gh_aload_n hx hb dJ6_deleteEntry_171 rfl (gh_at hl 1 rfl) ?_
      refine gh_null hx hb dJ6_deleteEntry_172 ?_
      refine gh_put M G hw fp_J6_101 (gh_narR _ _) (gh_fitR _ _) dJ6_deleteEntry_173 (fun h5 H locs hw G => ?_)
      refine lv_goto (tgt := 245) hx hb dJ6_deleteEntry_176 (by decide) ?_
      exact wk_J6_deleteEntry_245 M hr hex   _ _ _ _ G (gh_sub hl [] rfl) hw
  · replace hw := hw.2 hc
    refine gh_aload_n hx hb dJ6_deleteEntry_80 rfl (gh_at hl 0 rfl) ?_
    refine gh_aload_n hx hb dJ6_deleteEntry_81 rfl (gh_at hl 2 rfl) ?_
    refine gh_getR M G hw fl_J6_124 dJ6_deleteEntry_82 (fun x6 hw => ?_)
    refine gh_put M G hw fp_J6_124 (gh_narR _ _) (gh_fitR _ _) dJ6_deleteEntry_85 (fun h7 H locs hw G => ?_)
    refine gh_aload_n hx hb dJ6_deleteEntry_88 rfl (gh_at hl 2 rfl) ?_
    refine gh_getR M G hw fl_J6_124 dJ6_deleteEntry_89 (fun x8 hw => ?_)
    refine gh_ifnonnull (tgt := 103) hx hb dJ6_deleteEntry_92 (by decide) (fun hc => ?_) (fun hc => ?_)
    · replace hw := hw.2 hc
      refine gh_aload_n hx hb dJ6_deleteEntry_103 rfl (gh_at hl 2 rfl) ?_
      refine gh_aload_n hx hb dJ6_deleteEntry_104 rfl (gh_at hl 2 rfl) ?_
      refine gh_getR M G hw fl_J6_124 dJ6_deleteEntry_105 (fun x9 hw => ?_)
      refine gh_getR M G hw fl_J6_111 dJ6_deleteEntry_108 (fun x10 hw => ?_)
      refine lv_acmp_ne (rx := v1) (ry := x10) (tgt := 125) hx hb dJ6_deleteEntry_111 (by decide) (fun hc => ?_) (fun hc => ?_)
      · replace hw := hw.2 hc
        refine gh_aload_n hx hb dJ6_deleteEntry_125 rfl (gh_at hl 2 rfl) ?_
        refine gh_getR M G hw fl_J6_124 dJ6_deleteEntry_126 (fun x11 hw => ?_)
        refine gh_aload_n hx hb dJ6_deleteEntry_129 rfl (gh_at hl 0 rfl) ?_
        refine gh_put M G hw fp_J6_114 (gh_narR _ _) (gh_fitR _ _) dJ6_deleteEntry_130 (fun h12 H locs hw G => ?_)
        exact wk_J6_deleteEntry_133 M hr hex  v0 v1 t0 _ _ _ _ G (gh_sub hl [1, 2, 0] rfl) hw
      · replace hw := hw.1 hc
        refine gh_aload_n hx hb dJ6_deleteEntry_114 rfl (gh_at hl 2 rfl) ?_
        refine gh_getR M G hw fl_J6_124 dJ6_deleteEntry_115 (fun x13 hw => ?_)
        refine gh_aload_n hx hb dJ6_deleteEntry_118 rfl (gh_at hl 0 rfl) ?_
        refine gh_put M G hw fp_J6_111 (gh_narR _ _) (gh_fitR _ _) dJ6_deleteEntry_119 (fun h14 H locs hw G => ?_)
        refine lv_goto (tgt := 133) hx hb dJ6_deleteEntry_122 (by decide) ?_
        exact wk_J6_deleteEntry_133 M hr hex  v0 v1 t0 _ _ _ _ G (gh_sub hl [1, 2, 0] rfl) hw
    · replace hw := hw.1 hc
      refine gh_aload_n hx hb dJ6_deleteEntry_95 rfl (gh_at hl 1 rfl) ?_
      refine gh_aload_n hx hb dJ6_deleteEntry_96 rfl (gh_at hl 0 rfl) ?_
      refine gh_put M G hw fp_J6_101 (gh_narR _ _) (gh_fitR _ _) dJ6_deleteEntry_97 (fun h15 H locs hw G => ?_)
      refine lv_goto (tgt := 133) hx hb dJ6_deleteEntry_100 (by decide) ?_
      exact wk_J6_deleteEntry_133 M hr hex  v0 v1 t0 _ _ _ _ G (gh_sub hl [1, 2, 0] rfl) hw
set_option maxHeartbeats 4000000 in
theorem wk_J6_deleteEntry_57 {D : gh_D} {p : Program} {l : Launch} {e : Env} {s : State} {m : MethodId} {args : Array Value} {below : List Frame} {meth : Method} {c : Code} {h0 : gh_H} (M : gh_M D p l s m args meth c RJ6 cJ6_deleteEntry 3 (gh_A h0 s.heap.size)) (hr : meth.sig.returnType = none) (hex : ∀ x ∈ c.exceptionTable.toList, False)   {Q : gh_H → Prop} {X : String → gh_H → Prop}   (v0 : Nat) (v1 : Option Nat) (H : Heap) (locs : List Loc) (ls : Array Slot) (h : gh_H) (G : gh_Inv D h0 (gh_A h0 s.heap.size) s.heap s H locs h) (hl : gh_L ls 3 [(0, 1, va_rf (some v0)), (1, 1, va_rf v1)]) (hw : wb_J6_deleteEntry_57 D.2.2 Q X v0 v1 h) : W p l e rm_J6_deleteEntry s m args below meth c H locs 0 0 (vx_MQ below (gh_Qv Q D h0 s.heap.size) (gh_X X D h0 s.heap.size) args s 0 0 (gh_A h0 s.heap.size)) (F0 m 57 ls []) := by
  unfold wb_J6_deleteEntry_57 at hw
  have hx := M.1.1
  have hb := M.1.2.1
  refine gh_aload_n hx hb dJ6_deleteEntry_57 rfl (gh_at hl 1 rfl) ?_
  refine gh_getR M G hw fl_J6_111 dJ6_deleteEntry_58 (fun x1 hw => ?_)
  refine gh_ifnull (tgt := 71) hx hb dJ6_deleteEntry_61 (by decide) (fun hc => ?_) (fun hc => ?_)
  · replace hw := hw.1 hc
    refine gh_aload_n hx hb dJ6_deleteEntry_71 rfl (gh_at hl 1 rfl) ?_
    refine gh_getR M G hw fl_J6_114 dJ6_deleteEntry_72 (fun x2 hw => ?_)
    exact wk_J6_deleteEntry_75 M hr hex  v0 v1 x2 _ _ _ _ G (gh_sub hl [0, 1] rfl) hw
  · replace hw := hw.2 hc
    refine gh_aload_n hx hb dJ6_deleteEntry_64 rfl (gh_at hl 1 rfl) ?_
    refine gh_getR M G hw fl_J6_111 dJ6_deleteEntry_65 (fun x3 hw => ?_)
    refine lv_goto (tgt := 75) hx hb dJ6_deleteEntry_68 (by decide) ?_
    exact wk_J6_deleteEntry_75 M hr hex  v0 v1 x3 _ _ _ _ G (gh_sub hl [0, 1] rfl) hw
set_option maxHeartbeats 4000000 in
theorem met_J6_deleteEntry (l : Launch) (D : gh_D) (v0 : Nat) (v1 : Option Nat) (Q : gh_H → Prop) (X : String → gh_H → Prop) (h : gh_H) (sz : Nat) (hw : wp_J6_deleteEntry D.2.2 v0 v1 Q X h) (hst : l.stackTraces = false) : vx_Met l yJ6_deleteEntry (ws_ yJ6_deleteEntry cJ6_deleteEntry 3 none) rm_J6_deleteEntry (gh_Pc D h sz [.ref v0, va_rf v1]) (gh_Qv Q D h sz) (gh_X X D h sz) 0 0 (gh_A h sz) := by
  refine vx_ofW (by decide) rfl (fun p e s m args below meth c s₁ B hml hex hP => ?_)
  obtain ⟨rfl, rfl, hK, hT, hE, G⟩ := gh_start hP
  have M : gh_M D p l s m _ meth c RJ6 cJ6_deleteEntry 3 (gh_A h s.heap.size) := ⟨⟨B.exec, B.bytes, hml, findClass_of_methodNamed B.named, fun w hw => atoms_spec (ws := ws_ yJ6_deleteEntry cJ6_deleteEntry 3 none) B.pre w (List.mem_cons_of_mem _ hw)⟩, hK, hT, hE, B.notSynchronized, hst⟩
  have hr := B.returns
  have hx := M.1.1
  have hb := M.1.2.1
  refine gh_enter (vs := [(1, .ref v0), (1, va_rf v1)]) (gh_w1 rfl (gh_w1 (gh_cat _) gh_wn)) (Nat.le_of_ble_eq_true rfl) (fun ls hl => ?_)
  replace hl : gh_L ls 3 [(0, 1, va_rf (some v0)), (1, 1, va_rf v1)] := hl
  unfold wp_J6_deleteEntry at hw
  refine gh_aload_n hx hb dJ6_deleteEntry_0 rfl (gh_at hl 0 rfl) ?_
  refine lv_dup hx hb dJ6_deleteEntry_1 (gh_cat _) ?_
  refine gh_getI M G hw fl_J6_13 dJ6_deleteEntry_2 (fun x1 hw => ?_)
  refine lv_iconst (v := (1 : Int32)) hx hb dJ6_deleteEntry_5 (by decide) ?_
  refine lv_iadd hx hb dJ6_deleteEntry_6 ?_
  refine gh_put M G hw fp_J6_13 rfl rfl dJ6_deleteEntry_7 (fun h2 H locs hw G => ?_)
  refine gh_aload_n hx hb dJ6_deleteEntry_10 rfl (gh_at hl 0 rfl) ?_
  refine lv_dup hx hb dJ6_deleteEntry_11 (gh_cat _) ?_
  refine gh_getI M G hw fl_J6_7 dJ6_deleteEntry_12 (fun x3 hw => ?_)
  refine lv_iconst (v := (1 : Int32)) hx hb dJ6_deleteEntry_15 (by decide) ?_
  refine lv_isub hx hb dJ6_deleteEntry_16 ?_
  refine gh_put M G hw fp_J6_7 rfl rfl dJ6_deleteEntry_17 (fun h4 H locs hw G => ?_)
  refine gh_aload_n hx hb dJ6_deleteEntry_20 rfl (gh_at hl 1 rfl) ?_
  refine gh_getR M G hw fl_J6_111 dJ6_deleteEntry_21 (fun x5 hw => ?_)
  refine gh_ifnull (tgt := 57) hx hb dJ6_deleteEntry_24 (by decide) (fun hc => ?_) (fun hc => ?_)
  · replace hw := hw.1 hc
    exact wk_J6_deleteEntry_57 M hr hex  v0 v1 _ _ _ _ G (gh_sub hl [0, 1] rfl) hw
  · replace hw := hw.2 hc
    refine gh_aload_n hx hb dJ6_deleteEntry_27 rfl (gh_at hl 1 rfl) ?_
    refine gh_getR M G hw fl_J6_114 dJ6_deleteEntry_28 (fun x6 hw => ?_)
    refine gh_ifnull (tgt := 57) hx hb dJ6_deleteEntry_31 (by decide) (fun hc => ?_) (fun hc => ?_)
    · replace hw := hw.1 hc
      exact wk_J6_deleteEntry_57 M hr hex  v0 v1 _ _ _ _ G (gh_sub hl [0, 1] rfl) hw
    · replace hw := hw.2 hc
      refine gh_aload_n hx hb dJ6_deleteEntry_34 rfl (gh_at hl 1 rfl) ?_
      refine gh_kq G (vx_runS M.1 (met_J6_successor l D _ _ _ _ _ hw M.2.2.2.2.2) (va_cwS 1 (gh_Mts M) (lw_S q1256 q621 q48 q622) rfl rfl rfl ⟨by decide, by decide, rfl⟩ ⟨Nat.le_of_ble_eq_true rfl, Nat.le_of_ble_eq_true rfl⟩) (gh_pre M G (As := [va_rf v1])) rfl rfl hl.1.1 rfl (lv_room (Nat.le_of_ble_eq_true rfl)) dJ6_deleteEntry_35 ⟨(Nat.le_of_ble_eq_true rfl), (Nat.le_of_ble_eq_true rfl)⟩) (gh_out M hex (by exact Nat.le_of_ble_eq_true rfl) (by exact Nat.le_of_ble_eq_true rfl)) (fun r7 h8 H locs hw G => ?_)
      refine gh_astore_n (lv' := [(2, 1, va_rf r7), (0, 1, va_rf (some v0)), (1, 1, va_rf v1)]) hx hb dJ6_deleteEntry_38 rfl hl (by decide) rfl (fun ls hl => ?_)
      refine gh_aload_n hx hb dJ6_deleteEntry_39 rfl (gh_at hl 2 rfl) ?_
      refine gh_aload_n hx hb dJ6_deleteEntry_40 rfl (gh_at hl 0 rfl) ?_
      refine gh_getR M G hw fl_J6_105 dJ6_deleteEntry_41 (fun x9 hw => ?_)
      refine gh_put M G hw fp_J6_105 (gh_narR _ _) (gh_fitR _ _) dJ6_deleteEntry_44 (fun h10 H locs hw G => ?_)
      refine gh_aload_n hx hb dJ6_deleteEntry_47 rfl (gh_at hl 2 rfl) ?_
      refine gh_aload_n hx hb dJ6_deleteEntry_48 rfl (gh_at hl 0 rfl) ?_
      refine gh_getR M G hw fl_J6_58 dJ6_deleteEntry_49 (fun x11 hw => ?_)
      refine gh_put M G hw fp_J6_58 (gh_narR _ _) (gh_fitR _ _) dJ6_deleteEntry_52 (fun h12 H locs hw G => ?_)
      refine gh_aload_n hx hb dJ6_deleteEntry_55 rfl (gh_at hl 0 rfl) ?_
      refine gh_astore_n (lv' := [(1, 1, va_rf r7), (2, 1, va_rf r7), (0, 1, va_rf (some v0))]) hx hb dJ6_deleteEntry_56 rfl hl (by decide) rfl (fun ls hl => ?_)
      exact wk_J6_deleteEntry_57 M hr hex  v0 r7 _ _ _ _ G (gh_sub hl [2, 0] rfl) hw
