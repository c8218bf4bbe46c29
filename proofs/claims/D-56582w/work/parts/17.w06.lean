set_option maxRecDepth 100000
/-! BinderyDesk.makeready (II)I -/
def rm_X1_makeready_2 : Room := { frames := 10, cells := 3, slots := 18, locals := 187 }
def wp_X1_makeready_2 (κ : Nat → Nat) (v0 : Nat) (v1 : Int32) (v2 : Int32) (Q : Int32 → gh_H → Prop) (X : String → gh_H → Prop) (h : gh_H) : Prop := (gh_RC h (some v0) 0 (fun _ => (wp_X1_jobWithSheet κ v0 v1 v2 (fun r2 h3 => (gh_RC h3 (some v0) 0 (fun _ => (wp_X1_makeready κ v0 r2 v2 (fun r5 h6 => (Q r5 h6)) X h3)))) X h)))
set_option maxHeartbeats 4000000 in
theorem met_X1_makeready_2 (l : Launch) (D : gh_D) (v0 : Nat) (v1 : Int32) (v2 : Int32) (Q : Int32 → gh_H → Prop) (X : String → gh_H → Prop) (h : gh_H) (sz : Nat) (hw : wp_X1_makeready_2 D.2.2 v0 v1 v2 Q X h) (hst : l.stackTraces = false) : vx_Met l yX1_makeready_2 (ws_ yX1_makeready_2 cX1_makeready_2 4 (some .int)) rm_X1_makeready_2 (gh_Pc D h sz [.ref v0, .int v1, .int v2]) (gh_Qi Q D h sz) (gh_X X D h sz) 3 18 (gh_A h sz) := by
  refine vx_ofW (by decide) rfl (fun p e s m args below meth c s₁ B hml hex hP => ?_)
  obtain ⟨rfl, rfl, hK, hT, hE, G⟩ := gh_start hP
  have M : gh_M D p l s m _ meth c RX1 cX1_makeready_2 4 (gh_A h s.heap.size) := ⟨⟨B.exec, B.bytes, hml, findClass_of_methodNamed B.named, fun w hw => atoms_spec (ws := ws_ yX1_makeready_2 cX1_makeready_2 4 (some .int)) B.pre w (List.mem_cons_of_mem _ hw)⟩, hK, hT, hE, B.notSynchronized, hst⟩
  have hr := B.returns
  have hx := M.1.1
  have hb := M.1.2.1
  refine gh_enter (vs := [(1, .ref v0), (1, .int v1), (1, .int v2)]) (gh_w1 rfl (gh_w1 rfl (gh_w1 rfl gh_wn))) (Nat.le_of_ble_eq_true rfl) (fun ls hl => ?_)
  replace hl : gh_L ls 4 [(0, 1, va_rf (some v0)), (1, 1, .int v1), (2, 1, .int v2)] := hl
  unfold wp_X1_makeready_2 at hw
  refine gh_aload_n hx hb dX1_makeready_2_0 rfl (gh_at hl 0 rfl) ?_
  refine lv_iload_n hx hb dX1_makeready_2_1 rfl (gh_at hl 1 rfl) ?_
  refine lv_iload_n hx hb dX1_makeready_2_2 rfl (gh_at hl 2 rfl) ?_
  obtain ⟨a1, lba1, fsa1, hra1, haa1, hw⟩ := hw
  rw [← Option.some.inj hra1] at haa1
  refine gh_kq G (vx_runV M.1 (met_X1_jobWithSheet l D _ _ _ _ _ _ _ hw M.2.2.2.2.2) (cwV 2 (gh_Mts M) (lw_V q823 q825 qs7 q41 q826) rfl rfl rfl ⟨rfl, by decide, by decide, rfl⟩ ⟨Nat.le_of_ble_eq_true rfl, Nat.le_of_ble_eq_true rfl⟩) (gh_preV (As := [.int v1, .int v2]) M G (gh_rec M G haa1 rfl)) rfl rfl hl.1.1 rfl (lv_room (Nat.le_of_ble_eq_true rfl)) dX1_makeready_2_3 ⟨(Nat.le_of_ble_eq_true rfl), (Nat.le_of_ble_eq_true rfl)⟩) (gh_out M hex (by exact Nat.le_of_ble_eq_true rfl) (by exact Nat.le_of_ble_eq_true rfl)) (fun r2 h3 H locs hw G => ?_)
  refine gh_astore_n (lv' := [(3, 1, va_rf r2), (0, 1, va_rf (some v0)), (1, 1, .int v1), (2, 1, .int v2)]) hx hb dX1_makeready_2_6 rfl hl (by decide) rfl (fun ls hl => ?_)
  refine gh_aload_n hx hb dX1_makeready_2_7 rfl (gh_at hl 1 rfl) ?_
  refine gh_aload_n hx hb dX1_makeready_2_8 rfl (gh_at hl 0 rfl) ?_
  refine lv_iload_n hx hb dX1_makeready_2_9 rfl (gh_at hl 3 rfl) ?_
  obtain ⟨a4, lba4, fsa4, hra4, haa4, hw⟩ := hw
  rw [← Option.some.inj hra4] at haa4
  refine gh_ki G (vx_runV M.1 (met_X1_makeready l D _ _ _ _ _ _ _ hw M.2.2.2.2.2) (cwV 2 (gh_Mts M) (lw_V q877 q879 qs8 q41 q880) rfl rfl rfl ⟨rfl, by decide, by decide, rfl⟩ ⟨Nat.le_of_ble_eq_true rfl, Nat.le_of_ble_eq_true rfl⟩) (gh_preV (As := [va_rf r2, .int v2]) M G (gh_rec M G haa4 rfl)) rfl rfl hl.1.1 rfl (lv_room (Nat.le_of_ble_eq_true rfl)) dX1_makeready_2_10 ⟨(Nat.le_of_ble_eq_true rfl), (Nat.le_of_ble_eq_true rfl)⟩) (gh_out M hex (by exact Nat.le_of_ble_eq_true rfl) (by exact Nat.le_of_ble_eq_true rfl)) (fun r5 h6 H locs hw G => ?_)
  exact gh_iret M G hr rfl hw (by exact Nat.le_of_ble_eq_true rfl) (by exact Nat.le_of_ble_eq_true rfl) dX1_makeready_2_13
/-! BinderyDeskLaw.makeready (LBinderyDesk;II[J)I -/
def rm_X0_makeready : Room := { frames := 11, cells := 3, slots := 18, locals := 210 }
def wb_X0_makeready_13 (κ : Nat → Nat)  (Q : Int32 → gh_H → Prop) (X : String → gh_H → Prop) (t0 : Option Nat) (h : gh_H) : Prop := (Q (1 : Int32) h)
def wb_X0_makeready_17 (κ : Nat → Nat)  (Q : Int32 → gh_H → Prop) (X : String → gh_H → Prop) (t0 : Option Nat) (h : gh_H) : Prop := (Q (2 : Int32) h)
def wb_X0_makeready_21 (κ : Nat → Nat)  (Q : Int32 → gh_H → Prop) (X : String → gh_H → Prop) (t0 : Option Nat) (h : gh_H) : Prop := (Q (3 : Int32) h)
def wp_X0_makeready (κ : Nat → Nat) (v0 : Option Nat) (v1 : Int32) (v2 : Int32) (v3 : Option Nat) (Q : Int32 → gh_H → Prop) (X : String → gh_H → Prop) (h : gh_H) : Prop := (gh_RC h v0 0 (fun a1 => (wp_X1_makeready_2 κ a1 v1 v2 (fun r2 h3 => (gh_SJ h3 v3 (0 : Int32) (r2.toInt64) (fun h4 => (Q (0 : Int32) h4)))) (fun E h9 => (E = "java/lang/IndexOutOfBoundsException" ∧ ∀ q9 : Nat, wb_X0_makeready_13 κ Q X (some q9) h9) ∨ (E = "java/lang/IllegalStateException" ∧ ∀ q9 : Nat, wb_X0_makeready_17 κ Q X (some q9) h9) ∨ (E = "java/util/NoSuchElementException" ∧ ∀ q9 : Nat, wb_X0_makeready_21 κ Q X (some q9) h9)) h)))
set_option maxHeartbeats 4000000 in
theorem wk_X0_makeready_13 {D : gh_D} {p : Program} {l : Launch} {e : Env} {s : State} {m : MethodId} {args : Array Value} {below : List Frame} {meth : Method} {c : Code} {h0 : gh_H} (M : gh_M D p l s m args meth c RX0 cX0_makeready 5 (gh_A h0 s.heap.size)) (hr : meth.sig.returnType = (some .int)) (htab : c.exceptionTable.toList = tableOf [(0, 10, 13, 19), (0, 10, 17, 13), (0, 10, 21, 48)])   {Q : Int32 → gh_H → Prop} {X : String → gh_H → Prop}   (t0 : Option Nat) (H : Heap) (locs : List Loc) (ls : Array Slot) (h : gh_H) (G : gh_Inv D h0 (gh_A h0 s.heap.size) s.heap s H locs h) (hl : gh_L ls 5 []) (hw : wb_X0_makeready_13 D.2.2 Q X t0 h) : W p l e rm_X0_makeready s m args below meth c H locs 3 18 (vx_MQ below (gh_Qi Q D h0 s.heap.size) (gh_X X D h0 s.heap.size) args s 3 18 (gh_A h0 s.heap.size)) (F0 m 13 ls [va_rf t0]) := by
  unfold wb_X0_makeready_13 at hw
  have hx := M.1.1
  have hb := M.1.2.1
  refine gh_astore (lv' := [(4, 1, va_rf t0)]) hx hb dX0_makeready_13 hl (by decide) rfl (fun ls hl => ?_)
  refine lv_iconst (v := (1 : Int32)) hx hb dX0_makeready_15 (by decide) ?_
  exact gh_iret M G hr rfl hw (by exact Nat.le_of_ble_eq_true rfl) (by exact Nat.le_of_ble_eq_true rfl) dX0_makeready_16
set_option maxHeartbeats 4000000 in
theorem wk_X0_makeready_17 {D : gh_D} {p : Program} {l : Launch} {e : Env} {s : State} {m : MethodId} {args : Array Value} {below : List Frame} {meth : Method} {c : Code} {h0 : gh_H} (M : gh_M D p l s m args meth c RX0 cX0_makeready 5 (gh_A h0 s.heap.size)) (hr : meth.sig.returnType = (some .int)) (htab : c.exceptionTable.toList = tableOf [(0, 10, 13, 19), (0, 10, 17, 13), (0, 10, 21, 48)])   {Q : Int32 → gh_H → Prop} {X : String → gh_H → Prop}   (t0 : Option Nat) (H : Heap) (locs : List Loc) (ls : Array Slot) (h : gh_H) (G : gh_Inv D h0 (gh_A h0 s.heap.size) s.heap s H locs h) (hl : gh_L ls 5 []) (hw : wb_X0_makeready_17 D.2.2 Q X t0 h) : W p l e rm_X0_makeready s m args below meth c H locs 3 18 (vx_MQ below (gh_Qi Q D h0 s.heap.size) (gh_X X D h0 s.heap.size) args s 3 18 (gh_A h0 s.heap.size)) (F0 m 17 ls [va_rf t0]) := by
  unfold wb_X0_makeready_17 at hw
  have hx := M.1.1
  have hb := M.1.2.1
  refine gh_astore (lv' := [(4, 1, va_rf t0)]) hx hb dX0_makeready_17 hl (by decide) rfl (fun ls hl => ?_)
  refine lv_iconst (v := (2 : Int32)) hx hb dX0_makeready_19 (by decide) ?_
  exact gh_iret M G hr rfl hw (by exact Nat.le_of_ble_eq_true rfl) (by exact Nat.le_of_ble_eq_true rfl) dX0_makeready_20
set_option maxHeartbeats 4000000 in
theorem wk_X0_makeready_21 {D : gh_D} {p : Program} {l : Launch} {e : Env} {s : State} {m : MethodId} {args : Array Value} {below : List Frame} {meth : Method} {c : Code} {h0 : gh_H} (M : gh_M D p l s m args meth c RX0 cX0_makeready 5 (gh_A h0 s.heap.size)) (hr : meth.sig.returnType = (some .int)) (htab : c.exceptionTable.toList = tableOf [(0, 10, 13, 19), (0, 10, 17, 13), (0, 10, 21, 48)])   {Q : Int32 → gh_H → Prop} {X : String → gh_H → Prop}   (t0 : Option Nat) (H : Heap) (locs : List Loc) (ls : Array Slot) (h : gh_H) (G : gh_Inv D h0 (gh_A h0 s.heap.size) s.heap s H locs h) (hl : gh_L ls 5 []) (hw : wb_X0_makeready_21 D.2.2 Q X t0 h) : W p l e rm_X0_makeready s m args below meth c H locs 3 18 (vx_MQ below (gh_Qi Q D h0 s.heap.size) (gh_X X D h0 s.heap.size) args s 3 18 (gh_A h0 s.heap.size)) (F0 m 21 ls [va_rf t0]) := by
  unfold wb_X0_makeready_21 at hw
  have hx := M.1.1
  have hb := M.1.2.1
  refine gh_astore (lv' := [(4, 1, va_rf t0)]) hx hb dX0_makeready_21 hl (by decide) rfl (fun ls hl => ?_)
  refine lv_iconst (v := (3 : Int32)) hx hb dX0_makeready_23 (by decide) ?_
  exact gh_iret M G hr rfl hw (by exact Nat.le_of_ble_eq_true rfl) (by exact Nat.le_of_ble_eq_true rfl) dX0_makeready_24
set_option maxHeartbeats 4000000 in
theorem met_X0_makeready (l : Launch) (D : gh_D) (v0 : Option Nat) (v1 : Int32) (v2 : Int32) (v3 : Option Nat) (Q : Int32 → gh_H → Prop) (X : String → gh_H → Prop) (h : gh_H) (sz : Nat) (hw : wp_X0_makeready D.2.2 v0 v1 v2 v3 Q X h) (hst : l.stackTraces = false) : vx_Met l yX0_makeready (wsW_ yX0_makeready cX0_makeready 5 (some .int) [(0, 10, 13, 19), (0, 10, 17, 13), (0, 10, 21, 48)]) rm_X0_makeready (gh_Pc D h sz [va_rf v0, .int v1, .int v2, va_rf v3]) (gh_Qi Q D h sz) (gh_X X D h sz) 3 18 (gh_A h sz) := by
  refine vx_ofWH (by decide) rfl (fun p e s m args below meth c s₁ B hml hP => ?_)
  have htab := vx_table (x := yX0_makeready) B (atoms_spec (ws := wsW_ yX0_makeready cX0_makeready 5 (some .int) [(0, 10, 13, 19), (0, 10, 17, 13), (0, 10, 21, 48)]) B.pre _ List.mem_cons_self)
  obtain ⟨rfl, rfl, hK, hT, hE, G⟩ := gh_start hP
  have M : gh_M D p l s m _ meth c RX0 cX0_makeready 5 (gh_A h s.heap.size) := ⟨⟨B.exec, B.bytes, hml, findClass_of_methodNamed B.named, fun w hw => atoms_spec (ws := wsW_ yX0_makeready cX0_makeready 5 (some .int) [(0, 10, 13, 19), (0, 10, 17, 13), (0, 10, 21, 48)]) B.pre w (List.mem_cons_of_mem _ hw)⟩, hK, hT, hE, B.notSynchronized, hst⟩
  have hr := B.returns
  have hx := M.1.1
  have hb := M.1.2.1
  refine gh_enter (vs := [(1, va_rf v0), (1, .int v1), (1, .int v2), (1, va_rf v3)]) (gh_w1 (gh_cat _) (gh_w1 rfl (gh_w1 rfl (gh_w1 (gh_cat _) gh_wn)))) (Nat.le_of_ble_eq_true rfl) (fun ls hl => ?_)
  replace hl : gh_L ls 5 [(0, 1, va_rf v0), (1, 1, .int v1), (2, 1, .int v2), (3, 1, va_rf v3)] := hl
  unfold wp_X0_makeready at hw
  refine gh_aload_n hx hb dX0_makeready_0 rfl (gh_at hl 3 rfl) ?_
  refine lv_iconst (v := (0 : Int32)) hx hb dX0_makeready_1 (by decide) ?_
  refine gh_aload_n hx hb dX0_makeready_2 rfl (gh_at hl 0 rfl) ?_
  refine lv_iload_n hx hb dX0_makeready_3 rfl (gh_at hl 1 rfl) ?_
  refine lv_iload_n hx hb dX0_makeready_4 rfl (gh_at hl 2 rfl) ?_
  obtain ⟨a1, lba1, fsa1, rfl, haa1, hw⟩ := hw
  refine gh_ki G (vx_runV M.1 (met_X1_makeready_2 l D _ _ _ _ _ _ _ hw M.2.2.2.2.2) (cwV 2 (gh_Mts M) (lw_V q1073 q1074 q1075 q41 q1076) rfl rfl rfl ⟨rfl, by decide, by decide, rfl⟩ ⟨Nat.le_of_ble_eq_true rfl, Nat.le_of_ble_eq_true rfl⟩) (gh_preV (As := [.int v1, .int v2]) M G (gh_rec M G haa1 rfl)) rfl rfl hl.1.1 rfl (lv_room (Nat.le_trans (gh_r1 rfl (gh_r1 (gh_cat _) gh_r0)) (Nat.le_of_ble_eq_true rfl : 2 ≤ 8))) dX0_makeready_5 ⟨(Nat.le_of_ble_eq_true rfl), (Nat.le_of_ble_eq_true rfl)⟩) (fun E ce q9 h9 H locs hX G hce hcv hcl => ?_) (fun r2 h3 H locs hw G => ?_)
  · rcases hX with ⟨rfl, hX⟩ | ⟨rfl, hX⟩ | ⟨rfl, hX⟩
    · replace hw := hX q9
      refine vx_catch (name := "java/lang/IndexOutOfBoundsException") M.1.2.2.2.1 (tableOf []) ⟨0, 10, 13, 19⟩ (tableOf [(0, 10, 17, 13), (0, 10, 21, 48)]) (htab.trans rfl) (fun _ h => absurd h List.not_mem_nil) (by decide) (by decide) (gh_Mts M _ q439) (va_Nw.use rfl (M.2.2.1.1 _ (List.mem_of_getElem? (i := 8) rfl))) hce hcv hcl ?_
      exact wk_X0_makeready_13 M hr htab  (some q9) _ _ _ _ G (gh_sub hl [] rfl) hw
    · replace hw := hX q9
      refine vx_catch (name := "java/lang/IllegalStateException") M.1.2.2.2.1 (tableOf [(0, 10, 13, 19)]) ⟨0, 10, 17, 13⟩ (tableOf [(0, 10, 21, 48)]) (htab.trans rfl) (List.forall_mem_cons.mpr ⟨Or.inr ⟨by decide, "java/lang/IndexOutOfBoundsException", gh_Mts M _ q439, M.2.2.1.2.2.1 _ (List.mem_of_getElem? (i := 6) rfl)⟩, fun _ h => absurd h List.not_mem_nil⟩) (by decide) (by decide) (gh_Mts M _ q261) (va_Nw.use rfl (M.2.2.1.1 _ (List.mem_of_getElem? (i := 4) rfl))) hce hcv hcl ?_
      exact wk_X0_makeready_17 M hr htab  (some q9) _ _ _ _ G (gh_sub hl [] rfl) hw
    · replace hw := hX q9
      refine vx_catch (name := "java/util/NoSuchElementException") M.1.2.2.2.1 (tableOf [(0, 10, 13, 19), (0, 10, 17, 13)]) ⟨0, 10, 21, 48⟩ (tableOf []) (htab.trans rfl) (List.forall_mem_cons.mpr ⟨Or.inr ⟨by decide, "java/lang/IndexOutOfBoundsException", gh_Mts M _ q439, M.2.2.1.2.2.1 _ (List.mem_of_getElem? (i := 11) rfl)⟩, List.forall_mem_cons.mpr ⟨Or.inr ⟨by decide, "java/lang/IllegalStateException", gh_Mts M _ q261, M.2.2.1.2.2.1 _ (List.mem_of_getElem? (i := 12) rfl)⟩, fun _ h => absurd h List.not_mem_nil⟩⟩) (by decide) (by decide) (gh_Mts M _ q818) (va_Nw.use rfl (M.2.2.1.1 _ (List.mem_of_getElem? (i := 46) rfl))) hce hcv hcl ?_
      exact wk_X0_makeready_21 M hr htab  (some q9) _ _ _ _ G (gh_sub hl [] rfl) hw
  · refine lv_i2l (v := (r2.toInt64)) hx hb dX0_makeready_8 rfl ?_
    refine gh_jas M G hw dX0_makeready_9 (fun h4 H locs hw G => ?_)
    refine lv_goto (tgt := 25) hx hb dX0_makeready_10 (by decide) ?_
    refine lv_iconst (v := (0 : Int32)) hx hb dX0_makeready_25 (by decide) ?_
    exact gh_iret M G hr rfl hw (by exact Nat.le_of_ble_eq_true rfl) (by exact Nat.le_of_ble_eq_true rfl) dX0_makeready_26
/-! BinderyDeskModel.makeready (II)I -/
def rm_X3_makeready : Room := { frames := 5, cells := 0, slots := 0, locals := 132 }
def wb_X3_makeready_19 (κ : Nat → Nat)  (Q : Int32 → gh_H → Prop) (X : String → gh_H → Prop) (t0 : Int32) (h : gh_H) : Prop := (Q t0 h)
def wp_X3_makeready (κ : Nat → Nat) (v0 : Nat) (v1 : Int32) (v2 : Int32) (Q : Int32 → gh_H → Prop) (X : String → gh_H → Prop) (h : gh_H) : Prop := (gh_RC h (some v0) 1 (fun _ => (wp_X3_isSheet κ v0 v1 v2 (fun r2 h3 => ((r2 = 0 → wb_X3_makeready_19 κ Q X (0 : Int32) h3) ∧ (¬ r2 = 0 → (gh_RC h3 (some v0) 1 (fun _ => (wp_X3_ready κ v0 v1 v2 (fun r5 h6 => wb_X3_makeready_19 κ Q X r5 h6) X h3)))))) X h)))
set_option maxHeartbeats 4000000 in
theorem wk_X3_makeready_19 {D : gh_D} {p : Program} {l : Launch} {e : Env} {s : State} {m : MethodId} {args : Array Value} {below : List Frame} {meth : Method} {c : Code} {h0 : gh_H} (M : gh_M D p l s m args meth c RX3 cX3_makeready 3 (gh_A h0 s.heap.size)) (hr : meth.sig.returnType = (some .int)) (hex : ∀ x ∈ c.exceptionTable.toList, False)   {Q : Int32 → gh_H → Prop} {X : String → gh_H → Prop}   (t0 : Int32) (H : Heap) (locs : List Loc) (ls : Array Slot) (h : gh_H) (G : gh_Inv D h0 (gh_A h0 s.heap.size) s.heap s H locs h) (hl : gh_L ls 3 []) (hw : wb_X3_makeready_19 D.2.2 Q X t0 h) : W p l e rm_X3_makeready s m args below meth c H locs 0 0 (vx_MQ below (gh_Qi Q D h0 s.heap.size) (gh_X X D h0 s.heap.size) args s 0 0 (gh_A h0 s.heap.size)) (F0 m 19 ls [.int t0]) := by
  unfold wb_X3_makeready_19 at hw
  have hx := M.1.1
  have hb := M.1.2.1
  exact gh_iret M G hr rfl hw (by exact Nat.le_of_ble_eq_true rfl) (by exact Nat.le_of_ble_eq_true rfl) dX3_makeready_19
set_option maxHeartbeats 4000000 in
theorem met_X3_makeready (l : Launch) (D : gh_D) (v0 : Nat) (v1 : Int32) (v2 : Int32) (Q : Int32 → gh_H → Prop) (X : String → gh_H → Prop) (h : gh_H) (sz : Nat) (hw : wp_X3_makeready D.2.2 v0 v1 v2 Q X h) (hst : l.stackTraces = false) : vx_Met l yX3_makeready (ws_ yX3_makeready cX3_makeready 3 (some .int)) rm_X3_makeready (gh_Pc D h sz [.ref v0, .int v1, .int v2]) (gh_Qi Q D h sz) (gh_X X D h sz) 0 0 (gh_A h sz) := by
  refine vx_ofW (by decide) rfl (fun p e s m args below meth c s₁ B hml hex hP => ?_)
  obtain ⟨rfl, rfl, hK, hT, hE, G⟩ := gh_start hP
  have M : gh_M D p l s m _ meth c RX3 cX3_makeready 3 (gh_A h s.heap.size) := ⟨⟨B.exec, B.bytes, hml, findClass_of_methodNamed B.named, fun w hw => atoms_spec (ws := ws_ yX3_makeready cX3_makeready 3 (some .int)) B.pre w (List.mem_cons_of_mem _ hw)⟩, hK, hT, hE, B.notSynchronized, hst⟩
  have hr := B.returns
  have hx := M.1.1
  have hb := M.1.2.1
  refine gh_enter (vs := [(1, .ref v0), (1, .int v1), (1, .int v2)]) (gh_w1 rfl (gh_w1 rfl (gh_w1 rfl gh_wn))) (Nat.le_of_ble_eq_true rfl) (fun ls hl => ?_)
  replace hl : gh_L ls 3 [(0, 1, va_rf (some v0)), (1, 1, .int v1), (2, 1, .int v2)] := hl
  unfold wp_X3_makeready at hw
  refine gh_aload_n hx hb dX3_makeready_0 rfl (gh_at hl 0 rfl) ?_
  refine lv_iload_n hx hb dX3_makeready_1 rfl (gh_at hl 1 rfl) ?_
  refine lv_iload_n hx hb dX3_makeready_2 rfl (gh_at hl 2 rfl) ?_
  obtain ⟨a1, lba1, fsa1, hra1, haa1, hw⟩ := hw
  rw [← Option.some.inj hra1] at haa1
  refine gh_ki G (vx_runV M.1 (met_X3_isSheet l D _ _ _ _ _ _ _ hw M.2.2.2.2.2) (cwV 2 (gh_Mts M) (lw_V q1732 q1734 qs31 q50 q1735) rfl rfl rfl ⟨rfl, by decide, by decide, rfl⟩ ⟨Nat.le_of_ble_eq_true rfl, Nat.le_of_ble_eq_true rfl⟩) (gh_preV (As := [.int v1, .int v2]) M G (gh_rec M G haa1 rfl)) rfl rfl hl.1.1 rfl (lv_room (Nat.le_of_ble_eq_true rfl)) dX3_makeready_3 ⟨(Nat.le_of_ble_eq_true rfl), (Nat.le_of_ble_eq_true rfl)⟩) (gh_out M hex (by exact Nat.le_of_ble_eq_true rfl) (by exact Nat.le_of_ble_eq_true rfl)) (fun r2 h3 H locs hw G => ?_)
  refine lv_if_eq (tgt := 18) hx hb dX3_makeready_6 (by decide) (fun hc => ?_) (fun hc => ?_)
  · replace hw := hw.1 hc
    refine lv_iconst (v := (0 : Int32)) hx hb dX3_makeready_18 (by decide) ?_
    exact wk_X3_makeready_19 M hr hex  (0 : Int32) _ _ _ _ G (gh_sub hl [] rfl) hw
  · replace hw := hw.2 hc
    refine gh_aload_n hx hb dX3_makeready_9 rfl (gh_at hl 0 rfl) ?_
    refine lv_iload_n hx hb dX3_makeready_10 rfl (gh_at hl 1 rfl) ?_
    refine lv_iload_n hx hb dX3_makeready_11 rfl (gh_at hl 2 rfl) ?_
    obtain ⟨a4, lba4, fsa4, hra4, haa4, hw⟩ := hw
    rw [← Option.some.inj hra4] at haa4
    refine gh_ki G (vx_runV M.1 (met_X3_ready l D _ _ _ _ _ _ _ hw M.2.2.2.2.2) (cwV 2 (gh_Mts M) (lw_V q1744 q1746 qs32 q50 q1747) rfl rfl rfl ⟨rfl, by decide, by decide, rfl⟩ ⟨Nat.le_of_ble_eq_true rfl, Nat.le_of_ble_eq_true rfl⟩) (gh_preV (As := [.int v1, .int v2]) M G (gh_rec M G haa4 rfl)) rfl rfl hl.1.1 rfl (lv_room (Nat.le_of_ble_eq_true rfl)) dX3_makeready_12 ⟨(Nat.le_of_ble_eq_true rfl), (Nat.le_of_ble_eq_true rfl)⟩) (gh_out M hex (by exact Nat.le_of_ble_eq_true rfl) (by exact Nat.le_of_ble_eq_true rfl)) (fun r5 h6 H locs hw G => ?_)
    refine lv_goto (tgt := 19) hx hb dX3_makeready_15 (by decide) ?_
    exact wk_X3_makeready_19 M hr hex  r5 _ _ _ _ G (gh_sub hl [] rfl) hw
/-! BinderyDesk.between (LBinderyDesk$Job;II)I -/
def rm_X1_between : Room := { frames := 6, cells := 0, slots := 0, locals := 150 }
def wb_X1_between_35 (κ : Nat → Nat) (K5 : Option Nat → Int32 → Int32 → Int32 → Int32 → gh_H → Prop) (Q : Int32 → gh_H → Prop) (X : String → gh_H → Prop) (v0 : Option Nat) (v1 : Int32) (v2 : Int32) (v4 : Int32) (t0 : Int32) (t1 : Int32) (h : gh_H) : Prop := K5 v0 v1 v2 (t0 + t1) (v4 + (1 : Int32)) h
def wb_X1_between_5 (κ : Nat → Nat) (K5 : Option Nat → Int32 → Int32 → Int32 → Int32 → gh_H → Prop) (Q : Int32 → gh_H → Prop) (X : String → gh_H → Prop) (v0 : Option Nat) (v1 : Int32) (v2 : Int32) (v3 : Int32) (v4 : Int32) (h : gh_H) : Prop := (((2 : Int32) ≤ v4 → (Q v3 h)) ∧ (¬ (2 : Int32) ≤ v4 → (gh_RC h v0 7 (fun a1 => (wp_X7_plate κ a1 v1 v4 (fun r2 h3 => (gh_RC h3 (some a1) 7 (fun _ => (wp_X7_plate κ a1 v2 v4 (fun r5 h6 => ((r2 = r5 → wb_X1_between_35 κ K5 Q X (some a1) v1 v2 v4 v3 (0 : Int32) h6) ∧ (¬ r2 = r5 → wb_X1_between_35 κ K5 Q X (some a1) v1 v2 v4 v3 (20 : Int32) h6))) X h3)))) X h)))))
def wl_X1_between_5 (κ : Nat → Nat)  (Q : Int32 → gh_H → Prop) (X : String → gh_H → Prop) : Nat → Option Nat → Int32 → Int32 → Int32 → Int32 → gh_H → Prop
  | 0 => fun _ _ _ _ _ _ => False
  | n + 1 => fun v0 v1 v2 v3 v4 h => wb_X1_between_5 κ (wl_X1_between_5 κ Q X n) Q X v0 v1 v2 v3 v4 h
def wp_X1_between (κ : Nat → Nat) (v0 : Option Nat) (v1 : Int32) (v2 : Int32) (Q : Int32 → gh_H → Prop) (X : String → gh_H → Prop) (h : gh_H) : Prop := (∃ n : Nat, wl_X1_between_5 κ Q X n v0 v1 v2 (0 : Int32) (0 : Int32) h)
set_option maxHeartbeats 4000000 in
theorem wk_X1_between_35 {D : gh_D} {p : Program} {l : Launch} {e : Env} {s : State} {m : MethodId} {args : Array Value} {below : List Frame} {meth : Method} {c : Code} {h0 : gh_H} (M : gh_M D p l s m args meth c RX1 cX1_between 5 (gh_A h0 s.heap.size)) (hr : meth.sig.returnType = (some .int)) (hex : ∀ x ∈ c.exceptionTable.toList, False) {K5 : Option Nat → Int32 → Int32 → Int32 → Int32 → gh_H → Prop}  {Q : Int32 → gh_H → Prop} {X : String → gh_H → Prop} (k5 : ∀ (v0 : Option Nat) (v1 : Int32) (v2 : Int32) (v3 : Int32) (v4 : Int32) (H : Heap) (locs : List Loc) (ls : Array Slot) (h : gh_H) (_ : gh_Inv D h0 (gh_A h0 s.heap.size) s.heap s H locs h) (_ : gh_L ls 5 [(0, 1, va_rf v0), (1, 1, .int v1), (2, 1, .int v2), (3, 1, .int v3), (4, 1, .int v4)]) (_ : K5 v0 v1 v2 v3 v4 h), W p l e rm_X1_between s m args below meth c H locs 0 0 (vx_MQ below (gh_Qi Q D h0 s.heap.size) (gh_X X D h0 s.heap.size) args s 0 0 (gh_A h0 s.heap.size)) (F0 m 5 ls []))  (v0 : Option Nat) (v1 : Int32) (v2 : Int32) (v4 : Int32) (t0 : Int32) (t1 : Int32) (H : Heap) (locs : List Loc) (ls : Array Slot) (h : gh_H) (G : gh_Inv D h0 (gh_A h0 s.heap.size) s.heap s H locs h) (hl : gh_L ls 5 [(0, 1, va_rf v0), (1, 1, .int v1), (2, 1, .int v2), (4, 1, .int v4)]) (hw : wb_X1_between_35 D.2.2 K5 Q X v0 v1 v2 v4 t0 t1 h) : W p l e rm_X1_between s m args below meth c H locs 0 0 (vx_MQ below (gh_Qi Q D h0 s.heap.size) (gh_X X D h0 s.heap.size) args s 0 0 (gh_A h0 s.heap.size)) (F0 m 35 ls [.int t1, .int t0]) := by
  unfold wb_X1_between_35 at hw
  have hx := M.1.1
  have hb := M.1.2.1
  refine lv_iadd hx hb dX1_between_35 ?_
  refine gh_istore_n (lv' := [(3, 1, .int (t0 + t1)), (0, 1, va_rf v0), (1, 1, .int v1), (2, 1, .int v2), (4, 1, .int v4)]) hx hb dX1_between_36 rfl hl (by decide) rfl (fun ls hl => ?_)
  refine gh_iinc (k := 4) (v := (v4 + (1 : Int32))) (lv' := [(4, 1, .int (v4 + (1 : Int32))), (3, 1, .int (t0 + t1)), (0, 1, va_rf v0), (1, 1, .int v1), (2, 1, .int v2)]) hx hb dX1_between_37 hl rfl rfl (by decide) rfl (fun ls hl => ?_)
  refine lv_goto (tgt := 5) hx hb dX1_between_40 (by decide) ?_
  exact k5 v0 v1 v2 (t0 + t1) (v4 + (1 : Int32)) _ _ _ _ G (gh_sub hl [2, 3, 4, 1, 0] rfl) hw
set_option maxHeartbeats 4000000 in
theorem wk1_X1_between_5 {D : gh_D} {p : Program} {l : Launch} {e : Env} {s : State} {m : MethodId} {args : Array Value} {below : List Frame} {meth : Method} {c : Code} {h0 : gh_H} (M : gh_M D p l s m args meth c RX1 cX1_between 5 (gh_A h0 s.heap.size)) (hr : meth.sig.returnType = (some .int)) (hex : ∀ x ∈ c.exceptionTable.toList, False) {K5 : Option Nat → Int32 → Int32 → Int32 → Int32 → gh_H → Prop}  {Q : Int32 → gh_H → Prop} {X : String → gh_H → Prop} (k5 : ∀ (v0 : Option Nat) (v1 : Int32) (v2 : Int32) (v3 : Int32) (v4 : Int32) (H : Heap) (locs : List Loc) (ls : Array Slot) (h : gh_H) (_ : gh_Inv D h0 (gh_A h0 s.heap.size) s.heap s H locs h) (_ : gh_L ls 5 [(0, 1, va_rf v0), (1, 1, .int v1), (2, 1, .int v2), (3, 1, .int v3), (4, 1, .int v4)]) (_ : K5 v0 v1 v2 v3 v4 h), W p l e rm_X1_between s m args below meth c H locs 0 0 (vx_MQ below (gh_Qi Q D h0 s.heap.size) (gh_X X D h0 s.heap.size) args s 0 0 (gh_A h0 s.heap.size)) (F0 m 5 ls []))  (v0 : Option Nat) (v1 : Int32) (v2 : Int32) (v3 : Int32) (v4 : Int32) (H : Heap) (locs : List Loc) (ls : Array Slot) (h : gh_H) (G : gh_Inv D h0 (gh_A h0 s.heap.size) s.heap s H locs h) (hl : gh_L ls 5 [(0, 1, va_rf v0), (1, 1, .int v1), (2, 1, .int v2), (3, 1, .int v3), (4, 1, .int v4)]) (hw : wb_X1_between_5 D.2.2 K5 Q X v0 v1 v2 v3 v4 h) : W p l e rm_X1_between s m args below meth c H locs 0 0 (vx_MQ below (gh_Qi Q D h0 s.heap.size) (gh_X X D h0 s.heap.size) args s 0 0 (gh_A h0 s.heap.size)) (F0 m 5 ls []) := by
  unfold wb_X1_between_5 at hw
  have hx := M.1.1
  have hb := M.1.2.1
  refine lv_iload hx hb dX1_between_5 (gh_at hl 4 rfl) ?_
  refine lv_iconst (v := (2 : Int32)) hx hb dX1_between_7 (by decide) ?_
  refine lv_icmp_ge (tgt := 43) hx hb dX1_between_8 (by decide) (fun hc => ?_) (fun hc => ?_)
  · replace hw := hw.1 hc
    refine lv_iload_n hx hb dX1_between_43 rfl (gh_at hl 3 rfl) ?_
    exact gh_iret M G hr rfl hw (by exact Nat.le_of_ble_eq_true rfl) (by exact Nat.le_of_ble_eq_true rfl) dX1_between_44
  · replace hw := hw.2 hc
    refine lv_iload_n hx hb dX1_between_11 rfl (gh_at hl 3 rfl) ?_
    refine gh_aload_n hx hb dX1_between_12 rfl (gh_at hl 0 rfl) ?_
    refine lv_iload_n hx hb dX1_between_13 rfl (gh_at hl 1 rfl) ?_
    refine lv_iload hx hb dX1_between_14 (gh_at hl 4 rfl) ?_
    obtain ⟨a1, lba1, fsa1, rfl, haa1, hw⟩ := hw
    refine gh_ki G (vx_runV M.1 (met_X7_plate l D _ _ _ _ _ _ _ hw M.2.2.2.2.2) (cwV 2 (gh_Mts M) (lw_V q881 q882 q883 q71 q884) rfl rfl rfl ⟨rfl, by decide, by decide, rfl⟩ ⟨Nat.le_of_ble_eq_true rfl, Nat.le_of_ble_eq_true rfl⟩) (gh_preV (As := [.int v1, .int v4]) M G (gh_rec M G haa1 rfl)) rfl rfl hl.1.1 rfl (lv_room (Nat.le_of_ble_eq_true rfl)) dX1_between_16 ⟨(Nat.le_of_ble_eq_true rfl), (Nat.le_of_ble_eq_true rfl)⟩) (gh_out M hex (by exact Nat.le_of_ble_eq_true rfl) (by exact Nat.le_of_ble_eq_true rfl)) (fun r2 h3 H locs hw G => ?_)
    refine gh_aload_n hx hb dX1_between_19 rfl (gh_at hl 0 rfl) ?_
    refine lv_iload_n hx hb dX1_between_20 rfl (gh_at hl 2 rfl) ?_
    refine lv_iload hx hb dX1_between_21 (gh_at hl 4 rfl) ?_
    obtain ⟨a4, lba4, fsa4, hra4, haa4, hw⟩ := hw
    rw [← Option.some.inj hra4] at haa4
    refine gh_ki G (vx_runV M.1 (met_X7_plate l D _ _ _ _ _ _ _ hw M.2.2.2.2.2) (cwV 2 (gh_Mts M) (lw_V q881 q882 q883 q71 q884) rfl rfl rfl ⟨rfl, by decide, by decide, rfl⟩ ⟨Nat.le_of_ble_eq_true rfl, Nat.le_of_ble_eq_true rfl⟩) (gh_preV (As := [.int v2, .int v4]) M G (gh_rec M G haa4 rfl)) rfl rfl hl.1.1 rfl (lv_room (Nat.le_of_ble_eq_true rfl)) dX1_between_23 ⟨(Nat.le_of_ble_eq_true rfl), (Nat.le_of_ble_eq_true rfl)⟩) (gh_out M hex (by exact Nat.le_of_ble_eq_true rfl) (by exact Nat.le_of_ble_eq_true rfl)) (fun r5 h6 H locs hw G => ?_)
    refine lv_icmp_ne (tgt := 33) hx hb dX1_between_26 (by decide) (fun hc => ?_) (fun hc => ?_)
    · replace hw := hw.2 hc
      refine lv_bipush (v := (20 : Int32)) hx hb dX1_between_33 (by decide) ?_
      exact wk_X1_between_35 M hr hex k5 (some a1) v1 v2 v4 v3 (20 : Int32) _ _ _ _ G (gh_sub hl [0, 1, 2, 4] rfl) hw
    · replace hw := hw.1 hc
      refine lv_iconst (v := (0 : Int32)) hx hb dX1_between_29 (by decide) ?_
      refine lv_goto (tgt := 35) hx hb dX1_between_30 (by decide) ?_
      exact wk_X1_between_35 M hr hex k5 (some a1) v1 v2 v4 v3 (0 : Int32) _ _ _ _ G (gh_sub hl [0, 1, 2, 4] rfl) hw
theorem wk_X1_between_5 {D : gh_D} {p : Program} {l : Launch} {e : Env} {s : State} {m : MethodId} {args : Array Value} {below : List Frame} {meth : Method} {c : Code} {h0 : gh_H} (M : gh_M D p l s m args meth c RX1 cX1_between 5 (gh_A h0 s.heap.size)) (hr : meth.sig.returnType = (some .int)) (hex : ∀ x ∈ c.exceptionTable.toList, False)   {Q : Int32 → gh_H → Prop} {X : String → gh_H → Prop}   : ∀ (n : Nat) (v0 : Option Nat) (v1 : Int32) (v2 : Int32) (v3 : Int32) (v4 : Int32) (H : Heap) (locs : List Loc) (ls : Array Slot) (h : gh_H) (_ : gh_Inv D h0 (gh_A h0 s.heap.size) s.heap s H locs h) (_ : gh_L ls 5 [(0, 1, va_rf v0), (1, 1, .int v1), (2, 1, .int v2), (3, 1, .int v3), (4, 1, .int v4)]) (_ : wl_X1_between_5 D.2.2 Q X n v0 v1 v2 v3 v4 h), W p l e rm_X1_between s m args below meth c H locs 0 0 (vx_MQ below (gh_Qi Q D h0 s.heap.size) (gh_X X D h0 s.heap.size) args s 0 0 (gh_A h0 s.heap.size)) (F0 m 5 ls []) := by
  intro fu
  induction fu with
  | zero => intro v0 v1 v2 v3 v4 H locs ls h G hl hw; exact False.elim hw
  | succ n1 ih =>
    intro v0 v1 v2 v3 v4 H locs ls h G hl hw
    exact wk1_X1_between_5 M hr hex ih  v0 v1 v2 v3 v4 _ _ _ _ G hl hw
set_option maxHeartbeats 4000000 in
theorem met_X1_between (l : Launch) (D : gh_D) (v0 : Option Nat) (v1 : Int32) (v2 : Int32) (Q : Int32 → gh_H → Prop) (X : String → gh_H → Prop) (h : gh_H) (sz : Nat) (hw : wp_X1_between D.2.2 v0 v1 v2 Q X h) (hst : l.stackTraces = false) : vx_Met l yX1_between (ws_ yX1_between cX1_between 5 (some .int)) rm_X1_between (gh_Pc D h sz [va_rf v0, .int v1, .int v2]) (gh_Qi Q D h sz) (gh_X X D h sz) 0 0 (gh_A h sz) := by
  refine vx_ofW (by decide) rfl (fun p e s m args below meth c s₁ B hml hex hP => ?_)
  obtain ⟨rfl, rfl, hK, hT, hE, G⟩ := gh_start hP
  have M : gh_M D p l s m _ meth c RX1 cX1_between 5 (gh_A h s.heap.size) := ⟨⟨B.exec, B.bytes, hml, findClass_of_methodNamed B.named, fun w hw => atoms_spec (ws := ws_ yX1_between cX1_between 5 (some .int)) B.pre w (List.mem_cons_of_mem _ hw)⟩, hK, hT, hE, B.notSynchronized, hst⟩
  have hr := B.returns
  have hx := M.1.1
  have hb := M.1.2.1
  refine gh_enter (vs := [(1, va_rf v0), (1, .int v1), (1, .int v2)]) (gh_w1 (gh_cat _) (gh_w1 rfl (gh_w1 rfl gh_wn))) (Nat.le_of_ble_eq_true rfl) (fun ls hl => ?_)
  replace hl : gh_L ls 5 [(0, 1, va_rf v0), (1, 1, .int v1), (2, 1, .int v2)] := hl
  unfold wp_X1_between at hw
  refine lv_iconst (v := (0 : Int32)) hx hb dX1_between_0 (by decide) ?_
  refine gh_istore_n (lv' := [(3, 1, .int (0 : Int32)), (0, 1, va_rf v0), (1, 1, .int v1), (2, 1, .int v2)]) hx hb dX1_between_1 rfl hl (by decide) rfl (fun ls hl => ?_)
  refine lv_iconst (v := (0 : Int32)) hx hb dX1_between_2 (by decide) ?_
  refine gh_istore (lv' := [(4, 1, .int (0 : Int32)), (3, 1, .int (0 : Int32)), (0, 1, va_rf v0), (1, 1, .int v1), (2, 1, .int v2)]) hx hb dX1_between_3 hl (by decide) rfl (fun ls hl => ?_)
  obtain ⟨n, hw⟩ := hw
  exact wk_X1_between_5 M hr hex  n v0 v1 v2 (0 : Int32) (0 : Int32) _ _ _ _ G (gh_sub hl [2, 3, 4, 1, 0] rfl) hw
/-! BinderyDesk.leastBefore (LBinderyDesk$Job;[[III)I -/
def rm_X1_leastBefore : Room := { frames := 7, cells := 0, slots := 0, locals := 174 }
def wb_X1_leastBefore_70 (κ : Nat → Nat)  (Q : Int32 → gh_H → Prop) (X : String → gh_H → Prop) (v4 : Int32) (h : gh_H) : Prop := (Q v4 h)
def wb_X1_leastBefore_64 (κ : Nat → Nat) (K16 : Option Nat → Option Nat → Int32 → Int32 → Int32 → Int32 → Int32 → gh_H → Prop) (Q : Int32 → gh_H → Prop) (X : String → gh_H → Prop) (v0 : Option Nat) (v1 : Option Nat) (v2 : Int32) (v3 : Int32) (v4 : Int32) (v5 : Int32) (v6 : Int32) (h : gh_H) : Prop := K16 v0 v1 v2 v3 v4 v5 (v6 + (1 : Int32)) h
def wb_X1_leastBefore_16 (κ : Nat → Nat) (K16 : Option Nat → Option Nat → Int32 → Int32 → Int32 → Int32 → Int32 → gh_H → Prop) (Q : Int32 → gh_H → Prop) (X : String → gh_H → Prop) (v0 : Option Nat) (v1 : Option Nat) (v2 : Int32) (v3 : Int32) (v4 : Int32) (v5 : Int32) (v6 : Int32) (h : gh_H) : Prop := ((v5 = v2 → wb_X1_leastBefore_70 κ Q X v4 h) ∧ (¬ v5 = v2 → (gh_LR h v1 v2 (fun x1 => (gh_LN h x1 (fun x2 => ((x2 ≤ v6 → wb_X1_leastBefore_70 κ Q X v4 h) ∧ (¬ x2 ≤ v6 → ((((v5 >>> (v6 &&& 31)) &&& (1 : Int32)) = (1 : Int32) → (gh_LR h v1 v5 (fun x3 => (gh_LI h x3 v6 (fun x4 => (wp_X1_between κ v0 v6 v3 (fun r5 h6 => wb_X1_leastBefore_64 κ K16 Q X v0 v1 v2 v3 (if (x4 + r5) < v4 then (x4 + r5) else v4) v5 v6 h6) X h)))))) ∧ (¬ ((v5 >>> (v6 &&& 31)) &&& (1 : Int32)) = (1 : Int32) → wb_X1_leastBefore_64 κ K16 Q X v0 v1 v2 v3 v4 v5 v6 h))))))))))
def wl_X1_leastBefore_16 (κ : Nat → Nat)  (Q : Int32 → gh_H → Prop) (X : String → gh_H → Prop) : Nat → Option Nat → Option Nat → Int32 → Int32 → Int32 → Int32 → Int32 → gh_H → Prop
  | 0 => fun _ _ _ _ _ _ _ _ => False
  | n + 1 => fun v0 v1 v2 v3 v4 v5 v6 h => wb_X1_leastBefore_16 κ (wl_X1_leastBefore_16 κ Q X n) Q X v0 v1 v2 v3 v4 v5 v6 h
def wp_X1_leastBefore (κ : Nat → Nat) (v0 : Option Nat) (v1 : Option Nat) (v2 : Int32) (v3 : Int32) (Q : Int32 → gh_H → Prop) (X : String → gh_H → Prop) (h : gh_H) : Prop := (∃ n : Nat, wl_X1_leastBefore_16 κ Q X n v0 v1 v2 v3 (1000000 : Int32) (v2 &&& (((1 : Int32) <<< (v3 &&& 31)) ^^^ (-1 : Int32))) (0 : Int32) h)
set_option maxHeartbeats 4000000 in
theorem wk_X1_leastBefore_70 {D : gh_D} {p : Program} {l : Launch} {e : Env} {s : State} {m : MethodId} {args : Array Value} {below : List Frame} {meth : Method} {c : Code} {h0 : gh_H} (M : gh_M D p l s m args meth c RX1 cX1_leastBefore 7 (gh_A h0 s.heap.size)) (hr : meth.sig.returnType = (some .int)) (hex : ∀ x ∈ c.exceptionTable.toList, False)   {Q : Int32 → gh_H → Prop} {X : String → gh_H → Prop}   (v4 : Int32) (H : Heap) (locs : List Loc) (ls : Array Slot) (h : gh_H) (G : gh_Inv D h0 (gh_A h0 s.heap.size) s.heap s H locs h) (hl : gh_L ls 7 [(4, 1, .int v4)]) (hw : wb_X1_leastBefore_70 D.2.2 Q X v4 h) : W p l e rm_X1_leastBefore s m args below meth c H locs 0 0 (vx_MQ below (gh_Qi Q D h0 s.heap.size) (gh_X X D h0 s.heap.size) args s 0 0 (gh_A h0 s.heap.size)) (F0 m 70 ls []) := by
  unfold wb_X1_leastBefore_70 at hw
  have hx := M.1.1
  have hb := M.1.2.1
  refine lv_iload hx hb dX1_leastBefore_70 (gh_at hl 0 rfl) ?_
  exact gh_iret M G hr rfl hw (by exact Nat.le_of_ble_eq_true rfl) (by exact Nat.le_of_ble_eq_true rfl) dX1_leastBefore_72
set_option maxHeartbeats 4000000 in
theorem wk_X1_leastBefore_64 {D : gh_D} {p : Program} {l : Launch} {e : Env} {s : State} {m : MethodId} {args : Array Value} {below : List Frame} {meth : Method} {c : Code} {h0 : gh_H} (M : gh_M D p l s m args meth c RX1 cX1_leastBefore 7 (gh_A h0 s.heap.size)) (hr : meth.sig.returnType = (some .int)) (hex : ∀ x ∈ c.exceptionTable.toList, False) {K16 : Option Nat → Option Nat → Int32 → Int32 → Int32 → Int32 → Int32 → gh_H → Prop}  {Q : Int32 → gh_H → Prop} {X : String → gh_H → Prop} (k16 : ∀ (v0 : Option Nat) (v1 : Option Nat) (v2 : Int32) (v3 : Int32) (v4 : Int32) (v5 : Int32) (v6 : Int32) (H : Heap) (locs : List Loc) (ls : Array Slot) (h : gh_H) (_ : gh_Inv D h0 (gh_A h0 s.heap.size) s.heap s H locs h) (_ : gh_L ls 7 [(0, 1, va_rf v0), (1, 1, va_rf v1), (2, 1, .int v2), (3, 1, .int v3), (4, 1, .int v4), (5, 1, .int v5), (6, 1, .int v6)]) (_ : K16 v0 v1 v2 v3 v4 v5 v6 h), W p l e rm_X1_leastBefore s m args below meth c H locs 0 0 (vx_MQ below (gh_Qi Q D h0 s.heap.size) (gh_X X D h0 s.heap.size) args s 0 0 (gh_A h0 s.heap.size)) (F0 m 16 ls []))  (v0 : Option Nat) (v1 : Option Nat) (v2 : Int32) (v3 : Int32) (v4 : Int32) (v5 : Int32) (v6 : Int32) (H : Heap) (locs : List Loc) (ls : Array Slot) (h : gh_H) (G : gh_Inv D h0 (gh_A h0 s.heap.size) s.heap s H locs h) (hl : gh_L ls 7 [(0, 1, va_rf v0), (1, 1, va_rf v1), (2, 1, .int v2), (3, 1, .int v3), (4, 1, .int v4), (5, 1, .int v5), (6, 1, .int v6)]) (hw : wb_X1_leastBefore_64 D.2.2 K16 Q X v0 v1 v2 v3 v4 v5 v6 h) : W p l e rm_X1_leastBefore s m args below meth c H locs 0 0 (vx_MQ below (gh_Qi Q D h0 s.heap.size) (gh_X X D h0 s.heap.size) args s 0 0 (gh_A h0 s.heap.size)) (F0 m 64 ls []) := by
  unfold wb_X1_leastBefore_64 at hw
  have hx := M.1.1
  have hb := M.1.2.1
  refine gh_iinc (k := 6) (v := (v6 + (1 : Int32))) (lv' := [(6, 1, .int (v6 + (1 : Int32))), (0, 1, va_rf v0), (1, 1, va_rf v1), (2, 1, .int v2), (3, 1, .int v3), (4, 1, .int v4), (5, 1, .int v5)]) hx hb dX1_leastBefore_64 hl rfl rfl (by decide) rfl (fun ls hl => ?_)
  refine lv_goto (tgt := 16) hx hb dX1_leastBefore_67 (by decide) ?_
  exact k16 v0 v1 v2 v3 v4 v5 (v6 + (1 : Int32)) _ _ _ _ G (gh_sub hl [1, 2, 3, 4, 5, 6, 0] rfl) hw
set_option maxHeartbeats 4000000 in
theorem wk1_X1_leastBefore_16 {D : gh_D} {p : Program} {l : Launch} {e : Env} {s : State} {m : MethodId} {args : Array Value} {below : List Frame} {meth : Method} {c : Code} {h0 : gh_H} (M : gh_M D p l s m args meth c RX1 cX1_leastBefore 7 (gh_A h0 s.heap.size)) (hr : meth.sig.returnType = (some .int)) (hex : ∀ x ∈ c.exceptionTable.toList, False) {K16 : Option Nat → Option Nat → Int32 → Int32 → Int32 → Int32 → Int32 → gh_H → Prop}  {Q : Int32 → gh_H → Prop} {X : String → gh_H → Prop} (k16 : ∀ (v0 : Option Nat) (v1 : Option Nat) (v2 : Int32) (v3 : Int32) (v4 : Int32) (v5 : Int32) (v6 : Int32) (H : Heap) (locs : List Loc) (ls : Array Slot) (h : gh_H) (_ : gh_Inv D h0 (gh_A h0 s.heap.size) s.heap s H locs h) (_ : gh_L ls 7 [(0, 1, va_rf v0), (1, 1, va_rf v1), (2, 1, .int v2), (3, 1, .int v3), (4, 1, .int v4), (5, 1, .int v5), (6, 1, .int v6)]) (_ : K16 v0 v1 v2 v3 v4 v5 v6 h), W p l e rm_X1_leastBefore s m args below meth c H locs 0 0 (vx_MQ below (gh_Qi Q D h0 s.heap.size) (gh_X X D h0 s.heap.size) args s 0 0 (gh_A h0 s.heap.size)) (F0 m 16 ls []))  (v0 : Option Nat) (v1 : Option Nat) (v2 : Int32) (v3 : Int32) (v4 : Int32) (v5 : Int32) (v6 : Int32) (H : Heap) (locs : List Loc) (ls : Array Slot) (h : gh_H) (G : gh_Inv D h0 (gh_A h0 s.heap.size) s.heap s H locs h) (hl : gh_L ls 7 [(0, 1, va_rf v0), (1, 1, va_rf v1), (2, 1, .int v2), (3, 1, .int v3), (4, 1, .int v4), (5, 1, .int v5), (6, 1, .int v6)]) (hw : wb_X1_leastBefore_16 D.2.2 K16 Q X v0 v1 v2 v3 v4 v5 v6 h) : W p l e rm_X1_leastBefore s m args below meth c H locs 0 0 (vx_MQ below (gh_Qi Q D h0 s.heap.size) (gh_X X D h0 s.heap.size) args s 0 0 (gh_A h0 s.heap.size)) (F0 m 16 ls []) := by
  unfold wb_X1_leastBefore_16 at hw
  have hx := M.1.1
  have hb := M.1.2.1
  refine lv_iload hx hb dX1_leastBefore_16 (gh_at hl 5 rfl) ?_
  refine lv_iload_n hx hb dX1_leastBefore_18 rfl (gh_at hl 2 rfl) ?_
  refine lv_icmp_eq (tgt := 70) hx hb dX1_leastBefore_19 (by decide) (fun hc => ?_) (fun hc => ?_)
  · replace hw := hw.1 hc
    exact wk_X1_leastBefore_70 M hr hex  v4 _ _ _ _ G (gh_sub hl [4] rfl) hw
  · replace hw := hw.2 hc
    refine lv_iload hx hb dX1_leastBefore_22 (gh_at hl 6 rfl) ?_
    refine gh_aload_n hx hb dX1_leastBefore_24 rfl (gh_at hl 1 rfl) ?_
    refine lv_iload_n hx hb dX1_leastBefore_25 rfl (gh_at hl 2 rfl) ?_
    refine gh_ral M G hw dX1_leastBefore_26 (fun x1 hw => ?_)
    refine gh_len M G hw dX1_leastBefore_27 (fun x2 hw => ?_)
    refine lv_icmp_ge (tgt := 70) hx hb dX1_leastBefore_28 (by decide) (fun hc => ?_) (fun hc => ?_)
    · replace hw := hw.1 hc
      exact wk_X1_leastBefore_70 M hr hex  v4 _ _ _ _ G (gh_sub hl [4] rfl) hw
    · replace hw := hw.2 hc
      refine lv_iload hx hb dX1_leastBefore_31 (gh_at hl 5 rfl) ?_
      refine lv_iload hx hb dX1_leastBefore_33 (gh_at hl 6 rfl) ?_
      refine lv_ishr hx hb dX1_leastBefore_35 ?_
      refine lv_iconst (v := (1 : Int32)) hx hb dX1_leastBefore_36 (by decide) ?_
      refine lv_iand hx hb dX1_leastBefore_37 ?_
      refine lv_iconst (v := (1 : Int32)) hx hb dX1_leastBefore_38 (by decide) ?_
      refine lv_icmp_ne (tgt := 64) hx hb dX1_leastBefore_39 (by decide) (fun hc => ?_) (fun hc => ?_)
      · replace hw := hw.2 hc
        exact wk_X1_leastBefore_64 M hr hex k16 v0 v1 v2 v3 v4 v5 v6 _ _ _ _ G (gh_sub hl [0, 1, 2, 3, 4, 5, 6] rfl) hw
      · replace hw := hw.1 hc
        refine lv_iload hx hb dX1_leastBefore_42 (gh_at hl 4 rfl) ?_
        refine gh_aload_n hx hb dX1_leastBefore_44 rfl (gh_at hl 1 rfl) ?_
        refine lv_iload hx hb dX1_leastBefore_45 (gh_at hl 5 rfl) ?_
        refine gh_ral M G hw dX1_leastBefore_47 (fun x3 hw => ?_)
        refine lv_iload hx hb dX1_leastBefore_48 (gh_at hl 6 rfl) ?_
        refine gh_ial M G hw dX1_leastBefore_50 (fun x4 hw => ?_)
        refine gh_aload_n hx hb dX1_leastBefore_51 rfl (gh_at hl 0 rfl) ?_
        refine lv_iload hx hb dX1_leastBefore_52 (gh_at hl 6 rfl) ?_
        refine lv_iload_n hx hb dX1_leastBefore_54 rfl (gh_at hl 3 rfl) ?_
        refine gh_ki G (vx_runS M.1 (met_X1_between l D _ _ _ _ _ _ _ hw M.2.2.2.2.2) (va_cwS 3 (gh_Mts M) (lw_S q1090 q1091 q41 q1092) rfl rfl rfl ⟨by decide, by decide, rfl⟩ ⟨Nat.le_of_ble_eq_true rfl, Nat.le_of_ble_eq_true rfl⟩) (gh_pre M G (As := [va_rf v0, .int v6, .int v3])) rfl rfl hl.1.1 rfl (lv_room (Nat.le_of_ble_eq_true rfl)) dX1_leastBefore_55 ⟨(Nat.le_of_ble_eq_true rfl), (Nat.le_of_ble_eq_true rfl)⟩) (gh_out M hex (by exact Nat.le_of_ble_eq_true rfl) (by exact Nat.le_of_ble_eq_true rfl)) (fun r5 h6 H locs hw G => ?_)
        refine lv_iadd hx hb dX1_leastBefore_58 ?_
        refine va_mmin M.1.1 M.1.2.1 (M.1.2.2.1.trans hl.1.1.symm) M.1.2.2.2.1 (gh_Mts M _ q1093) (gh_Mts M _ q429) (gh_Mts M _ q57) (gh_Mts M _ q430) (by exact Nat.le_of_ble_eq_true rfl) (Nat.le_trans (Nat.add_le_add_right gh_r0 _) (by exact Nat.le_of_ble_eq_true rfl)) (Nat.le_of_ble_eq_true rfl) (Nat.le_of_ble_eq_true rfl) dX1_leastBefore_59 ?_
        refine gh_istore (lv' := [(4, 1, .int (if (x4 + r5) < v4 then (x4 + r5) else v4)), (0, 1, va_rf v0), (1, 1, va_rf v1), (2, 1, .int v2), (3, 1, .int v3), (5, 1, .int v5), (6, 1, .int v6)]) hx hb dX1_leastBefore_62 hl (by decide) rfl (fun ls hl => ?_)
        exact wk_X1_leastBefore_64 M hr hex k16 v0 v1 v2 v3 (if (x4 + r5) < v4 then (x4 + r5) else v4) v5 v6 _ _ _ _ G (gh_sub hl [1, 2, 3, 4, 0, 5, 6] rfl) hw
theorem wk_X1_leastBefore_16 {D : gh_D} {p : Program} {l : Launch} {e : Env} {s : State} {m : MethodId} {args : Array Value} {below : List Frame} {meth : Method} {c : Code} {h0 : gh_H} (M : gh_M D p l s m args meth c RX1 cX1_leastBefore 7 (gh_A h0 s.heap.size)) (hr : meth.sig.returnType = (some .int)) (hex : ∀ x ∈ c.exceptionTable.toList, False)   {Q : Int32 → gh_H → Prop} {X : String → gh_H → Prop}   : ∀ (n : Nat) (v0 : Option Nat) (v1 : Option Nat) (v2 : Int32) (v3 : Int32) (v4 : Int32) (v5 : Int32) (v6 : Int32) (H : Heap) (locs : List Loc) (ls : Array Slot) (h : gh_H) (_ : gh_Inv D h0 (gh_A h0 s.heap.size) s.heap s H locs h) (_ : gh_L ls 7 [(0, 1, va_rf v0), (1, 1, va_rf v1), (2, 1, .int v2), (3, 1, .int v3), (4, 1, .int v4), (5, 1, .int v5), (6, 1, .int v6)]) (_ : wl_X1_leastBefore_16 D.2.2 Q X n v0 v1 v2 v3 v4 v5 v6 h), W p l e rm_X1_leastBefore s m args below meth c H locs 0 0 (vx_MQ below (gh_Qi Q D h0 s.heap.size) (gh_X X D h0 s.heap.size) args s 0 0 (gh_A h0 s.heap.size)) (F0 m 16 ls []) := by
  intro fu
  induction fu with
  | zero => intro v0 v1 v2 v3 v4 v5 v6 H locs ls h G hl hw; exact False.elim hw
  | succ n1 ih =>
    intro v0 v1 v2 v3 v4 v5 v6 H locs ls h G hl hw
    exact wk1_X1_leastBefore_16 M hr hex ih  v0 v1 v2 v3 v4 v5 v6 _ _ _ _ G hl hw
set_option maxHeartbeats 4000000 in
theorem met_X1_leastBefore (l : Launch) (D : gh_D) (v0 : Option Nat) (v1 : Option Nat) (v2 : Int32) (v3 : Int32) (Q : Int32 → gh_H → Prop) (X : String → gh_H → Prop) (h : gh_H) (sz : Nat) (hw : wp_X1_leastBefore D.2.2 v0 v1 v2 v3 Q X h) (hst : l.stackTraces = false) : vx_Met l yX1_leastBefore (ws_ yX1_leastBefore cX1_leastBefore 7 (some .int)) rm_X1_leastBefore (gh_Pc D h sz [va_rf v0, va_rf v1, .int v2, .int v3]) (gh_Qi Q D h sz) (gh_X X D h sz) 0 0 (gh_A h sz) := by
  refine vx_ofW (by decide) rfl (fun p e s m args below meth c s₁ B hml hex hP => ?_)
  obtain ⟨rfl, rfl, hK, hT, hE, G⟩ := gh_start hP
  have M : gh_M D p l s m _ meth c RX1 cX1_leastBefore 7 (gh_A h s.heap.size) := ⟨⟨B.exec, B.bytes, hml, findClass_of_methodNamed B.named, fun w hw => atoms_spec (ws := ws_ yX1_leastBefore cX1_leastBefore 7 (some .int)) B.pre w (List.mem_cons_of_mem _ hw)⟩, hK, hT, hE, B.notSynchronized, hst⟩
  have hr := B.returns
  have hx := M.1.1
  have hb := M.1.2.1
  refine gh_enter (vs := [(1, va_rf v0), (1, va_rf v1), (1, .int v2), (1, .int v3)]) (gh_w1 (gh_cat _) (gh_w1 (gh_cat _) (gh_w1 rfl (gh_w1 rfl gh_wn)))) (Nat.le_of_ble_eq_true rfl) (fun ls hl => ?_)
  replace hl : gh_L ls 7 [(0, 1, va_rf v0), (1, 1, va_rf v1), (2, 1, .int v2), (3, 1, .int v3)] := hl
  unfold wp_X1_leastBefore at hw
  refine lv_ldc (v := (1000000 : Int32)) hx hb M.1.2.2.2.1 (gh_Mts M _ q1089) dX1_leastBefore_0 ?_
  refine gh_istore (lv' := [(4, 1, .int (1000000 : Int32)), (0, 1, va_rf v0), (1, 1, va_rf v1), (2, 1, .int v2), (3, 1, .int v3)]) hx hb dX1_leastBefore_2 hl (by decide) rfl (fun ls hl => ?_)
  refine lv_iload_n hx hb dX1_leastBefore_4 rfl (gh_at hl 3 rfl) ?_
  refine lv_iconst (v := (1 : Int32)) hx hb dX1_leastBefore_5 (by decide) ?_
  refine lv_iload_n hx hb dX1_leastBefore_6 rfl (gh_at hl 4 rfl) ?_
  refine lv_ishl hx hb dX1_leastBefore_7 ?_
  refine lv_iconst (v := (-1 : Int32)) hx hb dX1_leastBefore_8 (by decide) ?_
  refine lv_ixor hx hb dX1_leastBefore_9 ?_
  refine lv_iand hx hb dX1_leastBefore_10 ?_
  refine gh_istore (lv' := [(5, 1, .int (v2 &&& (((1 : Int32) <<< (v3 &&& 31)) ^^^ (-1 : Int32)))), (4, 1, .int (1000000 : Int32)), (0, 1, va_rf v0), (1, 1, va_rf v1), (2, 1, .int v2), (3, 1, .int v3)]) hx hb dX1_leastBefore_11 hl (by decide) rfl (fun ls hl => ?_)
  refine lv_iconst (v := (0 : Int32)) hx hb dX1_leastBefore_13 (by decide) ?_
  refine gh_istore (lv' := [(6, 1, .int (0 : Int32)), (5, 1, .int (v2 &&& (((1 : Int32) <<< (v3 &&& 31)) ^^^ (-1 : Int32)))), (4, 1, .int (1000000 : Int32)), (0, 1, va_rf v0), (1, 1, va_rf v1), (2, 1, .int v2), (3, 1, .int v3)]) hx hb dX1_leastBefore_14 hl (by decide) rfl (fun ls hl => ?_)
  obtain ⟨n, hw⟩ := hw
  exact wk_X1_leastBefore_16 M hr hex  n v0 v1 v2 v3 (1000000 : Int32) (v2 &&& (((1 : Int32) <<< (v3 &&& 31)) ^^^ (-1 : Int32))) (0 : Int32) _ _ _ _ G (gh_sub hl [3, 4, 5, 6, 2, 1, 0] rfl) hw
/-! BinderyDesk.leastMakeready (I)I -/
def rm_X1_leastMakeready : Room := { frames := 9, cells := 259, slots := 2316, locals := 200 }
def wb_X1_leastMakeready_112 (κ : Nat → Nat) (K112 : Int32 → Option Nat → Int32 → Int32 → gh_H → Prop) (Q : Int32 → gh_H → Prop) (X : String → gh_H → Prop) (v5 : Int32) (v6 : Option Nat) (v7 : Int32) (v8 : Int32) (h : gh_H) : Prop := ((v7 ≤ v8 → (Q v5 h)) ∧ (¬ v7 ≤ v8 → (gh_LI h v6 v8 (fun x1 => K112 (if x1 < v5 then x1 else v5) v6 v7 (v8 + (1 : Int32)) h))))
def wl_X1_leastMakeready_112 (κ : Nat → Nat)  (Q : Int32 → gh_H → Prop) (X : String → gh_H → Prop) : Nat → Int32 → Option Nat → Int32 → Int32 → gh_H → Prop
  | 0 => fun _ _ _ _ _ => False
  | n + 1 => fun v5 v6 v7 v8 h => wb_X1_leastMakeready_112 κ (wl_X1_leastMakeready_112 κ Q X n) Q X v5 v6 v7 v8 h
def wb_X1_leastMakeready_77 (κ : Nat → Nat) (K24 : Nat → Option Nat → Int32 → Option Nat → Int32 → gh_H → Prop) (K35 : Nat → Option Nat → Int32 → Option Nat → Int32 → Int32 → gh_H → Prop) (Q : Int32 → gh_H → Prop) (X : String → gh_H → Prop) (v0 : Nat) (v2 : Option Nat) (v3 : Int32) (v4 : Option Nat) (v5 : Int32) (v6 : Int32) (t0 : Option Nat) (t1 : Int32) (t2 : Int32) (h : gh_H) : Prop := (gh_SI h t0 t1 t2 (fun h1 => K35 v0 v2 v3 v4 v5 (v6 + (1 : Int32)) h1))
def wb_X1_leastMakeready_35 (κ : Nat → Nat) (K24 : Nat → Option Nat → Int32 → Option Nat → Int32 → gh_H → Prop) (K35 : Nat → Option Nat → Int32 → Option Nat → Int32 → Int32 → gh_H → Prop) (Q : Int32 → gh_H → Prop) (X : String → gh_H → Prop) (v0 : Nat) (v2 : Option Nat) (v3 : Int32) (v4 : Option Nat) (v5 : Int32) (v6 : Int32) (h : gh_H) : Prop := ((v3 ≤ v6 → K24 v0 v2 v3 v4 (v5 + (1 : Int32)) h) ∧ (¬ v3 ≤ v6 → (gh_LR h v4 v5 (fun x1 => ((v5 = ((1 : Int32) <<< (v6 &&& 31)) → (gh_RC h (some v0) 0 (fun _ => (wp_X1_makeready κ v0 v2 v6 (fun r5 h6 => wb_X1_leastMakeready_77 κ K24 K35 Q X v0 v2 v3 v4 v5 v6 x1 v6 r5 h6) X h)))) ∧ (¬ v5 = ((1 : Int32) <<< (v6 &&& 31)) → (wp_X1_leastBefore κ v2 v4 v5 v6 (fun r2 h3 => wb_X1_leastMakeready_77 κ K24 K35 Q X v0 v2 v3 v4 v5 v6 x1 v6 r2 h3) X h)))))))
def wl_X1_leastMakeready_35 (κ : Nat → Nat) (K24 : Nat → Option Nat → Int32 → Option Nat → Int32 → gh_H → Prop) (Q : Int32 → gh_H → Prop) (X : String → gh_H → Prop) : Nat → Nat → Option Nat → Int32 → Option Nat → Int32 → Int32 → gh_H → Prop
  | 0 => fun _ _ _ _ _ _ _ => False
  | n + 1 => fun v0 v2 v3 v4 v5 v6 h => wb_X1_leastMakeready_35 κ K24 (wl_X1_leastMakeready_35 κ K24 Q X n) Q X v0 v2 v3 v4 v5 v6 h
def wb_X1_leastMakeready_24 (κ : Nat → Nat) (K24 : Nat → Option Nat → Int32 → Option Nat → Int32 → gh_H → Prop) (Q : Int32 → gh_H → Prop) (X : String → gh_H → Prop) (v0 : Nat) (v2 : Option Nat) (v3 : Int32) (v4 : Option Nat) (v5 : Int32) (h : gh_H) : Prop := (gh_LN h v4 (fun x1 => ((x1 ≤ v5 → (gh_LN h v4 (fun x2 => (gh_LR h v4 (x2 - (1 : Int32)) (fun x3 => (gh_LN h x3 (fun x4 => (∃ n : Nat, wl_X1_leastMakeready_112 κ Q X n (1000000 : Int32) x3 x4 (0 : Int32) h)))))))) ∧ (¬ x1 ≤ v5 → (∃ n : Nat, wl_X1_leastMakeready_35 κ K24 Q X n v0 v2 v3 v4 v5 (0 : Int32) h)))))
def wl_X1_leastMakeready_24 (κ : Nat → Nat)  (Q : Int32 → gh_H → Prop) (X : String → gh_H → Prop) : Nat → Nat → Option Nat → Int32 → Option Nat → Int32 → gh_H → Prop
  | 0 => fun _ _ _ _ _ _ => False
  | n + 1 => fun v0 v2 v3 v4 v5 h => wb_X1_leastMakeready_24 κ (wl_X1_leastMakeready_24 κ Q X n) Q X v0 v2 v3 v4 v5 h
def wp_X1_leastMakeready (κ : Nat → Nat) (v0 : Nat) (v1 : Int32) (Q : Int32 → gh_H → Prop) (X : String → gh_H → Prop) (h : gh_H) : Prop := (gh_RC h (some v0) 0 (fun _ => (wp_X1_completeJob κ v0 v1 (fun r2 h3 => (gh_RC h3 r2 7 (fun a4 => (wp_X7_sheets κ a4 (fun r5 h6 => (gh_NM h6 ((1 : Int32) <<< (r5 &&& 31)) r5 256 8 (fun q7 h8 => (∃ n : Nat, wl_X1_leastMakeready_24 κ Q X n v0 (some a4) r5 (some q7) (1 : Int32) h8)))) X h3)))) X h)))
set_option maxHeartbeats 4000000 in
theorem wk1_X1_leastMakeready_112 {D : gh_D} {p : Program} {l : Launch} {e : Env} {s : State} {m : MethodId} {args : Array Value} {below : List Frame} {meth : Method} {c : Code} {h0 : gh_H} (M : gh_M D p l s m args meth c RX1 cX1_leastMakeready 10 (gh_A h0 s.heap.size)) (hr : meth.sig.returnType = (some .int)) (hex : ∀ x ∈ c.exceptionTable.toList, False) {K112 : Int32 → Option Nat → Int32 → Int32 → gh_H → Prop}  {Q : Int32 → gh_H → Prop} {X : String → gh_H → Prop} (k112 : ∀ (v5 : Int32) (v6 : Option Nat) (v7 : Int32) (v8 : Int32) (H : Heap) (locs : List Loc) (ls : Array Slot) (h : gh_H) (_ : gh_Inv D h0 (gh_A h0 s.heap.size) s.heap s H locs h) (_ : gh_L ls 10 [(5, 1, .int v5), (6, 1, va_rf v6), (7, 1, .int v7), (8, 1, .int v8)]) (_ : K112 v5 v6 v7 v8 h), W p l e rm_X1_leastMakeready s m args below meth c H locs 259 2316 (vx_MQ below (gh_Qi Q D h0 s.heap.size) (gh_X X D h0 s.heap.size) args s 259 2316 (gh_A h0 s.heap.size)) (F0 m 112 ls []))  (v5 : Int32) (v6 : Option Nat) (v7 : Int32) (v8 : Int32) (H : Heap) (locs : List Loc) (ls : Array Slot) (h : gh_H) (G : gh_Inv D h0 (gh_A h0 s.heap.size) s.heap s H locs h) (hl : gh_L ls 10 [(5, 1, .int v5), (6, 1, va_rf v6), (7, 1, .int v7), (8, 1, .int v8)]) (hw : wb_X1_leastMakeready_112 D.2.2 K112 Q X v5 v6 v7 v8 h) : W p l e rm_X1_leastMakeready s m args below meth c H locs 259 2316 (vx_MQ below (gh_Qi Q D h0 s.heap.size) (gh_X X D h0 s.heap.size) args s 259 2316 (gh_A h0 s.heap.size)) (F0 m 112 ls []) := by
  unfold wb_X1_leastMakeready_112 at hw
  have hx := M.1.1
  have hb := M.1.2.1
  refine lv_iload hx hb dX1_leastMakeready_112 (gh_at hl 3 rfl) ?_
  refine lv_iload hx hb dX1_leastMakeready_114 (gh_at hl 2 rfl) ?_
  refine lv_icmp_ge (tgt := 141) hx hb dX1_leastMakeready_116 (by decide) (fun hc => ?_) (fun hc => ?_)
  · replace hw := hw.1 hc
    refine lv_iload hx hb dX1_leastMakeready_141 (gh_at hl 0 rfl) ?_
    exact gh_iret M G hr rfl hw (by exact Nat.le_of_ble_eq_true rfl) (by exact Nat.le_of_ble_eq_true rfl) dX1_leastMakeready_143
  · replace hw := hw.2 hc
    refine gh_aload hx hb dX1_leastMakeready_119 (gh_at hl 1 rfl) ?_
    refine lv_iload hx hb dX1_leastMakeready_121 (gh_at hl 3 rfl) ?_
    refine gh_ial M G hw dX1_leastMakeready_123 (fun x1 hw => ?_)
    refine gh_istore (lv' := [(9, 1, .int x1), (5, 1, .int v5), (6, 1, va_rf v6), (7, 1, .int v7), (8, 1, .int v8)]) hx hb dX1_leastMakeready_124 hl (by decide) rfl (fun ls hl => ?_)
    refine lv_iload hx hb dX1_leastMakeready_126 (gh_at hl 1 rfl) ?_
    refine lv_iload hx hb dX1_leastMakeready_128 (gh_at hl 0 rfl) ?_
    refine va_mmin M.1.1 M.1.2.1 (M.1.2.2.1.trans hl.1.1.symm) M.1.2.2.2.1 (gh_Mts M _ q1093) (gh_Mts M _ q429) (gh_Mts M _ q57) (gh_Mts M _ q430) (by exact Nat.le_of_ble_eq_true rfl) (Nat.le_trans (Nat.add_le_add_right gh_r0 _) (by exact Nat.le_of_ble_eq_true rfl)) (Nat.le_of_ble_eq_true rfl) (Nat.le_of_ble_eq_true rfl) dX1_leastMakeready_130 ?_
    refine gh_istore (lv' := [(5, 1, .int (if x1 < v5 then x1 else v5)), (9, 1, .int x1), (6, 1, va_rf v6), (7, 1, .int v7), (8, 1, .int v8)]) hx hb dX1_leastMakeready_133 hl (by decide) rfl (fun ls hl => ?_)
    refine gh_iinc (k := 4) (v := (v8 + (1 : Int32))) (lv' := [(8, 1, .int (v8 + (1 : Int32))), (5, 1, .int (if x1 < v5 then x1 else v5)), (9, 1, .int x1), (6, 1, va_rf v6), (7, 1, .int v7)]) hx hb dX1_leastMakeready_135 hl rfl rfl (by decide) rfl (fun ls hl => ?_)
    refine lv_goto (tgt := 112) hx hb dX1_leastMakeready_138 (by decide) ?_
    exact k112 (if x1 < v5 then x1 else v5) v6 v7 (v8 + (1 : Int32)) _ _ _ _ G (gh_sub hl [1, 3, 4, 0] rfl) hw
theorem wk_X1_leastMakeready_112 {D : gh_D} {p : Program} {l : Launch} {e : Env} {s : State} {m : MethodId} {args : Array Value} {below : List Frame} {meth : Method} {c : Code} {h0 : gh_H} (M : gh_M D p l s m args meth c RX1 cX1_leastMakeready 10 (gh_A h0 s.heap.size)) (hr : meth.sig.returnType = (some .int)) (hex : ∀ x ∈ c.exceptionTable.toList, False)   {Q : Int32 → gh_H → Prop} {X : String → gh_H → Prop}   : ∀ (n : Nat) (v5 : Int32) (v6 : Option Nat) (v7 : Int32) (v8 : Int32) (H : Heap) (locs : List Loc) (ls : Array Slot) (h : gh_H) (_ : gh_Inv D h0 (gh_A h0 s.heap.size) s.heap s H locs h) (_ : gh_L ls 10 [(5, 1, .int v5), (6, 1, va_rf v6), (7, 1, .int v7), (8, 1, .int v8)]) (_ : wl_X1_leastMakeready_112 D.2.2 Q X n v5 v6 v7 v8 h), W p l e rm_X1_leastMakeready s m args below meth c H locs 259 2316 (vx_MQ below (gh_Qi Q D h0 s.heap.size) (gh_X X D h0 s.heap.size) args s 259 2316 (gh_A h0 s.heap.size)) (F0 m 112 ls []) := by
  intro fu
  induction fu with
  | zero => intro v5 v6 v7 v8 H locs ls h G hl hw; exact False.elim hw
  | succ n1 ih =>
    intro v5 v6 v7 v8 H locs ls h G hl hw
    exact wk1_X1_leastMakeready_112 M hr hex ih  v5 v6 v7 v8 _ _ _ _ G hl hw
set_option maxHeartbeats 4000000 in
theorem wk_X1_leastMakeready_77 {D : gh_D} {p : Program} {l : Launch} {e : Env} {s : State} {m : MethodId} {args : Array Value} {below : List Frame} {meth : Method} {c : Code} {h0 : gh_H} (M : gh_M D p l s m args meth c RX1 cX1_leastMakeready 10 (gh_A h0 s.heap.size)) (hr : meth.sig.returnType = (some .int)) (hex : ∀ x ∈ c.exceptionTable.toList, False) {K24 : Nat → Option Nat → Int32 → Option Nat → Int32 → gh_H → Prop} {K35 : Nat → Option Nat → Int32 → Option Nat → Int32 → Int32 → gh_H → Prop}  {Q : Int32 → gh_H → Prop} {X : String → gh_H → Prop} (k24 : ∀ (v0 : Nat) (v2 : Option Nat) (v3 : Int32) (v4 : Option Nat) (v5 : Int32) (H : Heap) (locs : List Loc) (ls : Array Slot) (h : gh_H) (_ : gh_Inv D h0 (gh_A h0 s.heap.size) s.heap s H locs h) (_ : gh_L ls 10 [(0, 1, va_rf (some v0)), (2, 1, va_rf v2), (3, 1, .int v3), (4, 1, va_rf v4), (5, 1, .int v5)]) (_ : K24 v0 v2 v3 v4 v5 h), W p l e rm_X1_leastMakeready s m args below meth c H locs 259 2316 (vx_MQ below (gh_Qi Q D h0 s.heap.size) (gh_X X D h0 s.heap.size) args s 259 2316 (gh_A h0 s.heap.size)) (F0 m 24 ls [])) (k35 : ∀ (v0 : Nat) (v2 : Option Nat) (v3 : Int32) (v4 : Option Nat) (v5 : Int32) (v6 : Int32) (H : Heap) (locs : List Loc) (ls : Array Slot) (h : gh_H) (_ : gh_Inv D h0 (gh_A h0 s.heap.size) s.heap s H locs h) (_ : gh_L ls 10 [(0, 1, va_rf (some v0)), (2, 1, va_rf v2), (3, 1, .int v3), (4, 1, va_rf v4), (5, 1, .int v5), (6, 1, .int v6)]) (_ : K35 v0 v2 v3 v4 v5 v6 h), W p l e rm_X1_leastMakeready s m args below meth c H locs 259 2316 (vx_MQ below (gh_Qi Q D h0 s.heap.size) (gh_X X D h0 s.heap.size) args s 259 2316 (gh_A h0 s.heap.size)) (F0 m 35 ls []))  (v0 : Nat) (v2 : Option Nat) (v3 : Int32) (v4 : Option Nat) (v5 : Int32) (v6 : Int32) (t0 : Option Nat) (t1 : Int32) (t2 : Int32) (H : Heap) (locs : List Loc) (ls : Array Slot) (h : gh_H) (G : gh_Inv D h0 (gh_A h0 s.heap.size) s.heap s H locs h) (hl : gh_L ls 10 [(0, 1, va_rf (some v0)), (2, 1, va_rf v2), (3, 1, .int v3), (4, 1, va_rf v4), (5, 1, .int v5), (6, 1, .int v6)]) (hw : wb_X1_leastMakeready_77 D.2.2 K24 K35 Q X v0 v2 v3 v4 v5 v6 t0 t1 t2 h) : W p l e rm_X1_leastMakeready s m args below meth c H locs 259 2316 (vx_MQ below (gh_Qi Q D h0 s.heap.size) (gh_X X D h0 s.heap.size) args s 259 2316 (gh_A h0 s.heap.size)) (F0 m 77 ls [.int t2, .int t1, va_rf t0]) := by
  unfold wb_X1_leastMakeready_77 at hw
  have hx := M.1.1
  have hb := M.1.2.1
  refine gh_ias M G hw dX1_leastMakeready_77 (fun h1 H locs hw G => ?_)
  refine gh_iinc (k := 5) (v := (v6 + (1 : Int32))) (lv' := [(6, 1, .int (v6 + (1 : Int32))), (0, 1, va_rf (some v0)), (2, 1, va_rf v2), (3, 1, .int v3), (4, 1, va_rf v4), (5, 1, .int v5)]) hx hb dX1_leastMakeready_78 hl rfl rfl (by decide) rfl (fun ls hl => ?_)
  refine lv_goto (tgt := 35) hx hb dX1_leastMakeready_81 (by decide) ?_
  exact k35 v0 v2 v3 v4 v5 (v6 + (1 : Int32)) _ _ _ _ G (gh_sub hl [1, 2, 3, 4, 5, 0] rfl) hw
set_option maxHeartbeats 4000000 in
theorem wk1_X1_leastMakeready_35 {D : gh_D} {p : Program} {l : Launch} {e : Env} {s : State} {m : MethodId} {args : Array Value} {below : List Frame} {meth : Method} {c : Code} {h0 : gh_H} (M : gh_M D p l s m args meth c RX1 cX1_leastMakeready 10 (gh_A h0 s.heap.size)) (hr : meth.sig.returnType = (some .int)) (hex : ∀ x ∈ c.exceptionTable.toList, False) {K24 : Nat → Option Nat → Int32 → Option Nat → Int32 → gh_H → Prop} {K35 : Nat → Option Nat → Int32 → Option Nat → Int32 → Int32 → gh_H → Prop}  {Q : Int32 → gh_H → Prop} {X : String → gh_H → Prop} (k24 : ∀ (v0 : Nat) (v2 : Option Nat) (v3 : Int32) (v4 : Option Nat) (v5 : Int32) (H : Heap) (locs : List Loc) (ls : Array Slot) (h : gh_H) (_ : gh_Inv D h0 (gh_A h0 s.heap.size) s.heap s H locs h) (_ : gh_L ls 10 [(0, 1, va_rf (some v0)), (2, 1, va_rf v2), (3, 1, .int v3), (4, 1, va_rf v4), (5, 1, .int v5)]) (_ : K24 v0 v2 v3 v4 v5 h), W p l e rm_X1_leastMakeready s m args below meth c H locs 259 2316 (vx_MQ below (gh_Qi Q D h0 s.heap.size) (gh_X X D h0 s.heap.size) args s 259 2316 (gh_A h0 s.heap.size)) (F0 m 24 ls [])) (k35 : ∀ (v0 : Nat) (v2 : Option Nat) (v3 : Int32) (v4 : Option Nat) (v5 : Int32) (v6 : Int32) (H : Heap) (locs : List Loc) (ls : Array Slot) (h : gh_H) (_ : gh_Inv D h0 (gh_A h0 s.heap.size) s.heap s H locs h) (_ : gh_L ls 10 [(0, 1, va_rf (some v0)), (2, 1, va_rf v2), (3, 1, .int v3), (4, 1, va_rf v4), (5, 1, .int v5), (6, 1, .int v6)]) (_ : K35 v0 v2 v3 v4 v5 v6 h), W p l e rm_X1_leastMakeready s m args below meth c H locs 259 2316 (vx_MQ below (gh_Qi Q D h0 s.heap.size) (gh_X X D h0 s.heap.size) args s 259 2316 (gh_A h0 s.heap.size)) (F0 m 35 ls []))  (v0 : Nat) (v2 : Option Nat) (v3 : Int32) (v4 : Option Nat) (v5 : Int32) (v6 : Int32) (H : Heap) (locs : List Loc) (ls : Array Slot) (h : gh_H) (G : gh_Inv D h0 (gh_A h0 s.heap.size) s.heap s H locs h) (hl : gh_L ls 10 [(0, 1, va_rf (some v0)), (2, 1, va_rf v2), (3, 1, .int v3), (4, 1, va_rf v4), (5, 1, .int v5), (6, 1, .int v6)]) (hw : wb_X1_leastMakeready_35 D.2.2 K24 K35 Q X v0 v2 v3 v4 v5 v6 h) : W p l e rm_X1_leastMakeready s m args below meth c H locs 259 2316 (vx_MQ below (gh_Qi Q D h0 s.heap.size) (gh_X X D h0 s.heap.size) args s 259 2316 (gh_A h0 s.heap.size)) (F0 m 35 ls []) := by
  unfold wb_X1_leastMakeready_35 at hw
  have hx := M.1.1
  have hb := M.1.2.1
  refine lv_iload hx hb dX1_leastMakeready_35 (gh_at hl 5 rfl) ?_
  refine lv_iload_n hx hb dX1_leastMakeready_37 rfl (gh_at hl 2 rfl) ?_
  refine lv_icmp_ge (tgt := 84) hx hb dX1_leastMakeready_38 (by decide) (fun hc => ?_) (fun hc => ?_)
  · replace hw := hw.1 hc
    refine gh_iinc (k := 4) (v := (v5 + (1 : Int32))) (lv' := [(5, 1, .int (v5 + (1 : Int32))), (0, 1, va_rf (some v0)), (2, 1, va_rf v2), (3, 1, .int v3), (4, 1, va_rf v4), (6, 1, .int v6)]) hx hb dX1_leastMakeready_84 hl rfl rfl (by decide) rfl (fun ls hl => ?_)
    refine lv_goto (tgt := 24) hx hb dX1_leastMakeready_87 (by decide) ?_
    exact k24 v0 v2 v3 v4 (v5 + (1 : Int32)) _ _ _ _ G (gh_sub hl [1, 2, 3, 4, 0] rfl) hw
  · replace hw := hw.2 hc
    refine gh_aload hx hb dX1_leastMakeready_41 (gh_at hl 3 rfl) ?_
    refine lv_iload hx hb dX1_leastMakeready_43 (gh_at hl 4 rfl) ?_
    refine gh_ral M G hw dX1_leastMakeready_45 (fun x1 hw => ?_)
    refine lv_iload hx hb dX1_leastMakeready_46 (gh_at hl 5 rfl) ?_
    refine lv_iload hx hb dX1_leastMakeready_48 (gh_at hl 4 rfl) ?_
    refine lv_iconst (v := (1 : Int32)) hx hb dX1_leastMakeready_50 (by decide) ?_
    refine lv_iload hx hb dX1_leastMakeready_51 (gh_at hl 5 rfl) ?_
    refine lv_ishl hx hb dX1_leastMakeready_53 ?_
    refine lv_icmp_ne (tgt := 67) hx hb dX1_leastMakeready_54 (by decide) (fun hc => ?_) (fun hc => ?_)
    · replace hw := hw.2 hc
      refine gh_aload_n hx hb dX1_leastMakeready_67 rfl (gh_at hl 1 rfl) ?_
      refine gh_aload hx hb dX1_leastMakeready_68 (gh_at hl 3 rfl) ?_
      refine lv_iload hx hb dX1_leastMakeready_70 (gh_at hl 4 rfl) ?_
      refine lv_iload hx hb dX1_leastMakeready_72 (gh_at hl 5 rfl) ?_
      refine gh_ki G (vx_runS M.1 (met_X1_leastBefore l D _ _ _ _ _ _ _ _ hw M.2.2.2.2.2) (va_cwS 4 (gh_Mts M) (lw_S q1086 q1087 q41 q1088) rfl rfl rfl ⟨by decide, by decide, rfl⟩ ⟨Nat.le_of_ble_eq_true rfl, Nat.le_of_ble_eq_true rfl⟩) (gh_pre M G (As := [va_rf v2, va_rf v4, .int v5, .int v6])) rfl rfl hl.1.1 rfl (lv_room (Nat.le_trans (gh_r1 rfl (gh_r1 (gh_cat _) gh_r0)) (Nat.le_of_ble_eq_true rfl : 2 ≤ 8))) dX1_leastMakeready_74 ⟨(Nat.le_of_ble_eq_true rfl), (Nat.le_of_ble_eq_true rfl)⟩) (gh_out M hex (by exact Nat.le_of_ble_eq_true rfl) (by exact Nat.le_of_ble_eq_true rfl)) (fun r2 h3 H locs hw G => ?_)
      exact wk_X1_leastMakeready_77 M hr hex k24 k35 v0 v2 v3 v4 v5 v6 x1 v6 r2 _ _ _ _ G (gh_sub hl [0, 1, 2, 3, 4, 5] rfl) hw
    · replace hw := hw.1 hc
      refine gh_aload_n hx hb dX1_leastMakeready_57 rfl (gh_at hl 0 rfl) ?_
      refine gh_aload_n hx hb dX1_leastMakeready_58 rfl (gh_at hl 1 rfl) ?_
      refine lv_iload hx hb dX1_leastMakeready_59 (gh_at hl 5 rfl) ?_
      obtain ⟨a4, lba4, fsa4, hra4, haa4, hw⟩ := hw
      rw [← Option.some.inj hra4] at haa4
      refine gh_ki G (vx_runV M.1 (met_X1_makeready l D _ _ _ _ _ _ _ hw M.2.2.2.2.2) (cwV 2 (gh_Mts M) (lw_V q877 q879 qs8 q41 q880) rfl rfl rfl ⟨rfl, by decide, by decide, rfl⟩ ⟨Nat.le_of_ble_eq_true rfl, Nat.le_of_ble_eq_true rfl⟩) (gh_preV (As := [va_rf v2, .int v6]) M G (gh_rec M G haa4 rfl)) rfl rfl hl.1.1 rfl (lv_room (Nat.le_trans (gh_r1 rfl (gh_r1 (gh_cat _) gh_r0)) (Nat.le_of_ble_eq_true rfl : 2 ≤ 8))) dX1_leastMakeready_61 ⟨(Nat.le_of_ble_eq_true rfl), (Nat.le_of_ble_eq_true rfl)⟩) (gh_out M hex (by exact Nat.le_of_ble_eq_true rfl) (by exact Nat.le_of_ble_eq_true rfl)) (fun r5 h6 H locs hw G => ?_)
      refine lv_goto (tgt := 77) hx hb dX1_leastMakeready_64 (by decide) ?_
      exact wk_X1_leastMakeready_77 M hr hex k24 k35 v0 v2 v3 v4 v5 v6 x1 v6 r5 _ _ _ _ G (gh_sub hl [0, 1, 2, 3, 4, 5] rfl) hw
theorem wk_X1_leastMakeready_35 {D : gh_D} {p : Program} {l : Launch} {e : Env} {s : State} {m : MethodId} {args : Array Value} {below : List Frame} {meth : Method} {c : Code} {h0 : gh_H} (M : gh_M D p l s m args meth c RX1 cX1_leastMakeready 10 (gh_A h0 s.heap.size)) (hr : meth.sig.returnType = (some .int)) (hex : ∀ x ∈ c.exceptionTable.toList, False) {K24 : Nat → Option Nat → Int32 → Option Nat → Int32 → gh_H → Prop}  {Q : Int32 → gh_H → Prop} {X : String → gh_H → Prop} (k24 : ∀ (v0 : Nat) (v2 : Option Nat) (v3 : Int32) (v4 : Option Nat) (v5 : Int32) (H : Heap) (locs : List Loc) (ls : Array Slot) (h : gh_H) (_ : gh_Inv D h0 (gh_A h0 s.heap.size) s.heap s H locs h) (_ : gh_L ls 10 [(0, 1, va_rf (some v0)), (2, 1, va_rf v2), (3, 1, .int v3), (4, 1, va_rf v4), (5, 1, .int v5)]) (_ : K24 v0 v2 v3 v4 v5 h), W p l e rm_X1_leastMakeready s m args below meth c H locs 259 2316 (vx_MQ below (gh_Qi Q D h0 s.heap.size) (gh_X X D h0 s.heap.size) args s 259 2316 (gh_A h0 s.heap.size)) (F0 m 24 ls []))  : ∀ (n : Nat) (v0 : Nat) (v2 : Option Nat) (v3 : Int32) (v4 : Option Nat) (v5 : Int32) (v6 : Int32) (H : Heap) (locs : List Loc) (ls : Array Slot) (h : gh_H) (_ : gh_Inv D h0 (gh_A h0 s.heap.size) s.heap s H locs h) (_ : gh_L ls 10 [(0, 1, va_rf (some v0)), (2, 1, va_rf v2), (3, 1, .int v3), (4, 1, va_rf v4), (5, 1, .int v5), (6, 1, .int v6)]) (_ : wl_X1_leastMakeready_35 D.2.2 K24 Q X n v0 v2 v3 v4 v5 v6 h), W p l e rm_X1_leastMakeready s m args below meth c H locs 259 2316 (vx_MQ below (gh_Qi Q D h0 s.heap.size) (gh_X X D h0 s.heap.size) args s 259 2316 (gh_A h0 s.heap.size)) (F0 m 35 ls []) := by
  intro fu
  induction fu with
  | zero => intro v0 v2 v3 v4 v5 v6 H locs ls h G hl hw; exact False.elim hw
  | succ n1 ih =>
    intro v0 v2 v3 v4 v5 v6 H locs ls h G hl hw
    exact wk1_X1_leastMakeready_35 M hr hex k24 ih  v0 v2 v3 v4 v5 v6 _ _ _ _ G hl hw
set_option maxHeartbeats 4000000 in
theorem wk1_X1_leastMakeready_24 {D : gh_D} {p : Program} {l : Launch} {e : Env} {s : State} {m : MethodId} {args : Array Value} {below : List Frame} {meth : Method} {c : Code} {h0 : gh_H} (M : gh_M D p l s m args meth c RX1 cX1_leastMakeready 10 (gh_A h0 s.heap.size)) (hr : meth.sig.returnType = (some .int)) (hex : ∀ x ∈ c.exceptionTable.toList, False) {K24 : Nat → Option Nat → Int32 → Option Nat → Int32 → gh_H → Prop}  {Q : Int32 → gh_H → Prop} {X : String → gh_H → Prop} (k24 : ∀ (v0 : Nat) (v2 : Option Nat) (v3 : Int32) (v4 : Option Nat) (v5 : Int32) (H : Heap) (locs : List Loc) (ls : Array Slot) (h : gh_H) (_ : gh_Inv D h0 (gh_A h0 s.heap.size) s.heap s H locs h) (_ : gh_L ls 10 [(0, 1, va_rf (some v0)), (2, 1, va_rf v2), (3, 1, .int v3), (4, 1, va_rf v4), (5, 1, .int v5)]) (_ : K24 v0 v2 v3 v4 v5 h), W p l e rm_X1_leastMakeready s m args below meth c H locs 259 2316 (vx_MQ below (gh_Qi Q D h0 s.heap.size) (gh_X X D h0 s.heap.size) args s 259 2316 (gh_A h0 s.heap.size)) (F0 m 24 ls []))  (v0 : Nat) (v2 : Option Nat) (v3 : Int32) (v4 : Option Nat) (v5 : Int32) (H : Heap) (locs : List Loc) (ls : Array Slot) (h : gh_H) (G : gh_Inv D h0 (gh_A h0 s.heap.size) s.heap s H locs h) (hl : gh_L ls 10 [(0, 1, va_rf (some v0)), (2, 1, va_rf v2), (3, 1, .int v3), (4, 1, va_rf v4), (5, 1, .int v5)]) (hw : wb_X1_leastMakeready_24 D.2.2 K24 Q X v0 v2 v3 v4 v5 h) : W p l e rm_X1_leastMakeready s m args below meth c H locs 259 2316 (vx_MQ below (gh_Qi Q D h0 s.heap.size) (gh_X X D h0 s.heap.size) args s 259 2316 (gh_A h0 s.heap.size)) (F0 m 24 ls []) := by
  unfold wb_X1_leastMakeready_24 at hw
  have hx := M.1.1
  have hb := M.1.2.1
  refine lv_iload hx hb dX1_leastMakeready_24 (gh_at hl 4 rfl) ?_
  refine gh_aload hx hb dX1_leastMakeready_26 (gh_at hl 3 rfl) ?_
  refine gh_len M G hw dX1_leastMakeready_28 (fun x1 hw => ?_)
  refine lv_icmp_ge (tgt := 90) hx hb dX1_leastMakeready_29 (by decide) (fun hc => ?_) (fun hc => ?_)
  · replace hw := hw.1 hc
    refine lv_ldc (v := (1000000 : Int32)) hx hb M.1.2.2.2.1 (gh_Mts M _ q1089) dX1_leastMakeready_90 ?_
    refine gh_istore (lv' := [(5, 1, .int (1000000 : Int32)), (0, 1, va_rf (some v0)), (2, 1, va_rf v2), (3, 1, .int v3), (4, 1, va_rf v4)]) hx hb dX1_leastMakeready_92 hl (by decide) rfl (fun ls hl => ?_)
    refine gh_aload hx hb dX1_leastMakeready_94 (gh_at hl 4 rfl) ?_
    refine gh_aload hx hb dX1_leastMakeready_96 (gh_at hl 4 rfl) ?_
    refine gh_len M G hw dX1_leastMakeready_98 (fun x2 hw => ?_)
    refine lv_iconst (v := (1 : Int32)) hx hb dX1_leastMakeready_99 (by decide) ?_
    refine lv_isub hx hb dX1_leastMakeready_100 ?_
    refine gh_ral M G hw dX1_leastMakeready_101 (fun x3 hw => ?_)
    refine gh_astore (lv' := [(6, 1, va_rf x3), (5, 1, .int (1000000 : Int32)), (0, 1, va_rf (some v0)), (2, 1, va_rf v2), (3, 1, .int v3), (4, 1, va_rf v4)]) hx hb dX1_leastMakeready_102 hl (by decide) rfl (fun ls hl => ?_)
    refine gh_aload hx hb dX1_leastMakeready_104 (gh_at hl 0 rfl) ?_
    refine gh_len M G hw dX1_leastMakeready_106 (fun x4 hw => ?_)
    refine gh_istore (lv' := [(7, 1, .int x4), (6, 1, va_rf x3), (5, 1, .int (1000000 : Int32)), (0, 1, va_rf (some v0)), (2, 1, va_rf v2), (3, 1, .int v3), (4, 1, va_rf v4)]) hx hb dX1_leastMakeready_107 hl (by decide) rfl (fun ls hl => ?_)
    refine lv_iconst (v := (0 : Int32)) hx hb dX1_leastMakeready_109 (by decide) ?_
    refine gh_istore (lv' := [(8, 1, .int (0 : Int32)), (7, 1, .int x4), (6, 1, va_rf x3), (5, 1, .int (1000000 : Int32)), (0, 1, va_rf (some v0)), (2, 1, va_rf v2), (3, 1, .int v3), (4, 1, va_rf v4)]) hx hb dX1_leastMakeready_110 hl (by decide) rfl (fun ls hl => ?_)
    obtain ⟨n, hw⟩ := hw
    exact wk_X1_leastMakeready_112 M hr hex  n (1000000 : Int32) x3 x4 (0 : Int32) _ _ _ _ G (gh_sub hl [3, 2, 1, 0] rfl) hw
  · replace hw := hw.2 hc
    refine lv_iconst (v := (0 : Int32)) hx hb dX1_leastMakeready_32 (by decide) ?_
    refine gh_istore (lv' := [(6, 1, .int (0 : Int32)), (0, 1, va_rf (some v0)), (2, 1, va_rf v2), (3, 1, .int v3), (4, 1, va_rf v4), (5, 1, .int v5)]) hx hb dX1_leastMakeready_33 hl (by decide) rfl (fun ls hl => ?_)
    obtain ⟨n, hw⟩ := hw
    exact wk_X1_leastMakeready_35 M hr hex k24 n v0 v2 v3 v4 v5 (0 : Int32) _ _ _ _ G (gh_sub hl [1, 2, 3, 4, 5, 0] rfl) hw
theorem wk_X1_leastMakeready_24 {D : gh_D} {p : Program} {l : Launch} {e : Env} {s : State} {m : MethodId} {args : Array Value} {below : List Frame} {meth : Method} {c : Code} {h0 : gh_H} (M : gh_M D p l s m args meth c RX1 cX1_leastMakeready 10 (gh_A h0 s.heap.size)) (hr : meth.sig.returnType = (some .int)) (hex : ∀ x ∈ c.exceptionTable.toList, False)   {Q : Int32 → gh_H → Prop} {X : String → gh_H → Prop}   : ∀ (n : Nat) (v0 : Nat) (v2 : Option Nat) (v3 : Int32) (v4 : Option Nat) (v5 : Int32) (H : Heap) (locs : List Loc) (ls : Array Slot) (h : gh_H) (_ : gh_Inv D h0 (gh_A h0 s.heap.size) s.heap s H locs h) (_ : gh_L ls 10 [(0, 1, va_rf (some v0)), (2, 1, va_rf v2), (3, 1, .int v3), (4, 1, va_rf v4), (5, 1, .int v5)]) (_ : wl_X1_leastMakeready_24 D.2.2 Q X n v0 v2 v3 v4 v5 h), W p l e rm_X1_leastMakeready s m args below meth c H locs 259 2316 (vx_MQ below (gh_Qi Q D h0 s.heap.size) (gh_X X D h0 s.heap.size) args s 259 2316 (gh_A h0 s.heap.size)) (F0 m 24 ls []) := by
  intro fu
  induction fu with
  | zero => intro v0 v2 v3 v4 v5 H locs ls h G hl hw; exact False.elim hw
  | succ n1 ih =>
    intro v0 v2 v3 v4 v5 H locs ls h G hl hw
    exact wk1_X1_leastMakeready_24 M hr hex ih  v0 v2 v3 v4 v5 _ _ _ _ G hl hw
set_option maxHeartbeats 4000000 in
theorem met_X1_leastMakeready (l : Launch) (D : gh_D) (v0 : Nat) (v1 : Int32) (Q : Int32 → gh_H → Prop) (X : String → gh_H → Prop) (h : gh_H) (sz : Nat) (hw : wp_X1_leastMakeready D.2.2 v0 v1 Q X h) (hst : l.stackTraces = false) : vx_Met l yX1_leastMakeready (ws_ yX1_leastMakeready cX1_leastMakeready 10 (some .int)) rm_X1_leastMakeready (gh_Pc D h sz [.ref v0, .int v1]) (gh_Qi Q D h sz) (gh_X X D h sz) 259 2316 (gh_A h sz) := by
  refine vx_ofW (by decide) rfl (fun p e s m args below meth c s₁ B hml hex hP => ?_)
  obtain ⟨rfl, rfl, hK, hT, hE, G⟩ := gh_start hP
  have M : gh_M D p l s m _ meth c RX1 cX1_leastMakeready 10 (gh_A h s.heap.size) := ⟨⟨B.exec, B.bytes, hml, findClass_of_methodNamed B.named, fun w hw => atoms_spec (ws := ws_ yX1_leastMakeready cX1_leastMakeready 10 (some .int)) B.pre w (List.mem_cons_of_mem _ hw)⟩, hK, hT, hE, B.notSynchronized, hst⟩
  have hr := B.returns
  have hx := M.1.1
  have hb := M.1.2.1
  refine gh_enter (vs := [(1, .ref v0), (1, .int v1)]) (gh_w1 rfl (gh_w1 rfl gh_wn)) (Nat.le_of_ble_eq_true rfl) (fun ls hl => ?_)
  replace hl : gh_L ls 10 [(0, 1, va_rf (some v0)), (1, 1, .int v1)] := hl
  unfold wp_X1_leastMakeready at hw
  refine gh_aload_n hx hb dX1_leastMakeready_0 rfl (gh_at hl 0 rfl) ?_
  refine lv_iload_n hx hb dX1_leastMakeready_1 rfl (gh_at hl 1 rfl) ?_
  obtain ⟨a1, lba1, fsa1, hra1, haa1, hw⟩ := hw
  rw [← Option.some.inj hra1] at haa1
  refine gh_kq G (vx_runV M.1 (met_X1_completeJob l D _ _ _ _ _ _ hw M.2.2.2.2.2) (cwV 1 (gh_Mts M) (lw_V q809 q811 qs6 q41 q812) rfl rfl rfl ⟨rfl, by decide, by decide, rfl⟩ ⟨Nat.le_of_ble_eq_true rfl, Nat.le_of_ble_eq_true rfl⟩) (gh_preV (As := [.int v1]) M G (gh_rec M G haa1 rfl)) rfl rfl hl.1.1 rfl (lv_room (Nat.le_of_ble_eq_true rfl)) dX1_leastMakeready_2 ⟨(Nat.le_of_ble_eq_true rfl), (Nat.le_of_ble_eq_true rfl)⟩) (gh_out M hex (by exact Nat.le_of_ble_eq_true rfl) (by exact Nat.le_of_ble_eq_true rfl)) (fun r2 h3 H locs hw G => ?_)
  refine gh_astore_n (lv' := [(2, 1, va_rf r2), (0, 1, va_rf (some v0)), (1, 1, .int v1)]) hx hb dX1_leastMakeready_5 rfl hl (by decide) rfl (fun ls hl => ?_)
  refine gh_aload_n hx hb dX1_leastMakeready_6 rfl (gh_at hl 0 rfl) ?_
  obtain ⟨a4, lba4, fsa4, rfl, haa4, hw⟩ := hw
  refine gh_ki G (vx_runV M.1 (met_X7_sheets l D _ _ _ _ _ hw M.2.2.2.2.2) (cwV 0 (gh_Mts M) (lw_V q814 q644 q645 q71 q646) rfl rfl rfl ⟨rfl, by decide, by decide, rfl⟩ ⟨Nat.le_of_ble_eq_true rfl, Nat.le_of_ble_eq_true rfl⟩) (gh_preV (As := []) M G (gh_rec M G haa4 rfl)) rfl rfl hl.1.1 rfl (lv_room (Nat.le_of_ble_eq_true rfl)) dX1_leastMakeready_7 ⟨(Nat.le_of_ble_eq_true rfl), (Nat.le_of_ble_eq_true rfl)⟩) (gh_out M hex (by exact Nat.le_of_ble_eq_true rfl) (by exact Nat.le_of_ble_eq_true rfl)) (fun r5 h6 H locs hw G => ?_)
  refine gh_istore_n (lv' := [(3, 1, .int r5), (2, 1, va_rf (some a4)), (0, 1, va_rf (some v0)), (1, 1, .int v1)]) hx hb dX1_leastMakeready_10 rfl hl (by decide) rfl (fun ls hl => ?_)
  refine lv_iconst (v := (1 : Int32)) hx hb dX1_leastMakeready_11 (by decide) ?_
  refine lv_iload_n hx hb dX1_leastMakeready_12 rfl (gh_at hl 0 rfl) ?_
  refine lv_ishl hx hb dX1_leastMakeready_13 ?_
  refine lv_iload_n hx hb dX1_leastMakeready_14 rfl (gh_at hl 0 rfl) ?_
  refine gh_newm (lim := 256) (lik := 8) M G hw q1084 q216 (Nat.le_of_ble_eq_true rfl) (Nat.le_of_ble_eq_true rfl) (Nat.le_of_ble_eq_true rfl) (Nat.le_of_ble_eq_true rfl) dX1_leastMakeready_15 (fun q7 h8 H hw G => ?_)
  refine gh_astore (lv' := [(4, 1, va_rf (some q7)), (3, 1, .int r5), (2, 1, va_rf (some a4)), (0, 1, va_rf (some v0)), (1, 1, .int v1)]) hx hb dX1_leastMakeready_19 hl (by decide) rfl (fun ls hl => ?_)
  refine lv_iconst (v := (1 : Int32)) hx hb dX1_leastMakeready_21 (by decide) ?_
  refine gh_istore (lv' := [(5, 1, .int (1 : Int32)), (4, 1, va_rf (some q7)), (3, 1, .int r5), (2, 1, va_rf (some a4)), (0, 1, va_rf (some v0)), (1, 1, .int v1)]) hx hb dX1_leastMakeready_22 hl (by decide) rfl (fun ls hl => ?_)
  obtain ⟨n, hw⟩ := hw
  exact wk_X1_leastMakeready_24 M hr hex  n v0 (some a4) r5 (some q7) (1 : Int32) _ _ _ _ G (gh_sub hl [4, 3, 2, 1, 0] rfl) hw
/-! BinderyDeskLaw.leastMakeready (LBinderyDesk;I[J)I -/
def rm_X0_leastMakeready : Room := { frames := 10, cells := 259, slots := 2316, locals := 229 }
def wb_X0_leastMakeready_12 (κ : Nat → Nat)  (Q : Int32 → gh_H → Prop) (X : String → gh_H → Prop) (t0 : Option Nat) (h : gh_H) : Prop := (Q (1 : Int32) h)
def wb_X0_leastMakeready_15 (κ : Nat → Nat)  (Q : Int32 → gh_H → Prop) (X : String → gh_H → Prop) (t0 : Option Nat) (h : gh_H) : Prop := (Q (2 : Int32) h)
def wp_X0_leastMakeready (κ : Nat → Nat) (v0 : Option Nat) (v1 : Int32) (v2 : Option Nat) (Q : Int32 → gh_H → Prop) (X : String → gh_H → Prop) (h : gh_H) : Prop := (gh_RC h v0 0 (fun a1 => (wp_X1_leastMakeready κ a1 v1 (fun r2 h3 => (gh_SJ h3 v2 (0 : Int32) (r2.toInt64) (fun h4 => (Q (0 : Int32) h4)))) (fun E h9 => (E = "java/lang/IndexOutOfBoundsException" ∧ ∀ q9 : Nat, wb_X0_leastMakeready_12 κ Q X (some q9) h9) ∨ (E = "java/lang/IllegalStateException" ∧ ∀ q9 : Nat, wb_X0_leastMakeready_15 κ Q X (some q9) h9)) h)))
set_option maxHeartbeats 4000000 in
theorem wk_X0_leastMakeready_12 {D : gh_D} {p : Program} {l : Launch} {e : Env} {s : State} {m : MethodId} {args : Array Value} {below : List Frame} {meth : Method} {c : Code} {h0 : gh_H} (M : gh_M D p l s m args meth c RX0 cX0_leastMakeready 4 (gh_A h0 s.heap.size)) (hr : meth.sig.returnType = (some .int)) (htab : c.exceptionTable.toList = tableOf [(0, 9, 12, 19), (0, 9, 15, 13)])   {Q : Int32 → gh_H → Prop} {X : String → gh_H → Prop}   (t0 : Option Nat) (H : Heap) (locs : List Loc) (ls : Array Slot) (h : gh_H) (G : gh_Inv D h0 (gh_A h0 s.heap.size) s.heap s H locs h) (hl : gh_L ls 4 []) (hw : wb_X0_leastMakeready_12 D.2.2 Q X t0 h) : W p l e rm_X0_leastMakeready s m args below meth c H locs 259 2316 (vx_MQ below (gh_Qi Q D h0 s.heap.size) (gh_X X D h0 s.heap.size) args s 259 2316 (gh_A h0 s.heap.size)) (F0 m 12 ls [va_rf t0]) := by
  unfold wb_X0_leastMakeready_12 at hw
  have hx := M.1.1
  have hb := M.1.2.1
  refine gh_astore_n (lv' := [(3, 1, va_rf t0)]) hx hb dX0_leastMakeready_12 rfl hl (by decide) rfl (fun ls hl => ?_)
  refine lv_iconst (v := (1 : Int32)) hx hb dX0_leastMakeready_13 (by decide) ?_
  exact gh_iret M G hr rfl hw (by exact Nat.le_of_ble_eq_true rfl) (by exact Nat.le_of_ble_eq_true rfl) dX0_leastMakeready_14
set_option maxHeartbeats 4000000 in
theorem wk_X0_leastMakeready_15 {D : gh_D} {p : Program} {l : Launch} {e : Env} {s : State} {m : MethodId} {args : Array Value} {below : List Frame} {meth : Method} {c : Code} {h0 : gh_H} (M : gh_M D p l s m args meth c RX0 cX0_leastMakeready 4 (gh_A h0 s.heap.size)) (hr : meth.sig.returnType = (some .int)) (htab : c.exceptionTable.toList = tableOf [(0, 9, 12, 19), (0, 9, 15, 13)])   {Q : Int32 → gh_H → Prop} {X : String → gh_H → Prop}   (t0 : Option Nat) (H : Heap) (locs : List Loc) (ls : Array Slot) (h : gh_H) (G : gh_Inv D h0 (gh_A h0 s.heap.size) s.heap s H locs h) (hl : gh_L ls 4 []) (hw : wb_X0_leastMakeready_15 D.2.2 Q X t0 h) : W p l e rm_X0_leastMakeready s m args below meth c H locs 259 2316 (vx_MQ below (gh_Qi Q D h0 s.heap.size) (gh_X X D h0 s.heap.size) args s 259 2316 (gh_A h0 s.heap.size)) (F0 m 15 ls [va_rf t0]) := by
  unfold wb_X0_leastMakeready_15 at hw
  have hx := M.1.1
  have hb := M.1.2.1
  refine gh_astore_n (lv' := [(3, 1, va_rf t0)]) hx hb dX0_leastMakeready_15 rfl hl (by decide) rfl (fun ls hl => ?_)
  refine lv_iconst (v := (2 : Int32)) hx hb dX0_leastMakeready_16 (by decide) ?_
  exact gh_iret M G hr rfl hw (by exact Nat.le_of_ble_eq_true rfl) (by exact Nat.le_of_ble_eq_true rfl) dX0_leastMakeready_17
set_option maxHeartbeats 4000000 in
theorem met_X0_leastMakeready (l : Launch) (D : gh_D) (v0 : Option Nat) (v1 : Int32) (v2 : Option Nat) (Q : Int32 → gh_H → Prop) (X : String → gh_H → Prop) (h : gh_H) (sz : Nat) (hw : wp_X0_leastMakeready D.2.2 v0 v1 v2 Q X h) (hst : l.stackTraces = false) : vx_Met l yX0_leastMakeready (wsW_ yX0_leastMakeready cX0_leastMakeready 4 (some .int) [(0, 9, 12, 19), (0, 9, 15, 13)]) rm_X0_leastMakeready (gh_Pc D h sz [va_rf v0, .int v1, va_rf v2]) (gh_Qi Q D h sz) (gh_X X D h sz) 259 2316 (gh_A h sz) := by
  refine vx_ofWH (by decide) rfl (fun p e s m args below meth c s₁ B hml hP => ?_)
  have htab := vx_table (x := yX0_leastMakeready) B (atoms_spec (ws := wsW_ yX0_leastMakeready cX0_leastMakeready 4 (some .int) [(0, 9, 12, 19), (0, 9, 15, 13)]) B.pre _ List.mem_cons_self)
  obtain ⟨rfl, rfl, hK, hT, hE, G⟩ := gh_start hP
  have M : gh_M D p l s m _ meth c RX0 cX0_leastMakeready 4 (gh_A h s.heap.size) := ⟨⟨B.exec, B.bytes, hml, findClass_of_methodNamed B.named, fun w hw => atoms_spec (ws := wsW_ yX0_leastMakeready cX0_leastMakeready 4 (some .int) [(0, 9, 12, 19), (0, 9, 15, 13)]) B.pre w (List.mem_cons_of_mem _ hw)⟩, hK, hT, hE, B.notSynchronized, hst⟩
  have hr := B.returns
  have hx := M.1.1
  have hb := M.1.2.1
  refine gh_enter (vs := [(1, va_rf v0), (1, .int v1), (1, va_rf v2)]) (gh_w1 (gh_cat _) (gh_w1 rfl (gh_w1 (gh_cat _) gh_wn))) (Nat.le_of_ble_eq_true rfl) (fun ls hl => ?_)
  replace hl : gh_L ls 4 [(0, 1, va_rf v0), (1, 1, .int v1), (2, 1, va_rf v2)] := hl
  unfold wp_X0_leastMakeready at hw
  refine gh_aload_n hx hb dX0_leastMakeready_0 rfl (gh_at hl 2 rfl) ?_
  refine lv_iconst (v := (0 : Int32)) hx hb dX0_leastMakeready_1 (by decide) ?_
  refine gh_aload_n hx hb dX0_leastMakeready_2 rfl (gh_at hl 0 rfl) ?_
  refine lv_iload_n hx hb dX0_leastMakeready_3 rfl (gh_at hl 1 rfl) ?_
  obtain ⟨a1, lba1, fsa1, rfl, haa1, hw⟩ := hw
  refine gh_ki G (vx_runV M.1 (met_X1_leastMakeready l D _ _ _ _ _ _ hw M.2.2.2.2.2) (cwV 1 (gh_Mts M) (lw_V q1080 q1081 q1082 q41 q1083) rfl rfl rfl ⟨rfl, by decide, by decide, rfl⟩ ⟨Nat.le_of_ble_eq_true rfl, Nat.le_of_ble_eq_true rfl⟩) (gh_preV (As := [.int v1]) M G (gh_rec M G haa1 rfl)) rfl rfl hl.1.1 rfl (lv_room (Nat.le_trans (gh_r1 rfl (gh_r1 (gh_cat _) gh_r0)) (Nat.le_of_ble_eq_true rfl : 2 ≤ 8))) dX0_leastMakeready_4 ⟨(Nat.le_of_ble_eq_true rfl), (Nat.le_of_ble_eq_true rfl)⟩) (fun E ce q9 h9 H locs hX G hce hcv hcl => ?_) (fun r2 h3 H locs hw G => ?_)
  · rcases hX with ⟨rfl, hX⟩ | ⟨rfl, hX⟩
    · replace hw := hX q9
      refine vx_catch (name := "java/lang/IndexOutOfBoundsException") M.1.2.2.2.1 (tableOf []) ⟨0, 9, 12, 19⟩ (tableOf [(0, 9, 15, 13)]) (htab.trans rfl) (fun _ h => absurd h List.not_mem_nil) (by decide) (by decide) (gh_Mts M _ q439) (va_Nw.use rfl (M.2.2.1.1 _ (List.mem_of_getElem? (i := 8) rfl))) hce hcv hcl ?_
      exact wk_X0_leastMakeready_12 M hr htab  (some q9) _ _ _ _ G (gh_sub hl [] rfl) hw
    · replace hw := hX q9
      refine vx_catch (name := "java/lang/IllegalStateException") M.1.2.2.2.1 (tableOf [(0, 9, 12, 19)]) ⟨0, 9, 15, 13⟩ (tableOf []) (htab.trans rfl) (List.forall_mem_cons.mpr ⟨Or.inr ⟨by decide, "java/lang/IndexOutOfBoundsException", gh_Mts M _ q439, M.2.2.1.2.2.1 _ (List.mem_of_getElem? (i := 6) rfl)⟩, fun _ h => absurd h List.not_mem_nil⟩) (by decide) (by decide) (gh_Mts M _ q261) (va_Nw.use rfl (M.2.2.1.1 _ (List.mem_of_getElem? (i := 4) rfl))) hce hcv hcl ?_
      exact wk_X0_leastMakeready_15 M hr htab  (some q9) _ _ _ _ G (gh_sub hl [] rfl) hw
  · refine lv_i2l (v := (r2.toInt64)) hx hb dX0_leastMakeready_7 rfl ?_
    refine gh_jas M G hw dX0_leastMakeready_8 (fun h4 H locs hw G => ?_)
    refine lv_goto (tgt := 18) hx hb dX0_leastMakeready_9 (by decide) ?_
    refine lv_iconst (v := (0 : Int32)) hx hb dX0_leastMakeready_18 (by decide) ?_
    exact gh_iret M G hr rfl hw (by exact Nat.le_of_ble_eq_true rfl) (by exact Nat.le_of_ble_eq_true rfl) dX0_leastMakeready_19
/-! BinderyDeskModel.change (II)I -/
def rm_X3_change : Room := { frames := 1, cells := 0, slots := 0, locals := 40 }
def wb_X3_change_42 (κ : Nat → Nat)  (Q : Int32 → gh_H → Prop) (X : String → gh_H → Prop) (t0 : Int32) (t1 : Int32) (h : gh_H) : Prop := (Q (t0 + t1) h)
def wb_X3_change_21 (κ : Nat → Nat)  (Q : Int32 → gh_H → Prop) (X : String → gh_H → Prop) (v0 : Nat) (v1 : Int32) (v2 : Int32) (t0 : Int32) (h : gh_H) : Prop := (gh_GR h (some v0) [(1, 20)] (fun x1 => (gh_LI h x1 v1 (fun x2 => (gh_GR h (some v0) [(1, 20)] (fun x3 => (gh_LI h x3 v2 (fun x4 => ((x2 = x4 → wb_X3_change_42 κ Q X t0 (0 : Int32) h) ∧ (¬ x2 = x4 → wb_X3_change_42 κ Q X t0 (20 : Int32) h))))))))))
def wp_X3_change (κ : Nat → Nat) (v0 : Nat) (v1 : Int32) (v2 : Int32) (Q : Int32 → gh_H → Prop) (X : String → gh_H → Prop) (h : gh_H) : Prop := (gh_GR h (some v0) [(1, 19)] (fun x1 => (gh_LI h x1 v1 (fun x2 => (gh_GR h (some v0) [(1, 19)] (fun x3 => (gh_LI h x3 v2 (fun x4 => ((x2 = x4 → wb_X3_change_21 κ Q X v0 v1 v2 (0 : Int32) h) ∧ (¬ x2 = x4 → wb_X3_change_21 κ Q X v0 v1 v2 (20 : Int32) h))))))))))
set_option maxHeartbeats 4000000 in
theorem wk_X3_change_42 {D : gh_D} {p : Program} {l : Launch} {e : Env} {s : State} {m : MethodId} {args : Array Value} {below : List Frame} {meth : Method} {c : Code} {h0 : gh_H} (M : gh_M D p l s m args meth c RX3 cX3_change 3 (gh_A h0 s.heap.size)) (hr : meth.sig.returnType = (some .int)) (hex : ∀ x ∈ c.exceptionTable.toList, False)   {Q : Int32 → gh_H → Prop} {X : String → gh_H → Prop}   (t0 : Int32) (t1 : Int32) (H : Heap) (locs : List Loc) (ls : Array Slot) (h : gh_H) (G : gh_Inv D h0 (gh_A h0 s.heap.size) s.heap s H locs h) (hl : gh_L ls 3 []) (hw : wb_X3_change_42 D.2.2 Q X t0 t1 h) : W p l e rm_X3_change s m args below meth c H locs 0 0 (vx_MQ below (gh_Qi Q D h0 s.heap.size) (gh_X X D h0 s.heap.size) args s 0 0 (gh_A h0 s.heap.size)) (F0 m 42 ls [.int t1, .int t0]) := by
  unfold wb_X3_change_42 at hw
  have hx := M.1.1
  have hb := M.1.2.1
  refine lv_iadd hx hb dX3_change_42 ?_
  exact gh_iret M G hr rfl hw (by exact Nat.le_of_ble_eq_true rfl) (by exact Nat.le_of_ble_eq_true rfl) dX3_change_43
set_option maxHeartbeats 4000000 in
theorem wk_X3_change_21 {D : gh_D} {p : Program} {l : Launch} {e : Env} {s : State} {m : MethodId} {args : Array Value} {below : List Frame} {meth : Method} {c : Code} {h0 : gh_H} (M : gh_M D p l s m args meth c RX3 cX3_change 3 (gh_A h0 s.heap.size)) (hr : meth.sig.returnType = (some .int)) (hex : ∀ x ∈ c.exceptionTable.toList, False)   {Q : Int32 → gh_H → Prop} {X : String → gh_H → Prop}   (v0 : Nat) (v1 : Int32) (v2 : Int32) (t0 : Int32) (H : Heap) (locs : List Loc) (ls : Array Slot) (h : gh_H) (G : gh_Inv D h0 (gh_A h0 s.heap.size) s.heap s H locs h) (hl : gh_L ls 3 [(0, 1, va_rf (some v0)), (1, 1, .int v1), (2, 1, .int v2)]) (hw : wb_X3_change_21 D.2.2 Q X v0 v1 v2 t0 h) : W p l e rm_X3_change s m args below meth c H locs 0 0 (vx_MQ below (gh_Qi Q D h0 s.heap.size) (gh_X X D h0 s.heap.size) args s 0 0 (gh_A h0 s.heap.size)) (F0 m 21 ls [.int t0]) := by
  unfold wb_X3_change_21 at hw
  have hx := M.1.1
  have hb := M.1.2.1
  refine gh_aload_n hx hb dX3_change_21 rfl (gh_at hl 0 rfl) ?_
  refine gh_getR M G hw fl_X3_35 dX3_change_22 (fun x1 hw => ?_)
  refine lv_iload_n hx hb dX3_change_25 rfl (gh_at hl 1 rfl) ?_
  refine gh_ial M G hw dX3_change_26 (fun x2 hw => ?_)
  refine gh_aload_n hx hb dX3_change_27 rfl (gh_at hl 0 rfl) ?_
  refine gh_getR M G hw fl_X3_35 dX3_change_28 (fun x3 hw => ?_)
  refine lv_iload_n hx hb dX3_change_31 rfl (gh_at hl 2 rfl) ?_
  refine gh_ial M G hw dX3_change_32 (fun x4 hw => ?_)
  refine lv_icmp_ne (tgt := 40) hx hb dX3_change_33 (by decide) (fun hc => ?_) (fun hc => ?_)
  · replace hw := hw.2 hc
    refine lv_bipush (v := (20 : Int32)) hx hb dX3_change_40 (by decide) ?_
    exact wk_X3_change_42 M hr hex  t0 (20 : Int32) _ _ _ _ G (gh_sub hl [] rfl) hw
  · replace hw := hw.1 hc
    refine lv_iconst (v := (0 : Int32)) hx hb dX3_change_36 (by decide) ?_
    refine lv_goto (tgt := 42) hx hb dX3_change_37 (by decide) ?_
    exact wk_X3_change_42 M hr hex  t0 (0 : Int32) _ _ _ _ G (gh_sub hl [] rfl) hw
set_option maxHeartbeats 4000000 in
theorem met_X3_change (l : Launch) (D : gh_D) (v0 : Nat) (v1 : Int32) (v2 : Int32) (Q : Int32 → gh_H → Prop) (X : String → gh_H → Prop) (h : gh_H) (sz : Nat) (hw : wp_X3_change D.2.2 v0 v1 v2 Q X h) (hst : l.stackTraces = false) : vx_Met l yX3_change (ws_ yX3_change cX3_change 3 (some .int)) rm_X3_change (gh_Pc D h sz [.ref v0, .int v1, .int v2]) (gh_Qi Q D h sz) (gh_X X D h sz) 0 0 (gh_A h sz) := by
  refine vx_ofW (by decide) rfl (fun p e s m args below meth c s₁ B hml hex hP => ?_)
  obtain ⟨rfl, rfl, hK, hT, hE, G⟩ := gh_start hP
  have M : gh_M D p l s m _ meth c RX3 cX3_change 3 (gh_A h s.heap.size) := ⟨⟨B.exec, B.bytes, hml, findClass_of_methodNamed B.named, fun w hw => atoms_spec (ws := ws_ yX3_change cX3_change 3 (some .int)) B.pre w (List.mem_cons_of_mem _ hw)⟩, hK, hT, hE, B.notSynchronized, hst⟩
  have hr := B.returns
  have hx := M.1.1
  have hb := M.1.2.1
  refine gh_enter (vs := [(1, .ref v0), (1, .int v1), (1, .int v2)]) (gh_w1 rfl (gh_w1 rfl (gh_w1 rfl gh_wn))) (Nat.le_of_ble_eq_true rfl) (fun ls hl => ?_)
  replace hl : gh_L ls 3 [(0, 1, va_rf (some v0)), (1, 1, .int v1), (2, 1, .int v2)] := hl
  unfold wp_X3_change at hw
  refine gh_aload_n hx hb dX3_change_0 rfl (gh_at hl 0 rfl) ?_
  refine gh_getR M G hw fl_X3_32 dX3_change_1 (fun x1 hw => ?_)
  refine lv_iload_n hx hb dX3_change_4 rfl (gh_at hl 1 rfl) ?_
  refine gh_ial M G hw dX3_change_5 (fun x2 hw => ?_)
  refine gh_aload_n hx hb dX3_change_6 rfl (gh_at hl 0 rfl) ?_
  refine gh_getR M G hw fl_X3_32 dX3_change_7 (fun x3 hw => ?_)
  refine lv_iload_n hx hb dX3_change_10 rfl (gh_at hl 2 rfl) ?_
  refine gh_ial M G hw dX3_change_11 (fun x4 hw => ?_)
  refine lv_icmp_ne (tgt := 19) hx hb dX3_change_12 (by decide) (fun hc => ?_) (fun hc => ?_)
  · replace hw := hw.2 hc
    refine lv_bipush (v := (20 : Int32)) hx hb dX3_change_19 (by decide) ?_
    exact wk_X3_change_21 M hr hex  v0 v1 v2 (20 : Int32) _ _ _ _ G (gh_sub hl [0, 1, 2] rfl) hw
  · replace hw := hw.1 hc
    refine lv_iconst (v := (0 : Int32)) hx hb dX3_change_15 (by decide) ?_
    refine lv_goto (tgt := 21) hx hb dX3_change_16 (by decide) ?_
    exact wk_X3_change_21 M hr hex  v0 v1 v2 (0 : Int32) _ _ _ _ G (gh_sub hl [0, 1, 2] rfl) hw
/-! BinderyDeskModel.least (I)I -/
def rm_X3_least : Room := { frames := 5, cells := 0, slots := 0, locals := 132 }
def wb_X3_least_243 (κ : Nat → Nat) (K207 : Nat → Int32 → Int32 → Int32 → gh_H → Prop) (Q : Int32 → gh_H → Prop) (X : String → gh_H → Prop) (v0 : Nat) (v2 : Int32) (v4 : Int32) (t0 : Int32) (h : gh_H) : Prop := K207 v0 v2 t0 (v4 + (1 : Int32)) h
def wb_X3_least_207 (κ : Nat → Nat) (K207 : Nat → Int32 → Int32 → Int32 → gh_H → Prop) (Q : Int32 → gh_H → Prop) (X : String → gh_H → Prop) (v0 : Nat) (v2 : Int32) (v3 : Int32) (v4 : Int32) (h : gh_H) : Prop := ((v2 ≤ v4 → (Q v3 h)) ∧ (¬ v2 ≤ v4 → (gh_GR h (some v0) [(1, 21)] (fun x1 => (gh_LI h x1 (((8 : Int32) * (((1 : Int32) <<< (v2 &&& 31)) - (1 : Int32))) + v4) (fun x2 => ((v3 ≤ x2 → wb_X3_least_243 κ K207 Q X v0 v2 v4 v3 h) ∧ (¬ v3 ≤ x2 → wb_X3_least_243 κ K207 Q X v0 v2 v4 x2 h))))))))
def wl_X3_least_207 (κ : Nat → Nat)  (Q : Int32 → gh_H → Prop) (X : String → gh_H → Prop) : Nat → Nat → Int32 → Int32 → Int32 → gh_H → Prop
  | 0 => fun _ _ _ _ _ => False
  | n + 1 => fun v0 v2 v3 v4 h => wb_X3_least_207 κ (wl_X3_least_207 κ Q X n) Q X v0 v2 v3 v4 h
def wb_X3_least_175 (κ : Nat → Nat) (K47 : Nat → Int32 → Int32 → Int32 → gh_H → Prop) (K57 : Nat → Int32 → Int32 → Int32 → Int32 → gh_H → Prop) (Q : Int32 → gh_H → Prop) (X : String → gh_H → Prop) (v0 : Nat) (v1 : Int32) (v2 : Int32) (v3 : Int32) (v4 : Int32) (v6 : Int32) (h : gh_H) : Prop := (gh_GR h (some v0) [(1, 21)] (fun x1 => (gh_SI h x1 (((8 : Int32) * v3) + v4) v6 (fun h2 => K57 v0 v1 v2 v3 (v4 + (1 : Int32)) h2))))
def wb_X3_least_169 (κ : Nat → Nat) (K47 : Nat → Int32 → Int32 → Int32 → gh_H → Prop) (K57 : Nat → Int32 → Int32 → Int32 → Int32 → gh_H → Prop) (K95 : Nat → Int32 → Int32 → Int32 → Int32 → Int32 → Int32 → Int32 → gh_H → Prop) (Q : Int32 → gh_H → Prop) (X : String → gh_H → Prop) (v0 : Nat) (v1 : Int32) (v2 : Int32) (v3 : Int32) (v4 : Int32) (v5 : Int32) (v6 : Int32) (v7 : Int32) (h : gh_H) : Prop := K95 v0 v1 v2 v3 v4 v5 v6 (v7 + (1 : Int32)) h
def wb_X3_least_95 (κ : Nat → Nat) (K47 : Nat → Int32 → Int32 → Int32 → gh_H → Prop) (K57 : Nat → Int32 → Int32 → Int32 → Int32 → gh_H → Prop) (K95 : Nat → Int32 → Int32 → Int32 → Int32 → Int32 → Int32 → Int32 → gh_H → Prop) (Q : Int32 → gh_H → Prop) (X : String → gh_H → Prop) (v0 : Nat) (v1 : Int32) (v2 : Int32) (v3 : Int32) (v4 : Int32) (v5 : Int32) (v6 : Int32) (v7 : Int32) (h : gh_H) : Prop := ((v2 ≤ v7 → wb_X3_least_175 κ K47 K57 Q X v0 v1 v2 v3 v4 v6 h) ∧ (¬ v2 ≤ v7 → ((v5 = v3 → wb_X3_least_175 κ K47 K57 Q X v0 v1 v2 v3 v4 v6 h) ∧ (¬ v5 = v3 → ((((v5 >>> (v7 &&& 31)) &&& (1 : Int32)) = (1 : Int32) → (gh_GR h (some v0) [(1, 21)] (fun x1 => (gh_LI h x1 (((8 : Int32) * v5) + v7) (fun x2 => (gh_RC h (some v0) 1 (fun _ => (wp_X3_change κ v0 v7 v4 (fun r4 h5 => ((v6 ≤ (x2 + r4) → wb_X3_least_169 κ K47 K57 K95 Q X v0 v1 v2 v3 v4 v5 v6 v7 h5) ∧ (¬ v6 ≤ (x2 + r4) → (gh_GR h5 (some v0) [(1, 21)] (fun x6 => (gh_LI h5 x6 (((8 : Int32) * v5) + v7) (fun x7 => (gh_RC h5 (some v0) 1 (fun _ => (wp_X3_change κ v0 v7 v4 (fun r9 h10 => wb_X3_least_169 κ K47 K57 K95 Q X v0 v1 v2 v3 v4 v5 (x7 + r9) v7 h10) X h5)))))))))) X h)))))))) ∧ (¬ ((v5 >>> (v7 &&& 31)) &&& (1 : Int32)) = (1 : Int32) → wb_X3_least_169 κ K47 K57 K95 Q X v0 v1 v2 v3 v4 v5 v6 v7 h))))))
def wl_X3_least_95 (κ : Nat → Nat) (K47 : Nat → Int32 → Int32 → Int32 → gh_H → Prop) (K57 : Nat → Int32 → Int32 → Int32 → Int32 → gh_H → Prop) (Q : Int32 → gh_H → Prop) (X : String → gh_H → Prop) : Nat → Nat → Int32 → Int32 → Int32 → Int32 → Int32 → Int32 → Int32 → gh_H → Prop
  | 0 => fun _ _ _ _ _ _ _ _ _ => False
  | n + 1 => fun v0 v1 v2 v3 v4 v5 v6 v7 h => wb_X3_least_95 κ K47 K57 (wl_X3_least_95 κ K47 K57 Q X n) Q X v0 v1 v2 v3 v4 v5 v6 v7 h
def wb_X3_least_90 (κ : Nat → Nat) (K47 : Nat → Int32 → Int32 → Int32 → gh_H → Prop) (K57 : Nat → Int32 → Int32 → Int32 → Int32 → gh_H → Prop) (Q : Int32 → gh_H → Prop) (X : String → gh_H → Prop) (v0 : Nat) (v1 : Int32) (v2 : Int32) (v3 : Int32) (v4 : Int32) (v5 : Int32) (t0 : Int32) (h : gh_H) : Prop := (∃ n : Nat, wl_X3_least_95 κ K47 K57 Q X n v0 v1 v2 v3 v4 v5 t0 (0 : Int32) h)
def wb_X3_least_57 (κ : Nat → Nat) (K47 : Nat → Int32 → Int32 → Int32 → gh_H → Prop) (K57 : Nat → Int32 → Int32 → Int32 → Int32 → gh_H → Prop) (Q : Int32 → gh_H → Prop) (X : String → gh_H → Prop) (v0 : Nat) (v1 : Int32) (v2 : Int32) (v3 : Int32) (v4 : Int32) (h : gh_H) : Prop := ((v2 ≤ v4 → K47 v0 v1 v2 (v3 + (1 : Int32)) h) ∧ (¬ v2 ≤ v4 → (((v3 &&& (((1 : Int32) <<< (v4 &&& 31)) ^^^ (-1 : Int32))) = 0 → (gh_RC h (some v0) 1 (fun _ => (wp_X3_ready κ v0 v1 v4 (fun r2 h3 => wb_X3_least_90 κ K47 K57 Q X v0 v1 v2 v3 v4 (v3 &&& (((1 : Int32) <<< (v4 &&& 31)) ^^^ (-1 : Int32))) r2 h3) X h)))) ∧ (¬ (v3 &&& (((1 : Int32) <<< (v4 &&& 31)) ^^^ (-1 : Int32))) = 0 → wb_X3_least_90 κ K47 K57 Q X v0 v1 v2 v3 v4 (v3 &&& (((1 : Int32) <<< (v4 &&& 31)) ^^^ (-1 : Int32))) (2147483647 : Int32) h))))
def wl_X3_least_57 (κ : Nat → Nat) (K47 : Nat → Int32 → Int32 → Int32 → gh_H → Prop) (Q : Int32 → gh_H → Prop) (X : String → gh_H → Prop) : Nat → Nat → Int32 → Int32 → Int32 → Int32 → gh_H → Prop
  | 0 => fun _ _ _ _ _ _ => False
  | n + 1 => fun v0 v1 v2 v3 v4 h => wb_X3_least_57 κ K47 (wl_X3_least_57 κ K47 Q X n) Q X v0 v1 v2 v3 v4 h
def wb_X3_least_47 (κ : Nat → Nat) (K47 : Nat → Int32 → Int32 → Int32 → gh_H → Prop) (Q : Int32 → gh_H → Prop) (X : String → gh_H → Prop) (v0 : Nat) (v1 : Int32) (v2 : Int32) (v3 : Int32) (h : gh_H) : Prop := ((((1 : Int32) <<< (v2 &&& 31)) ≤ v3 → (∃ n : Nat, wl_X3_least_207 κ Q X n v0 v2 (2147483647 : Int32) (0 : Int32) h)) ∧ (¬ ((1 : Int32) <<< (v2 &&& 31)) ≤ v3 → (∃ n : Nat, wl_X3_least_57 κ K47 Q X n v0 v1 v2 v3 (0 : Int32) h)))
def wl_X3_least_47 (κ : Nat → Nat)  (Q : Int32 → gh_H → Prop) (X : String → gh_H → Prop) : Nat → Nat → Int32 → Int32 → Int32 → gh_H → Prop
  | 0 => fun _ _ _ _ _ => False
  | n + 1 => fun v0 v1 v2 v3 h => wb_X3_least_47 κ (wl_X3_least_47 κ Q X n) Q X v0 v1 v2 v3 h
def wb_X3_least_8 (κ : Nat → Nat) (K8 : Nat → Int32 → Int32 → Int32 → gh_H → Prop) (Q : Int32 → gh_H → Prop) (X : String → gh_H → Prop) (v0 : Nat) (v1 : Int32) (v2 : Int32) (v3 : Int32) (h : gh_H) : Prop := ((v2 ≤ v3 → (∃ n : Nat, wl_X3_least_47 κ Q X n v0 v1 v2 (1 : Int32) h)) ∧ (¬ v2 ≤ v3 → (gh_GR h (some v0) [(1, 19)] (fun x1 => (gh_RC h (some v0) 1 (fun _ => (wp_X3_plateOf κ v0 v1 v3 (1 : Int32) (fun r3 h4 => (gh_SI h4 x1 v3 r3 (fun h5 => (gh_GR h5 (some v0) [(1, 20)] (fun x6 => (gh_RC h5 (some v0) 1 (fun _ => (wp_X3_plateOf κ v0 v1 v3 (0 : Int32) (fun r8 h9 => (gh_SI h9 x6 v3 r8 (fun h10 => K8 v0 v1 v2 (v3 + (1 : Int32)) h10))) X h5)))))))) X h)))))))
def wl_X3_least_8 (κ : Nat → Nat)  (Q : Int32 → gh_H → Prop) (X : String → gh_H → Prop) : Nat → Nat → Int32 → Int32 → Int32 → gh_H → Prop
  | 0 => fun _ _ _ _ _ => False
  | n + 1 => fun v0 v1 v2 v3 h => wb_X3_least_8 κ (wl_X3_least_8 κ Q X n) Q X v0 v1 v2 v3 h
def wp_X3_least (κ : Nat → Nat) (v0 : Nat) (v1 : Int32) (Q : Int32 → gh_H → Prop) (X : String → gh_H → Prop) (h : gh_H) : Prop := (gh_RC h (some v0) 1 (fun _ => (wp_X3_count κ v0 v1 (fun r2 h3 => (∃ n : Nat, wl_X3_least_8 κ Q X n v0 v1 r2 (0 : Int32) h3)) X h)))
set_option maxHeartbeats 4000000 in
theorem wk_X3_least_243 {D : gh_D} {p : Program} {l : Launch} {e : Env} {s : State} {m : MethodId} {args : Array Value} {below : List Frame} {meth : Method} {c : Code} {h0 : gh_H} (M : gh_M D p l s m args meth c RX3 cX3_least 8 (gh_A h0 s.heap.size)) (hr : meth.sig.returnType = (some .int)) (hex : ∀ x ∈ c.exceptionTable.toList, False) {K207 : Nat → Int32 → Int32 → Int32 → gh_H → Prop}  {Q : Int32 → gh_H → Prop} {X : String → gh_H → Prop} (k207 : ∀ (v0 : Nat) (v2 : Int32) (v3 : Int32) (v4 : Int32) (H : Heap) (locs : List Loc) (ls : Array Slot) (h : gh_H) (_ : gh_Inv D h0 (gh_A h0 s.heap.size) s.heap s H locs h) (_ : gh_L ls 8 [(0, 1, va_rf (some v0)), (2, 1, .int v2), (3, 1, .int v3), (4, 1, .int v4)]) (_ : K207 v0 v2 v3 v4 h), W p l e rm_X3_least s m args below meth c H locs 0 0 (vx_MQ below (gh_Qi Q D h0 s.heap.size) (gh_X X D h0 s.heap.size) args s 0 0 (gh_A h0 s.heap.size)) (F0 m 207 ls []))  (v0 : Nat) (v2 : Int32) (v4 : Int32) (t0 : Int32) (H : Heap) (locs : List Loc) (ls : Array Slot) (h : gh_H) (G : gh_Inv D h0 (gh_A h0 s.heap.size) s.heap s H locs h) (hl : gh_L ls 8 [(0, 1, va_rf (some v0)), (2, 1, .int v2), (4, 1, .int v4)]) (hw : wb_X3_least_243 D.2.2 K207 Q X v0 v2 v4 t0 h) : W p l e rm_X3_least s m args below meth c H locs 0 0 (vx_MQ below (gh_Qi Q D h0 s.heap.size) (gh_X X D h0 s.heap.size) args s 0 0 (gh_A h0 s.heap.size)) (F0 m 243 ls [.int t0]) := by
  unfold wb_X3_least_243 at hw
  have hx := M.1.1
  have hb := M.1.2.1
  refine gh_istore_n (lv' := [(3, 1, .int t0), (0, 1, va_rf (some v0)), (2, 1, .int v2), (4, 1, .int v4)]) hx hb dX3_least_243 rfl hl (by decide) rfl (fun ls hl => ?_)
  refine gh_iinc (k := 3) (v := (v4 + (1 : Int32))) (lv' := [(4, 1, .int (v4 + (1 : Int32))), (3, 1, .int t0), (0, 1, va_rf (some v0)), (2, 1, .int v2)]) hx hb dX3_least_244 hl rfl rfl (by decide) rfl (fun ls hl => ?_)
  refine lv_goto (tgt := 207) hx hb dX3_least_247 (by decide) ?_
  exact k207 v0 v2 t0 (v4 + (1 : Int32)) _ _ _ _ G (gh_sub hl [2, 3, 1, 0] rfl) hw
set_option maxHeartbeats 4000000 in
theorem wk1_X3_least_207 {D : gh_D} {p : Program} {l : Launch} {e : Env} {s : State} {m : MethodId} {args : Array Value} {below : List Frame} {meth : Method} {c : Code} {h0 : gh_H} (M : gh_M D p l s m args meth c RX3 cX3_least 8 (gh_A h0 s.heap.size)) (hr : meth.sig.returnType = (some .int)) (hex : ∀ x ∈ c.exceptionTable.toList, False) {K207 : Nat → Int32 → Int32 → Int32 → gh_H → Prop}  {Q : Int32 → gh_H → Prop} {X : String → gh_H → Prop} (k207 : ∀ (v0 : Nat) (v2 : Int32) (v3 : Int32) (v4 : Int32) (H : Heap) (locs : List Loc) (ls : Array Slot) (h : gh_H) (_ : gh_Inv D h0 (gh_A h0 s.heap.size) s.heap s H locs h) (_ : gh_L ls 8 [(0, 1, va_rf (some v0)), (2, 1, .int v2), (3, 1, .int v3), (4, 1, .int v4)]) (_ : K207 v0 v2 v3 v4 h), W p l e rm_X3_least s m args below meth c H locs 0 0 (vx_MQ below (gh_Qi Q D h0 s.heap.size) (gh_X X D h0 s.heap.size) args s 0 0 (gh_A h0 s.heap.size)) (F0 m 207 ls []))  (v0 : Nat) (v2 : Int32) (v3 : Int32) (v4 : Int32) (H : Heap) (locs : List Loc) (ls : Array Slot) (h : gh_H) (G : gh_Inv D h0 (gh_A h0 s.heap.size) s.heap s H locs h) (hl : gh_L ls 8 [(0, 1, va_rf (some v0)), (2, 1, .int v2), (3, 1, .int v3), (4, 1, .int v4)]) (hw : wb_X3_least_207 D.2.2 K207 Q X v0 v2 v3 v4 h) : W p l e rm_X3_least s m args below meth c H locs 0 0 (vx_MQ below (gh_Qi Q D h0 s.heap.size) (gh_X X D h0 s.heap.size) args s 0 0 (gh_A h0 s.heap.size)) (F0 m 207 ls []) := by
  unfold wb_X3_least_207 at hw
  have hx := M.1.1
  have hb := M.1.2.1
  refine lv_iload hx hb dX3_least_207 (gh_at hl 3 rfl) ?_
  refine lv_iload_n hx hb dX3_least_209 rfl (gh_at hl 1 rfl) ?_
  refine lv_icmp_ge (tgt := 250) hx hb dX3_least_210 (by decide) (fun hc => ?_) (fun hc => ?_)
  · replace hw := hw.1 hc
    refine lv_iload_n hx hb dX3_least_250 rfl (gh_at hl 2 rfl) ?_
    exact gh_iret M G hr rfl hw (by exact Nat.le_of_ble_eq_true rfl) (by exact Nat.le_of_ble_eq_true rfl) dX3_least_251
  · replace hw := hw.2 hc
    refine gh_aload_n hx hb dX3_least_213 rfl (gh_at hl 0 rfl) ?_
    refine gh_getR M G hw fl_X3_38 dX3_least_214 (fun x1 hw => ?_)
    refine lv_bipush (v := (8 : Int32)) hx hb dX3_least_217 (by decide) ?_
    refine lv_iconst (v := (1 : Int32)) hx hb dX3_least_219 (by decide) ?_
    refine lv_iload_n hx hb dX3_least_220 rfl (gh_at hl 1 rfl) ?_
    refine lv_ishl hx hb dX3_least_221 ?_
    refine lv_iconst (v := (1 : Int32)) hx hb dX3_least_222 (by decide) ?_
    refine lv_isub hx hb dX3_least_223 ?_
    refine lv_imul hx hb dX3_least_224 ?_
    refine lv_iload hx hb dX3_least_225 (gh_at hl 3 rfl) ?_
    refine lv_iadd hx hb dX3_least_227 ?_
    refine gh_ial M G hw dX3_least_228 (fun x2 hw => ?_)
    refine gh_istore (lv' := [(5, 1, .int x2), (0, 1, va_rf (some v0)), (2, 1, .int v2), (3, 1, .int v3), (4, 1, .int v4)]) hx hb dX3_least_229 hl (by decide) rfl (fun ls hl => ?_)
    refine lv_iload hx hb dX3_least_231 (gh_at hl 0 rfl) ?_
    refine lv_iload_n hx hb dX3_least_233 rfl (gh_at hl 3 rfl) ?_
    refine lv_icmp_ge (tgt := 242) hx hb dX3_least_234 (by decide) (fun hc => ?_) (fun hc => ?_)
    · replace hw := hw.1 hc
      refine lv_iload_n hx hb dX3_least_242 rfl (gh_at hl 3 rfl) ?_
      exact wk_X3_least_243 M hr hex k207 v0 v2 v4 v3 _ _ _ _ G (gh_sub hl [1, 2, 4] rfl) hw
    · replace hw := hw.2 hc
      refine lv_iload hx hb dX3_least_237 (gh_at hl 0 rfl) ?_
      refine lv_goto (tgt := 243) hx hb dX3_least_239 (by decide) ?_
      exact wk_X3_least_243 M hr hex k207 v0 v2 v4 x2 _ _ _ _ G (gh_sub hl [1, 2, 4] rfl) hw
theorem wk_X3_least_207 {D : gh_D} {p : Program} {l : Launch} {e : Env} {s : State} {m : MethodId} {args : Array Value} {below : List Frame} {meth : Method} {c : Code} {h0 : gh_H} (M : gh_M D p l s m args meth c RX3 cX3_least 8 (gh_A h0 s.heap.size)) (hr : meth.sig.returnType = (some .int)) (hex : ∀ x ∈ c.exceptionTable.toList, False)   {Q : Int32 → gh_H → Prop} {X : String → gh_H → Prop}   : ∀ (n : Nat) (v0 : Nat) (v2 : Int32) (v3 : Int32) (v4 : Int32) (H : Heap) (locs : List Loc) (ls : Array Slot) (h : gh_H) (_ : gh_Inv D h0 (gh_A h0 s.heap.size) s.heap s H locs h) (_ : gh_L ls 8 [(0, 1, va_rf (some v0)), (2, 1, .int v2), (3, 1, .int v3), (4, 1, .int v4)]) (_ : wl_X3_least_207 D.2.2 Q X n v0 v2 v3 v4 h), W p l e rm_X3_least s m args below meth c H locs 0 0 (vx_MQ below (gh_Qi Q D h0 s.heap.size) (gh_X X D h0 s.heap.size) args s 0 0 (gh_A h0 s.heap.size)) (F0 m 207 ls []) := by
  intro fu
  induction fu with
  | zero => intro v0 v2 v3 v4 H locs ls h G hl hw; exact False.elim hw
  | succ n1 ih =>
    intro v0 v2 v3 v4 H locs ls h G hl hw
    exact wk1_X3_least_207 M hr hex ih  v0 v2 v3 v4 _ _ _ _ G hl hw
set_option maxHeartbeats 4000000 in
theorem wk_X3_least_175 {D : gh_D} {p : Program} {l : Launch} {e : Env} {s : State} {m : MethodId} {args : Array Value} {below : List Frame} {meth : Method} {c : Code} {h0 : gh_H} (M : gh_M D p l s m args meth c RX3 cX3_least 8 (gh_A h0 s.heap.size)) (hr : meth.sig.returnType = (some .int)) (hex : ∀ x ∈ c.exceptionTable.toList, False) {K47 : Nat → Int32 → Int32 → Int32 → gh_H → Prop} {K57 : Nat → Int32 → Int32 → Int32 → Int32 → gh_H → Prop}  {Q : Int32 → gh_H → Prop} {X : String → gh_H → Prop} (k47 : ∀ (v0 : Nat) (v1 : Int32) (v2 : Int32) (v3 : Int32) (H : Heap) (locs : List Loc) (ls : Array Slot) (h : gh_H) (_ : gh_Inv D h0 (gh_A h0 s.heap.size) s.heap s H locs h) (_ : gh_L ls 8 [(0, 1, va_rf (some v0)), (1, 1, .int v1), (2, 1, .int v2), (3, 1, .int v3)]) (_ : K47 v0 v1 v2 v3 h), W p l e rm_X3_least s m args below meth c H locs 0 0 (vx_MQ below (gh_Qi Q D h0 s.heap.size) (gh_X X D h0 s.heap.size) args s 0 0 (gh_A h0 s.heap.size)) (F0 m 47 ls [])) (k57 : ∀ (v0 : Nat) (v1 : Int32) (v2 : Int32) (v3 : Int32) (v4 : Int32) (H : Heap) (locs : List Loc) (ls : Array Slot) (h : gh_H) (_ : gh_Inv D h0 (gh_A h0 s.heap.size) s.heap s H locs h) (_ : gh_L ls 8 [(0, 1, va_rf (some v0)), (1, 1, .int v1), (2, 1, .int v2), (3, 1, .int v3), (4, 1, .int v4)]) (_ : K57 v0 v1 v2 v3 v4 h), W p l e rm_X3_least s m args below meth c H locs 0 0 (vx_MQ below (gh_Qi Q D h0 s.heap.size) (gh_X X D h0 s.heap.size) args s 0 0 (gh_A h0 s.heap.size)) (F0 m 57 ls []))  (v0 : Nat) (v1 : Int32) (v2 : Int32) (v3 : Int32) (v4 : Int32) (v6 : Int32) (H : Heap) (locs : List Loc) (ls : Array Slot) (h : gh_H) (G : gh_Inv D h0 (gh_A h0 s.heap.size) s.heap s H locs h) (hl : gh_L ls 8 [(0, 1, va_rf (some v0)), (1, 1, .int v1), (2, 1, .int v2), (3, 1, .int v3), (4, 1, .int v4), (6, 1, .int v6)]) (hw : wb_X3_least_175 D.2.2 K47 K57 Q X v0 v1 v2 v3 v4 v6 h) : W p l e rm_X3_least s m args below meth c H locs 0 0 (vx_MQ below (gh_Qi Q D h0 s.heap.size) (gh_X X D h0 s.heap.size) args s 0 0 (gh_A h0 s.heap.size)) (F0 m 175 ls []) := by
  unfold wb_X3_least_175 at hw
  have hx := M.1.1
  have hb := M.1.2.1
  refine gh_aload_n hx hb dX3_least_175 rfl (gh_at hl 0 rfl) ?_
  refine gh_getR M G hw fl_X3_38 dX3_least_176 (fun x1 hw => ?_)
  refine lv_bipush (v := (8 : Int32)) hx hb dX3_least_179 (by decide) ?_
  refine lv_iload_n hx hb dX3_least_181 rfl (gh_at hl 3 rfl) ?_
  refine lv_imul hx hb dX3_least_182 ?_
  refine lv_iload hx hb dX3_least_183 (gh_at hl 4 rfl) ?_
  refine lv_iadd hx hb dX3_least_185 ?_
  refine lv_iload hx hb dX3_least_186 (gh_at hl 5 rfl) ?_
  refine gh_ias M G hw dX3_least_188 (fun h2 H locs hw G => ?_)
  refine gh_iinc (k := 4) (v := (v4 + (1 : Int32))) (lv' := [(4, 1, .int (v4 + (1 : Int32))), (0, 1, va_rf (some v0)), (1, 1, .int v1), (2, 1, .int v2), (3, 1, .int v3), (6, 1, .int v6)]) hx hb dX3_least_189 hl rfl rfl (by decide) rfl (fun ls hl => ?_)
  refine lv_goto (tgt := 57) hx hb dX3_least_192 (by decide) ?_
  exact k57 v0 v1 v2 v3 (v4 + (1 : Int32)) _ _ _ _ G (gh_sub hl [1, 2, 3, 4, 0] rfl) hw
set_option maxHeartbeats 4000000 in
theorem wk_X3_least_169 {D : gh_D} {p : Program} {l : Launch} {e : Env} {s : State} {m : MethodId} {args : Array Value} {below : List Frame} {meth : Method} {c : Code} {h0 : gh_H} (M : gh_M D p l s m args meth c RX3 cX3_least 8 (gh_A h0 s.heap.size)) (hr : meth.sig.returnType = (some .int)) (hex : ∀ x ∈ c.exceptionTable.toList, False) {K47 : Nat → Int32 → Int32 → Int32 → gh_H → Prop} {K57 : Nat → Int32 → Int32 → Int32 → Int32 → gh_H → Prop} {K95 : Nat → Int32 → Int32 → Int32 → Int32 → Int32 → Int32 → Int32 → gh_H → Prop}  {Q : Int32 → gh_H → Prop} {X : String → gh_H → Prop} (k47 : ∀ (v0 : Nat) (v1 : Int32) (v2 : Int32) (v3 : Int32) (H : Heap) (locs : List Loc) (ls : Array Slot) (h : gh_H) (_ : gh_Inv D h0 (gh_A h0 s.heap.size) s.heap s H locs h) (_ : gh_L ls 8 [(0, 1, va_rf (some v0)), (1, 1, .int v1), (2, 1, .int v2), (3, 1, .int v3)]) (_ : K47 v0 v1 v2 v3 h), W p l e rm_X3_least s m args below meth c H locs 0 0 (vx_MQ below (gh_Qi Q D h0 s.heap.size) (gh_X X D h0 s.heap.size) args s 0 0 (gh_A h0 s.heap.size)) (F0 m 47 ls [])) (k57 : ∀ (v0 : Nat) (v1 : Int32) (v2 : Int32) (v3 : Int32) (v4 : Int32) (H : Heap) (locs : List Loc) (ls : Array Slot) (h : gh_H) (_ : gh_Inv D h0 (gh_A h0 s.heap.size) s.heap s H locs h) (_ : gh_L ls 8 [(0, 1, va_rf (some v0)), (1, 1, .int v1), (2, 1, .int v2), (3, 1, .int v3), (4, 1, .int v4)]) (_ : K57 v0 v1 v2 v3 v4 h), W p l e rm_X3_least s m args below meth c H locs 0 0 (vx_MQ below (gh_Qi Q D h0 s.heap.size) (gh_X X D h0 s.heap.size) args s 0 0 (gh_A h0 s.heap.size)) (F0 m 57 ls [])) (k95 : ∀ (v0 : Nat) (v1 : Int32) (v2 : Int32) (v3 : Int32) (v4 : Int32) (v5 : Int32) (v6 : Int32) (v7 : Int32) (H : Heap) (locs : List Loc) (ls : Array Slot) (h : gh_H) (_ : gh_Inv D h0 (gh_A h0 s.heap.size) s.heap s H locs h) (_ : gh_L ls 8 [(0, 1, va_rf (some v0)), (1, 1, .int v1), (2, 1, .int v2), (3, 1, .int v3), (4, 1, .int v4), (5, 1, .int v5), (6, 1, .int v6), (7, 1, .int v7)]) (_ : K95 v0 v1 v2 v3 v4 v5 v6 v7 h), W p l e rm_X3_least s m args below meth c H locs 0 0 (vx_MQ below (gh_Qi Q D h0 s.heap.size) (gh_X X D h0 s.heap.size) args s 0 0 (gh_A h0 s.heap.size)) (F0 m 95 ls []))  (v0 : Nat) (v1 : Int32) (v2 : Int32) (v3 : Int32) (v4 : Int32) (v5 : Int32) (v6 : Int32) (v7 : Int32) (H : Heap) (locs : List Loc) (ls : Array Slot) (h : gh_H) (G : gh_Inv D h0 (gh_A h0 s.heap.size) s.heap s H locs h) (hl : gh_L ls 8 [(0, 1, va_rf (some v0)), (1, 1, .int v1), (2, 1, .int v2), (3, 1, .int v3), (4, 1, .int v4), (5, 1, .int v5), (6, 1, .int v6), (7, 1, .int v7)]) (hw : wb_X3_least_169 D.2.2 K47 K57 K95 Q X v0 v1 v2 v3 v4 v5 v6 v7 h) : W p l e rm_X3_least s m args below meth c H locs 0 0 (vx_MQ below (gh_Qi Q D h0 s.heap.size) (gh_X X D h0 s.heap.size) args s 0 0 (gh_A h0 s.heap.size)) (F0 m 169 ls []) := by
  unfold wb_X3_least_169 at hw
  have hx := M.1.1
  have hb := M.1.2.1
  refine gh_iinc (k := 7) (v := (v7 + (1 : Int32))) (lv' := [(7, 1, .int (v7 + (1 : Int32))), (0, 1, va_rf (some v0)), (1, 1, .int v1), (2, 1, .int v2), (3, 1, .int v3), (4, 1, .int v4), (5, 1, .int v5), (6, 1, .int v6)]) hx hb dX3_least_169 hl rfl rfl (by decide) rfl (fun ls hl => ?_)
  refine lv_goto (tgt := 95) hx hb dX3_least_172 (by decide) ?_
  exact k95 v0 v1 v2 v3 v4 v5 v6 (v7 + (1 : Int32)) _ _ _ _ G (gh_sub hl [1, 2, 3, 4, 5, 6, 7, 0] rfl) hw
set_option maxHeartbeats 4000000 in
theorem wk1_X3_least_95 {D : gh_D} {p : Program} {l : Launch} {e : Env} {s : State} {m : MethodId} {args : Array Value} {below : List Frame} {meth : Method} {c : Code} {h0 : gh_H} (M : gh_M D p l s m args meth c RX3 cX3_least 8 (gh_A h0 s.heap.size)) (hr : meth.sig.returnType = (some .int)) (hex : ∀ x ∈ c.exceptionTable.toList, False) {K47 : Nat → Int32 → Int32 → Int32 → gh_H → Prop} {K57 : Nat → Int32 → Int32 → Int32 → Int32 → gh_H → Prop} {K95 : Nat → Int32 → Int32 → Int32 → Int32 → Int32 → Int32 → Int32 → gh_H → Prop}  {Q : Int32 → gh_H → Prop} {X : String → gh_H → Prop} (k47 : ∀ (v0 : Nat) (v1 : Int32) (v2 : Int32) (v3 : Int32) (H : Heap) (locs : List Loc) (ls : Array Slot) (h : gh_H) (_ : gh_Inv D h0 (gh_A h0 s.heap.size) s.heap s H locs h) (_ : gh_L ls 8 [(0, 1, va_rf (some v0)), (1, 1, .int v1), (2, 1, .int v2), (3, 1, .int v3)]) (_ : K47 v0 v1 v2 v3 h), W p l e rm_X3_least s m args below meth c H locs 0 0 (vx_MQ below (gh_Qi Q D h0 s.heap.size) (gh_X X D h0 s.heap.size) args s 0 0 (gh_A h0 s.heap.size)) (F0 m 47 ls [])) (k57 : ∀ (v0 : Nat) (v1 : Int32) (v2 : Int32) (v3 : Int32) (v4 : Int32) (H : Heap) (locs : List Loc) (ls : Array Slot) (h : gh_H) (_ : gh_Inv D h0 (gh_A h0 s.heap.size) s.heap s H locs h) (_ : gh_L ls 8 [(0, 1, va_rf (some v0)), (1, 1, .int v1), (2, 1, .int v2), (3, 1, .int v3), (4, 1, .int v4)]) (_ : K57 v0 v1 v2 v3 v4 h), W p l e rm_X3_least s m args below meth c H locs 0 0 (vx_MQ below (gh_Qi Q D h0 s.heap.size) (gh_X X D h0 s.heap.size) args s 0 0 (gh_A h0 s.heap.size)) (F0 m 57 ls [])) (k95 : ∀ (v0 : Nat) (v1 : Int32) (v2 : Int32) (v3 : Int32) (v4 : Int32) (v5 : Int32) (v6 : Int32) (v7 : Int32) (H : Heap) (locs : List Loc) (ls : Array Slot) (h : gh_H) (_ : gh_Inv D h0 (gh_A h0 s.heap.size) s.heap s H locs h) (_ : gh_L ls 8 [(0, 1, va_rf (some v0)), (1, 1, .int v1), (2, 1, .int v2), (3, 1, .int v3), (4, 1, .int v4), (5, 1, .int v5), (6, 1, .int v6), (7, 1, .int v7)]) (_ : K95 v0 v1 v2 v3 v4 v5 v6 v7 h), W p l e rm_X3_least s m args below meth c H locs 0 0 (vx_MQ below (gh_Qi Q D h0 s.heap.size) (gh_X X D h0 s.heap.size) args s 0 0 (gh_A h0 s.heap.size)) (F0 m 95 ls []))  (v0 : Nat) (v1 : Int32) (v2 : Int32) (v3 : Int32) (v4 : Int32) (v5 : Int32) (v6 : Int32) (v7 : Int32) (H : Heap) (locs : List Loc) (ls : Array Slot) (h : gh_H) (G : gh_Inv D h0 (gh_A h0 s.heap.size) s.heap s H locs h) (hl : gh_L ls 8 [(0, 1, va_rf (some v0)), (1, 1, .int v1), (2, 1, .int v2), (3, 1, .int v3), (4, 1, .int v4), (5, 1, .int v5), (6, 1, .int v6), (7, 1, .int v7)]) (hw : wb_X3_least_95 D.2.2 K47 K57 K95 Q X v0 v1 v2 v3 v4 v5 v6 v7 h) : W p l e rm_X3_least s m args below meth c H locs 0 0 (vx_MQ below (gh_Qi Q D h0 s.heap.size) (gh_X X D h0 s.heap.size) args s 0 0 (gh_A h0 s.heap.size)) (F0 m 95 ls []) := by
  unfold wb_X3_least_95 at hw
  have hx := M.1.1
  have hb := M.1.2.1
  refine lv_iload hx hb dX3_least_95 (gh_at hl 7 rfl) ?_
  refine lv_iload_n hx hb dX3_least_97 rfl (gh_at hl 2 rfl) ?_
  refine lv_icmp_ge (tgt := 175) hx hb dX3_least_98 (by decide) (fun hc => ?_) (fun hc => ?_)
  · replace hw := hw.1 hc
    exact wk_X3_least_175 M hr hex k47 k57 v0 v1 v2 v3 v4 v6 _ _ _ _ G (gh_sub hl [0, 1, 2, 3, 4, 6] rfl) hw
  · replace hw := hw.2 hc
    refine lv_iload hx hb dX3_least_101 (gh_at hl 5 rfl) ?_
    refine lv_iload_n hx hb dX3_least_103 rfl (gh_at hl 3 rfl) ?_
    refine lv_icmp_eq (tgt := 175) hx hb dX3_least_104 (by decide) (fun hc => ?_) (fun hc => ?_)
    · replace hw := hw.1 hc
      exact wk_X3_least_175 M hr hex k47 k57 v0 v1 v2 v3 v4 v6 _ _ _ _ G (gh_sub hl [0, 1, 2, 3, 4, 6] rfl) hw
    · replace hw := hw.2 hc
      refine lv_iload hx hb dX3_least_107 (gh_at hl 5 rfl) ?_
      refine lv_iload hx hb dX3_least_109 (gh_at hl 7 rfl) ?_
      refine lv_ishr hx hb dX3_least_111 ?_
      refine lv_iconst (v := (1 : Int32)) hx hb dX3_least_112 (by decide) ?_
      refine lv_iand hx hb dX3_least_113 ?_
      refine lv_iconst (v := (1 : Int32)) hx hb dX3_least_114 (by decide) ?_
      refine lv_icmp_ne (tgt := 169) hx hb dX3_least_115 (by decide) (fun hc => ?_) (fun hc => ?_)
      · replace hw := hw.2 hc
        exact wk_X3_least_169 M hr hex k47 k57 k95 v0 v1 v2 v3 v4 v5 v6 v7 _ _ _ _ G (gh_sub hl [0, 1, 2, 3, 4, 5, 6, 7] rfl) hw
      · replace hw := hw.1 hc
        refine gh_aload_n hx hb dX3_least_118 rfl (gh_at hl 0 rfl) ?_
        refine gh_getR M G hw fl_X3_38 dX3_least_119 (fun x1 hw => ?_)
        refine lv_bipush (v := (8 : Int32)) hx hb dX3_least_122 (by decide) ?_
        refine lv_iload hx hb dX3_least_124 (gh_at hl 5 rfl) ?_
        refine lv_imul hx hb dX3_least_126 ?_
        refine lv_iload hx hb dX3_least_127 (gh_at hl 7 rfl) ?_
        refine lv_iadd hx hb dX3_least_129 ?_
        refine gh_ial M G hw dX3_least_130 (fun x2 hw => ?_)
        refine gh_aload_n hx hb dX3_least_131 rfl (gh_at hl 0 rfl) ?_
        refine lv_iload hx hb dX3_least_132 (gh_at hl 7 rfl) ?_
        refine lv_iload hx hb dX3_least_134 (gh_at hl 4 rfl) ?_
        obtain ⟨a3, lba3, fsa3, hra3, haa3, hw⟩ := hw
        rw [← Option.some.inj hra3] at haa3
        refine gh_ki G (vx_runV M.1 (met_X3_change l D _ _ _ _ _ _ _ hw M.2.2.2.2.2) (cwV 2 (gh_Mts M) (lw_V q1777 q1779 qs38 q50 q1780) rfl rfl rfl ⟨rfl, by decide, by decide, rfl⟩ ⟨Nat.le_of_ble_eq_true rfl, Nat.le_of_ble_eq_true rfl⟩) (gh_preV (As := [.int v7, .int v4]) M G (gh_rec M G haa3 rfl)) rfl rfl hl.1.1 rfl (lv_room (Nat.le_of_ble_eq_true rfl)) dX3_least_136 ⟨(Nat.le_of_ble_eq_true rfl), (Nat.le_of_ble_eq_true rfl)⟩) (gh_out M hex (by exact Nat.le_of_ble_eq_true rfl) (by exact Nat.le_of_ble_eq_true rfl)) (fun r4 h5 H locs hw G => ?_)
        refine lv_iadd hx hb dX3_least_139 ?_
        refine lv_iload hx hb dX3_least_140 (gh_at hl 6 rfl) ?_
        refine lv_icmp_ge (tgt := 169) hx hb dX3_least_142 (by decide) (fun hc => ?_) (fun hc => ?_)
        · replace hw := hw.1 hc
          exact wk_X3_least_169 M hr hex k47 k57 k95 v0 v1 v2 v3 v4 v5 v6 v7 _ _ _ _ G (gh_sub hl [0, 1, 2, 3, 4, 5, 6, 7] rfl) hw
        · replace hw := hw.2 hc
          refine gh_aload_n hx hb dX3_least_145 rfl (gh_at hl 0 rfl) ?_
          refine gh_getR M G hw fl_X3_38 dX3_least_146 (fun x6 hw => ?_)
          refine lv_bipush (v := (8 : Int32)) hx hb dX3_least_149 (by decide) ?_
          refine lv_iload hx hb dX3_least_151 (gh_at hl 5 rfl) ?_
          refine lv_imul hx hb dX3_least_153 ?_
          refine lv_iload hx hb dX3_least_154 (gh_at hl 7 rfl) ?_
          refine lv_iadd hx hb dX3_least_156 ?_
          refine gh_ial M G hw dX3_least_157 (fun x7 hw => ?_)
          refine gh_aload_n hx hb dX3_least_158 rfl (gh_at hl 0 rfl) ?_
          refine lv_iload hx hb dX3_least_159 (gh_at hl 7 rfl) ?_
          refine lv_iload hx hb dX3_least_161 (gh_at hl 4 rfl) ?_
          obtain ⟨a8, lba8, fsa8, hra8, haa8, hw⟩ := hw
          rw [← Option.some.inj hra8] at haa8
          refine gh_ki G (vx_runV M.1 (met_X3_change l D _ _ _ _ _ _ _ hw M.2.2.2.2.2) (cwV 2 (gh_Mts M) (lw_V q1777 q1779 qs38 q50 q1780) rfl rfl rfl ⟨rfl, by decide, by decide, rfl⟩ ⟨Nat.le_of_ble_eq_true rfl, Nat.le_of_ble_eq_true rfl⟩) (gh_preV (As := [.int v7, .int v4]) M G (gh_rec M G haa8 rfl)) rfl rfl hl.1.1 rfl (lv_room (Nat.le_of_ble_eq_true rfl)) dX3_least_163 ⟨(Nat.le_of_ble_eq_true rfl), (Nat.le_of_ble_eq_true rfl)⟩) (gh_out M hex (by exact Nat.le_of_ble_eq_true rfl) (by exact Nat.le_of_ble_eq_true rfl)) (fun r9 h10 H locs hw G => ?_)
          refine lv_iadd hx hb dX3_least_166 ?_
          refine gh_istore (lv' := [(6, 1, .int (x7 + r9)), (0, 1, va_rf (some v0)), (1, 1, .int v1), (2, 1, .int v2), (3, 1, .int v3), (4, 1, .int v4), (5, 1, .int v5), (7, 1, .int v7)]) hx hb dX3_least_167 hl (by decide) rfl (fun ls hl => ?_)
          exact wk_X3_least_169 M hr hex k47 k57 k95 v0 v1 v2 v3 v4 v5 (x7 + r9) v7 _ _ _ _ G (gh_sub hl [1, 2, 3, 4, 5, 6, 0, 7] rfl) hw
theorem wk_X3_least_95 {D : gh_D} {p : Program} {l : Launch} {e : Env} {s : State} {m : MethodId} {args : Array Value} {below : List Frame} {meth : Method} {c : Code} {h0 : gh_H} (M : gh_M D p l s m args meth c RX3 cX3_least 8 (gh_A h0 s.heap.size)) (hr : meth.sig.returnType = (some .int)) (hex : ∀ x ∈ c.exceptionTable.toList, False) {K47 : Nat → Int32 → Int32 → Int32 → gh_H → Prop} {K57 : Nat → Int32 → Int32 → Int32 → Int32 → gh_H → Prop}  {Q : Int32 → gh_H → Prop} {X : String → gh_H → Prop} (k47 : ∀ (v0 : Nat) (v1 : Int32) (v2 : Int32) (v3 : Int32) (H : Heap) (locs : List Loc) (ls : Array Slot) (h : gh_H) (_ : gh_Inv D h0 (gh_A h0 s.heap.size) s.heap s H locs h) (_ : gh_L ls 8 [(0, 1, va_rf (some v0)), (1, 1, .int v1), (2, 1, .int v2), (3, 1, .int v3)]) (_ : K47 v0 v1 v2 v3 h), W p l e rm_X3_least s m args below meth c H locs 0 0 (vx_MQ below (gh_Qi Q D h0 s.heap.size) (gh_X X D h0 s.heap.size) args s 0 0 (gh_A h0 s.heap.size)) (F0 m 47 ls [])) (k57 : ∀ (v0 : Nat) (v1 : Int32) (v2 : Int32) (v3 : Int32) (v4 : Int32) (H : Heap) (locs : List Loc) (ls : Array Slot) (h : gh_H) (_ : gh_Inv D h0 (gh_A h0 s.heap.size) s.heap s H locs h) (_ : gh_L ls 8 [(0, 1, va_rf (some v0)), (1, 1, .int v1), (2, 1, .int v2), (3, 1, .int v3), (4, 1, .int v4)]) (_ : K57 v0 v1 v2 v3 v4 h), W p l e rm_X3_least s m args below meth c H locs 0 0 (vx_MQ below (gh_Qi Q D h0 s.heap.size) (gh_X X D h0 s.heap.size) args s 0 0 (gh_A h0 s.heap.size)) (F0 m 57 ls []))  : ∀ (n : Nat) (v0 : Nat) (v1 : Int32) (v2 : Int32) (v3 : Int32) (v4 : Int32) (v5 : Int32) (v6 : Int32) (v7 : Int32) (H : Heap) (locs : List Loc) (ls : Array Slot) (h : gh_H) (_ : gh_Inv D h0 (gh_A h0 s.heap.size) s.heap s H locs h) (_ : gh_L ls 8 [(0, 1, va_rf (some v0)), (1, 1, .int v1), (2, 1, .int v2), (3, 1, .int v3), (4, 1, .int v4), (5, 1, .int v5), (6, 1, .int v6), (7, 1, .int v7)]) (_ : wl_X3_least_95 D.2.2 K47 K57 Q X n v0 v1 v2 v3 v4 v5 v6 v7 h), W p l e rm_X3_least s m args below meth c H locs 0 0 (vx_MQ below (gh_Qi Q D h0 s.heap.size) (gh_X X D h0 s.heap.size) args s 0 0 (gh_A h0 s.heap.size)) (F0 m 95 ls []) := by
  intro fu
  induction fu with
  | zero => intro v0 v1 v2 v3 v4 v5 v6 v7 H locs ls h G hl hw; exact False.elim hw
  | succ n1 ih =>
    intro v0 v1 v2 v3 v4 v5 v6 v7 H locs ls h G hl hw
    exact wk1_X3_least_95 M hr hex k47 k57 ih  v0 v1 v2 v3 v4 v5 v6 v7 _ _ _ _ G hl hw
set_option maxHeartbeats 4000000 in
theorem wk_X3_least_90 {D : gh_D} {p : Program} {l : Launch} {e : Env} {s : State} {m : MethodId} {args : Array Value} {below : List Frame} {meth : Method} {c : Code} {h0 : gh_H} (M : gh_M D p l s m args meth c RX3 cX3_least 8 (gh_A h0 s.heap.size)) (hr : meth.sig.returnType = (some .int)) (hex : ∀ x ∈ c.exceptionTable.toList, False) {K47 : Nat → Int32 → Int32 → Int32 → gh_H → Prop} {K57 : Nat → Int32 → Int32 → Int32 → Int32 → gh_H → Prop}  {Q : Int32 → gh_H → Prop} {X : String → gh_H → Prop} (k47 : ∀ (v0 : Nat) (v1 : Int32) (v2 : Int32) (v3 : Int32) (H : Heap) (locs : List Loc) (ls : Array Slot) (h : gh_H) (_ : gh_Inv D h0 (gh_A h0 s.heap.size) s.heap s H locs h) (_ : gh_L ls 8 [(0, 1, va_rf (some v0)), (1, 1, .int v1), (2, 1, .int v2), (3, 1, .int v3)]) (_ : K47 v0 v1 v2 v3 h), W p l e rm_X3_least s m args below meth c H locs 0 0 (vx_MQ below (gh_Qi Q D h0 s.heap.size) (gh_X X D h0 s.heap.size) args s 0 0 (gh_A h0 s.heap.size)) (F0 m 47 ls [])) (k57 : ∀ (v0 : Nat) (v1 : Int32) (v2 : Int32) (v3 : Int32) (v4 : Int32) (H : Heap) (locs : List Loc) (ls : Array Slot) (h : gh_H) (_ : gh_Inv D h0 (gh_A h0 s.heap.size) s.heap s H locs h) (_ : gh_L ls 8 [(0, 1, va_rf (some v0)), (1, 1, .int v1), (2, 1, .int v2), (3, 1, .int v3), (4, 1, .int v4)]) (_ : K57 v0 v1 v2 v3 v4 h), W p l e rm_X3_least s m args below meth c H locs 0 0 (vx_MQ below (gh_Qi Q D h0 s.heap.size) (gh_X X D h0 s.heap.size) args s 0 0 (gh_A h0 s.heap.size)) (F0 m 57 ls []))  (v0 : Nat) (v1 : Int32) (v2 : Int32) (v3 : Int32) (v4 : Int32) (v5 : Int32) (t0 : Int32) (H : Heap) (locs : List Loc) (ls : Array Slot) (h : gh_H) (G : gh_Inv D h0 (gh_A h0 s.heap.size) s.heap s H locs h) (hl : gh_L ls 8 [(0, 1, va_rf (some v0)), (1, 1, .int v1), (2, 1, .int v2), (3, 1, .int v3), (4, 1, .int v4), (5, 1, .int v5)]) (hw : wb_X3_least_90 D.2.2 K47 K57 Q X v0 v1 v2 v3 v4 v5 t0 h) : W p l e rm_X3_least s m args below meth c H locs 0 0 (vx_MQ below (gh_Qi Q D h0 s.heap.size) (gh_X X D h0 s.heap.size) args s 0 0 (gh_A h0 s.heap.size)) (F0 m 90 ls [.int t0]) := by
  unfold wb_X3_least_90 at hw
  have hx := M.1.1
  have hb := M.1.2.1
  refine gh_istore (lv' := [(6, 1, .int t0), (0, 1, va_rf (some v0)), (1, 1, .int v1), (2, 1, .int v2), (3, 1, .int v3), (4, 1, .int v4), (5, 1, .int v5)]) hx hb dX3_least_90 hl (by decide) rfl (fun ls hl => ?_)
  refine lv_iconst (v := (0 : Int32)) hx hb dX3_least_92 (by decide) ?_
  refine gh_istore (lv' := [(7, 1, .int (0 : Int32)), (6, 1, .int t0), (0, 1, va_rf (some v0)), (1, 1, .int v1), (2, 1, .int v2), (3, 1, .int v3), (4, 1, .int v4), (5, 1, .int v5)]) hx hb dX3_least_93 hl (by decide) rfl (fun ls hl => ?_)
  obtain ⟨n, hw⟩ := hw
  exact wk_X3_least_95 M hr hex k47 k57 n v0 v1 v2 v3 v4 v5 t0 (0 : Int32) _ _ _ _ G (gh_sub hl [2, 3, 4, 5, 6, 7, 1, 0] rfl) hw
set_option maxHeartbeats 4000000 in
theorem wk1_X3_least_57 {D : gh_D} {p : Program} {l : Launch} {e : Env} {s : State} {m : MethodId} {args : Array Value} {below : List Frame} {meth : Method} {c : Code} {h0 : gh_H} (M : gh_M D p l s m args meth c RX3 cX3_least 8 (gh_A h0 s.heap.size)) (hr : meth.sig.returnType = (some .int)) (hex : ∀ x ∈ c.exceptionTable.toList, False) {K47 : Nat → Int32 → Int32 → Int32 → gh_H → Prop} {K57 : Nat → Int32 → Int32 → Int32 → Int32 → gh_H → Prop}  {Q : Int32 → gh_H → Prop} {X : String → gh_H → Prop} (k47 : ∀ (v0 : Nat) (v1 : Int32) (v2 : Int32) (v3 : Int32) (H : Heap) (locs : List Loc) (ls : Array Slot) (h : gh_H) (_ : gh_Inv D h0 (gh_A h0 s.heap.size) s.heap s H locs h) (_ : gh_L ls 8 [(0, 1, va_rf (some v0)), (1, 1, .int v1), (2, 1, .int v2), (3, 1, .int v3)]) (_ : K47 v0 v1 v2 v3 h), W p l e rm_X3_least s m args below meth c H locs 0 0 (vx_MQ below (gh_Qi Q D h0 s.heap.size) (gh_X X D h0 s.heap.size) args s 0 0 (gh_A h0 s.heap.size)) (F0 m 47 ls [])) (k57 : ∀ (v0 : Nat) (v1 : Int32) (v2 : Int32) (v3 : Int32) (v4 : Int32) (H : Heap) (locs : List Loc) (ls : Array Slot) (h : gh_H) (_ : gh_Inv D h0 (gh_A h0 s.heap.size) s.heap s H locs h) (_ : gh_L ls 8 [(0, 1, va_rf (some v0)), (1, 1, .int v1), (2, 1, .int v2), (3, 1, .int v3), (4, 1, .int v4)]) (_ : K57 v0 v1 v2 v3 v4 h), W p l e rm_X3_least s m args below meth c H locs 0 0 (vx_MQ below (gh_Qi Q D h0 s.heap.size) (gh_X X D h0 s.heap.size) args s 0 0 (gh_A h0 s.heap.size)) (F0 m 57 ls []))  (v0 : Nat) (v1 : Int32) (v2 : Int32) (v3 : Int32) (v4 : Int32) (H : Heap) (locs : List Loc) (ls : Array Slot) (h : gh_H) (G : gh_Inv D h0 (gh_A h0 s.heap.size) s.heap s H locs h) (hl : gh_L ls 8 [(0, 1, va_rf (some v0)), (1, 1, .int v1), (2, 1, .int v2), (3, 1, .int v3), (4, 1, .int v4)]) (hw : wb_X3_least_57 D.2.2 K47 K57 Q X v0 v1 v2 v3 v4 h) : W p l e rm_X3_least s m args below meth c H locs 0 0 (vx_MQ below (gh_Qi Q D h0 s.heap.size) (gh_X X D h0 s.heap.size) args s 0 0 (gh_A h0 s.heap.size)) (F0 m 57 ls []) := by
  unfold wb_X3_least_57 at hw
  have hx := M.1.1
  have hb := M.1.2.1
  refine lv_iload hx hb dX3_least_57 (gh_at hl 4 rfl) ?_
  refine lv_iload_n hx hb dX3_least_59 rfl (gh_at hl 2 rfl) ?_
  refine lv_icmp_ge (tgt := 195) hx hb dX3_least_60 (by decide) (fun hc => ?_) (fun hc => ?_)
  · replace hw := hw.1 hc
    refine gh_iinc (k := 3) (v := (v3 + (1 : Int32))) (lv' := [(3, 1, .int (v3 + (1 : Int32))), (0, 1, va_rf (some v0)), (1, 1, .int v1), (2, 1, .int v2), (4, 1, .int v4)]) hx hb dX3_least_195 hl rfl rfl (by decide) rfl (fun ls hl => ?_)
    refine lv_goto (tgt := 47) hx hb dX3_least_198 (by decide) ?_
    exact k47 v0 v1 v2 (v3 + (1 : Int32)) _ _ _ _ G (gh_sub hl [1, 2, 3, 0] rfl) hw
  · replace hw := hw.2 hc
    refine lv_iload_n hx hb dX3_least_63 rfl (gh_at hl 3 rfl) ?_
    refine lv_iconst (v := (1 : Int32)) hx hb dX3_least_64 (by decide) ?_
    refine lv_iload hx hb dX3_least_65 (gh_at hl 4 rfl) ?_
    refine lv_ishl hx hb dX3_least_67 ?_
    refine lv_iconst (v := (-1 : Int32)) hx hb dX3_least_68 (by decide) ?_
    refine lv_ixor hx hb dX3_least_69 ?_
    refine lv_iand hx hb dX3_least_70 ?_
    refine gh_istore (lv' := [(5, 1, .int (v3 &&& (((1 : Int32) <<< (v4 &&& 31)) ^^^ (-1 : Int32)))), (0, 1, va_rf (some v0)), (1, 1, .int v1), (2, 1, .int v2), (3, 1, .int v3), (4, 1, .int v4)]) hx hb dX3_least_71 hl (by decide) rfl (fun ls hl => ?_)
    refine lv_iload hx hb dX3_least_73 (gh_at hl 0 rfl) ?_
    refine lv_if_ne (tgt := 88) hx hb dX3_least_75 (by decide) (fun hc => ?_) (fun hc => ?_)
    · replace hw := hw.2 hc
      refine lv_ldc (v := (2147483647 : Int32)) hx hb M.1.2.2.2.1 (gh_Mts M _ q1776) dX3_least_88 ?_
      exact wk_X3_least_90 M hr hex k47 k57 v0 v1 v2 v3 v4 (v3 &&& (((1 : Int32) <<< (v4 &&& 31)) ^^^ (-1 : Int32))) (2147483647 : Int32) _ _ _ _ G (gh_sub hl [1, 2, 3, 4, 5, 0] rfl) hw
    · replace hw := hw.1 hc
      refine gh_aload_n hx hb dX3_least_78 rfl (gh_at hl 1 rfl) ?_
      refine lv_iload_n hx hb dX3_least_79 rfl (gh_at hl 2 rfl) ?_
      refine lv_iload hx hb dX3_least_80 (gh_at hl 5 rfl) ?_
      obtain ⟨a1, lba1, fsa1, hra1, haa1, hw⟩ := hw
      rw [← Option.some.inj hra1] at haa1
      refine gh_ki G (vx_runV M.1 (met_X3_ready l D _ _ _ _ _ _ _ hw M.2.2.2.2.2) (cwV 2 (gh_Mts M) (lw_V q1744 q1746 qs32 q50 q1747) rfl rfl rfl ⟨rfl, by decide, by decide, rfl⟩ ⟨Nat.le_of_ble_eq_true rfl, Nat.le_of_ble_eq_true rfl⟩) (gh_preV (As := [.int v1, .int v4]) M G (gh_rec M G haa1 rfl)) rfl rfl hl.1.1 rfl (lv_room (Nat.le_of_ble_eq_true rfl)) dX3_least_82 ⟨(Nat.le_of_ble_eq_true rfl), (Nat.le_of_ble_eq_true rfl)⟩) (gh_out M hex (by exact Nat.le_of_ble_eq_true rfl) (by exact Nat.le_of_ble_eq_true rfl)) (fun r2 h3 H locs hw G => ?_)
      refine lv_goto (tgt := 90) hx hb dX3_least_85 (by decide) ?_
      exact wk_X3_least_90 M hr hex k47 k57 v0 v1 v2 v3 v4 (v3 &&& (((1 : Int32) <<< (v4 &&& 31)) ^^^ (-1 : Int32))) r2 _ _ _ _ G (gh_sub hl [1, 2, 3, 4, 5, 0] rfl) hw
theorem wk_X3_least_57 {D : gh_D} {p : Program} {l : Launch} {e : Env} {s : State} {m : MethodId} {args : Array Value} {below : List Frame} {meth : Method} {c : Code} {h0 : gh_H} (M : gh_M D p l s m args meth c RX3 cX3_least 8 (gh_A h0 s.heap.size)) (hr : meth.sig.returnType = (some .int)) (hex : ∀ x ∈ c.exceptionTable.toList, False) {K47 : Nat → Int32 → Int32 → Int32 → gh_H → Prop}  {Q : Int32 → gh_H → Prop} {X : String → gh_H → Prop} (k47 : ∀ (v0 : Nat) (v1 : Int32) (v2 : Int32) (v3 : Int32) (H : Heap) (locs : List Loc) (ls : Array Slot) (h : gh_H) (_ : gh_Inv D h0 (gh_A h0 s.heap.size) s.heap s H locs h) (_ : gh_L ls 8 [(0, 1, va_rf (some v0)), (1, 1, .int v1), (2, 1, .int v2), (3, 1, .int v3)]) (_ : K47 v0 v1 v2 v3 h), W p l e rm_X3_least s m args below meth c H locs 0 0 (vx_MQ below (gh_Qi Q D h0 s.heap.size) (gh_X X D h0 s.heap.size) args s 0 0 (gh_A h0 s.heap.size)) (F0 m 47 ls []))  : ∀ (n : Nat) (v0 : Nat) (v1 : Int32) (v2 : Int32) (v3 : Int32) (v4 : Int32) (H : Heap) (locs : List Loc) (ls : Array Slot) (h : gh_H) (_ : gh_Inv D h0 (gh_A h0 s.heap.size) s.heap s H locs h) (_ : gh_L ls 8 [(0, 1, va_rf (some v0)), (1, 1, .int v1), (2, 1, .int v2), (3, 1, .int v3), (4, 1, .int v4)]) (_ : wl_X3_least_57 D.2.2 K47 Q X n v0 v1 v2 v3 v4 h), W p l e rm_X3_least s m args below meth c H locs 0 0 (vx_MQ below (gh_Qi Q D h0 s.heap.size) (gh_X X D h0 s.heap.size) args s 0 0 (gh_A h0 s.heap.size)) (F0 m 57 ls []) := by
  intro fu
  induction fu with
  | zero => intro v0 v1 v2 v3 v4 H locs ls h G hl hw; exact False.elim hw
  | succ n1 ih =>
    intro v0 v1 v2 v3 v4 H locs ls h G hl hw
    exact wk1_X3_least_57 M hr hex k47 ih  v0 v1 v2 v3 v4 _ _ _ _ G hl hw
set_option maxHeartbeats 4000000 in
theorem wk1_X3_least_47 {D : gh_D} {p : Program} {l : Launch} {e : Env} {s : State} {m : MethodId} {args : Array Value} {below : List Frame} {meth : Method} {c : Code} {h0 : gh_H} (M : gh_M D p l s m args meth c RX3 cX3_least 8 (gh_A h0 s.heap.size)) (hr : meth.sig.returnType = (some .int)) (hex : ∀ x ∈ c.exceptionTable.toList, False) {K47 : Nat → Int32 → Int32 → Int32 → gh_H → Prop}  {Q : Int32 → gh_H → Prop} {X : String → gh_H → Prop} (k47 : ∀ (v0 : Nat) (v1 : Int32) (v2 : Int32) (v3 : Int32) (H : Heap) (locs : List Loc) (ls : Array Slot) (h : gh_H) (_ : gh_Inv D h0 (gh_A h0 s.heap.size) s.heap s H locs h) (_ : gh_L ls 8 [(0, 1, va_rf (some v0)), (1, 1, .int v1), (2, 1, .int v2), (3, 1, .int v3)]) (_ : K47 v0 v1 v2 v3 h), W p l e rm_X3_least s m args below meth c H locs 0 0 (vx_MQ below (gh_Qi Q D h0 s.heap.size) (gh_X X D h0 s.heap.size) args s 0 0 (gh_A h0 s.heap.size)) (F0 m 47 ls []))  (v0 : Nat) (v1 : Int32) (v2 : Int32) (v3 : Int32) (H : Heap) (locs : List Loc) (ls : Array Slot) (h : gh_H) (G : gh_Inv D h0 (gh_A h0 s.heap.size) s.heap s H locs h) (hl : gh_L ls 8 [(0, 1, va_rf (some v0)), (1, 1, .int v1), (2, 1, .int v2), (3, 1, .int v3)]) (hw : wb_X3_least_47 D.2.2 K47 Q X v0 v1 v2 v3 h) : W p l e rm_X3_least s m args below meth c H locs 0 0 (vx_MQ below (gh_Qi Q D h0 s.heap.size) (gh_X X D h0 s.heap.size) args s 0 0 (gh_A h0 s.heap.size)) (F0 m 47 ls []) := by
  unfold wb_X3_least_47 at hw
  have hx := M.1.1
  have hb := M.1.2.1
  refine lv_iload_n hx hb dX3_least_47 rfl (gh_at hl 3 rfl) ?_
  refine lv_iconst (v := (1 : Int32)) hx hb dX3_least_48 (by decide) ?_
  refine lv_iload_n hx hb dX3_least_49 rfl (gh_at hl 2 rfl) ?_
  refine lv_ishl hx hb dX3_least_50 ?_
  refine lv_icmp_ge (tgt := 201) hx hb dX3_least_51 (by decide) (fun hc => ?_) (fun hc => ?_)
  · replace hw := hw.1 hc
    refine lv_ldc (v := (2147483647 : Int32)) hx hb M.1.2.2.2.1 (gh_Mts M _ q1776) dX3_least_201 ?_
    refine gh_istore_n (lv' := [(3, 1, .int (2147483647 : Int32)), (0, 1, va_rf (some v0)), (1, 1, .int v1), (2, 1, .int v2)]) hx hb dX3_least_203 rfl hl (by decide) rfl (fun ls hl => ?_)
    refine lv_iconst (v := (0 : Int32)) hx hb dX3_least_204 (by decide) ?_
    refine gh_istore (lv' := [(4, 1, .int (0 : Int32)), (3, 1, .int (2147483647 : Int32)), (0, 1, va_rf (some v0)), (1, 1, .int v1), (2, 1, .int v2)]) hx hb dX3_least_205 hl (by decide) rfl (fun ls hl => ?_)
    obtain ⟨n, hw⟩ := hw
    exact wk_X3_least_207 M hr hex  n v0 v2 (2147483647 : Int32) (0 : Int32) _ _ _ _ G (gh_sub hl [2, 4, 1, 0] rfl) hw
  · replace hw := hw.2 hc
    refine lv_iconst (v := (0 : Int32)) hx hb dX3_least_54 (by decide) ?_
    refine gh_istore (lv' := [(4, 1, .int (0 : Int32)), (0, 1, va_rf (some v0)), (1, 1, .int v1), (2, 1, .int v2), (3, 1, .int v3)]) hx hb dX3_least_55 hl (by decide) rfl (fun ls hl => ?_)
    obtain ⟨n, hw⟩ := hw
    exact wk_X3_least_57 M hr hex k47 n v0 v1 v2 v3 (0 : Int32) _ _ _ _ G (gh_sub hl [1, 2, 3, 4, 0] rfl) hw
theorem wk_X3_least_47 {D : gh_D} {p : Program} {l : Launch} {e : Env} {s : State} {m : MethodId} {args : Array Value} {below : List Frame} {meth : Method} {c : Code} {h0 : gh_H} (M : gh_M D p l s m args meth c RX3 cX3_least 8 (gh_A h0 s.heap.size)) (hr : meth.sig.returnType = (some .int)) (hex : ∀ x ∈ c.exceptionTable.toList, False)   {Q : Int32 → gh_H → Prop} {X : String → gh_H → Prop}   : ∀ (n : Nat) (v0 : Nat) (v1 : Int32) (v2 : Int32) (v3 : Int32) (H : Heap) (locs : List Loc) (ls : Array Slot) (h : gh_H) (_ : gh_Inv D h0 (gh_A h0 s.heap.size) s.heap s H locs h) (_ : gh_L ls 8 [(0, 1, va_rf (some v0)), (1, 1, .int v1), (2, 1, .int v2), (3, 1, .int v3)]) (_ : wl_X3_least_47 D.2.2 Q X n v0 v1 v2 v3 h), W p l e rm_X3_least s m args below meth c H locs 0 0 (vx_MQ below (gh_Qi Q D h0 s.heap.size) (gh_X X D h0 s.heap.size) args s 0 0 (gh_A h0 s.heap.size)) (F0 m 47 ls []) := by
  intro fu
  induction fu with
  | zero => intro v0 v1 v2 v3 H locs ls h G hl hw; exact False.elim hw
  | succ n1 ih =>
    intro v0 v1 v2 v3 H locs ls h G hl hw
    exact wk1_X3_least_47 M hr hex ih  v0 v1 v2 v3 _ _ _ _ G hl hw
set_option maxHeartbeats 4000000 in
theorem wk1_X3_least_8 {D : gh_D} {p : Program} {l : Launch} {e : Env} {s : State} {m : MethodId} {args : Array Value} {below : List Frame} {meth : Method} {c : Code} {h0 : gh_H} (M : gh_M D p l s m args meth c RX3 cX3_least 8 (gh_A h0 s.heap.size)) (hr : meth.sig.returnType = (some .int)) (hex : ∀ x ∈ c.exceptionTable.toList, False) {K8 : Nat → Int32 → Int32 → Int32 → gh_H → Prop}  {Q : Int32 → gh_H → Prop} {X : String → gh_H → Prop} (k8 : ∀ (v0 : Nat) (v1 : Int32) (v2 : Int32) (v3 : Int32) (H : Heap) (locs : List Loc) (ls : Array Slot) (h : gh_H) (_ : gh_Inv D h0 (gh_A h0 s.heap.size) s.heap s H locs h) (_ : gh_L ls 8 [(0, 1, va_rf (some v0)), (1, 1, .int v1), (2, 1, .int v2), (3, 1, .int v3)]) (_ : K8 v0 v1 v2 v3 h), W p l e rm_X3_least s m args below meth c H locs 0 0 (vx_MQ below (gh_Qi Q D h0 s.heap.size) (gh_X X D h0 s.heap.size) args s 0 0 (gh_A h0 s.heap.size)) (F0 m 8 ls []))  (v0 : Nat) (v1 : Int32) (v2 : Int32) (v3 : Int32) (H : Heap) (locs : List Loc) (ls : Array Slot) (h : gh_H) (G : gh_Inv D h0 (gh_A h0 s.heap.size) s.heap s H locs h) (hl : gh_L ls 8 [(0, 1, va_rf (some v0)), (1, 1, .int v1), (2, 1, .int v2), (3, 1, .int v3)]) (hw : wb_X3_least_8 D.2.2 K8 Q X v0 v1 v2 v3 h) : W p l e rm_X3_least s m args below meth c H locs 0 0 (vx_MQ below (gh_Qi Q D h0 s.heap.size) (gh_X X D h0 s.heap.size) args s 0 0 (gh_A h0 s.heap.size)) (F0 m 8 ls []) := by
  unfold wb_X3_least_8 at hw
  have hx := M.1.1
  have hb := M.1.2.1
  refine lv_iload_n hx hb dX3_least_8 rfl (gh_at hl 3 rfl) ?_
  refine lv_iload_n hx hb dX3_least_9 rfl (gh_at hl 2 rfl) ?_
  refine lv_icmp_ge (tgt := 45) hx hb dX3_least_10 (by decide) (fun hc => ?_) (fun hc => ?_)
  · replace hw := hw.1 hc
    refine lv_iconst (v := (1 : Int32)) hx hb dX3_least_45 (by decide) ?_
    refine gh_istore_n (lv' := [(3, 1, .int (1 : Int32)), (0, 1, va_rf (some v0)), (1, 1, .int v1), (2, 1, .int v2)]) hx hb dX3_least_46 rfl hl (by decide) rfl (fun ls hl => ?_)
    obtain ⟨n, hw⟩ := hw
    exact wk_X3_least_47 M hr hex  n v0 v1 v2 (1 : Int32) _ _ _ _ G (gh_sub hl [1, 2, 3, 0] rfl) hw
  · replace hw := hw.2 hc
    refine gh_aload_n hx hb dX3_least_13 rfl (gh_at hl 0 rfl) ?_
    refine gh_getR M G hw fl_X3_32 dX3_least_14 (fun x1 hw => ?_)
    refine lv_iload_n hx hb dX3_least_17 rfl (gh_at hl 3 rfl) ?_
    refine gh_aload_n hx hb dX3_least_18 rfl (gh_at hl 0 rfl) ?_
    refine lv_iload_n hx hb dX3_least_19 rfl (gh_at hl 1 rfl) ?_
    refine lv_iload_n hx hb dX3_least_20 rfl (gh_at hl 3 rfl) ?_
    refine lv_iconst (v := (1 : Int32)) hx hb dX3_least_21 (by decide) ?_
    obtain ⟨a2, lba2, fsa2, hra2, haa2, hw⟩ := hw
    rw [← Option.some.inj hra2] at haa2
    refine gh_ki G (vx_runV M.1 (met_X3_plateOf l D _ _ _ _ _ _ _ _ hw M.2.2.2.2.2) (cwV 3 (gh_Mts M) (lw_V q1748 q1750 qs33 q50 q1751) rfl rfl rfl ⟨rfl, by decide, by decide, rfl⟩ ⟨Nat.le_of_ble_eq_true rfl, Nat.le_of_ble_eq_true rfl⟩) (gh_preV (As := [.int v1, .int v3, .int (1 : Int32)]) M G (gh_rec M G haa2 rfl)) rfl rfl hl.1.1 rfl (lv_room (Nat.le_trans (gh_r1 rfl (gh_r1 (gh_cat _) gh_r0)) (Nat.le_of_ble_eq_true rfl : 2 ≤ 8))) dX3_least_22 ⟨(Nat.le_of_ble_eq_true rfl), (Nat.le_of_ble_eq_true rfl)⟩) (gh_out M hex (by exact Nat.le_of_ble_eq_true rfl) (by exact Nat.le_of_ble_eq_true rfl)) (fun r3 h4 H locs hw G => ?_)
    refine gh_ias M G hw dX3_least_25 (fun h5 H locs hw G => ?_)
    refine gh_aload_n hx hb dX3_least_26 rfl (gh_at hl 0 rfl) ?_
    refine gh_getR M G hw fl_X3_35 dX3_least_27 (fun x6 hw => ?_)
    refine lv_iload_n hx hb dX3_least_30 rfl (gh_at hl 3 rfl) ?_
    refine gh_aload_n hx hb dX3_least_31 rfl (gh_at hl 0 rfl) ?_
    refine lv_iload_n hx hb dX3_least_32 rfl (gh_at hl 1 rfl) ?_
    refine lv_iload_n hx hb dX3_least_33 rfl (gh_at hl 3 rfl) ?_
    refine lv_iconst (v := (0 : Int32)) hx hb dX3_least_34 (by decide) ?_
    obtain ⟨a7, lba7, fsa7, hra7, haa7, hw⟩ := hw
    rw [← Option.some.inj hra7] at haa7
    refine gh_ki G (vx_runV M.1 (met_X3_plateOf l D _ _ _ _ _ _ _ _ hw M.2.2.2.2.2) (cwV 3 (gh_Mts M) (lw_V q1748 q1750 qs33 q50 q1751) rfl rfl rfl ⟨rfl, by decide, by decide, rfl⟩ ⟨Nat.le_of_ble_eq_true rfl, Nat.le_of_ble_eq_true rfl⟩) (gh_preV (As := [.int v1, .int v3, .int (0 : Int32)]) M G (gh_rec M G haa7 rfl)) rfl rfl hl.1.1 rfl (lv_room (Nat.le_trans (gh_r1 rfl (gh_r1 (gh_cat _) gh_r0)) (Nat.le_of_ble_eq_true rfl : 2 ≤ 8))) dX3_least_35 ⟨(Nat.le_of_ble_eq_true rfl), (Nat.le_of_ble_eq_true rfl)⟩) (gh_out M hex (by exact Nat.le_of_ble_eq_true rfl) (by exact Nat.le_of_ble_eq_true rfl)) (fun r8 h9 H locs hw G => ?_)
    refine gh_ias M G hw dX3_least_38 (fun h10 H locs hw G => ?_)
    refine gh_iinc (k := 3) (v := (v3 + (1 : Int32))) (lv' := [(3, 1, .int (v3 + (1 : Int32))), (0, 1, va_rf (some v0)), (1, 1, .int v1), (2, 1, .int v2)]) hx hb dX3_least_39 hl rfl rfl (by decide) rfl (fun ls hl => ?_)
    refine lv_goto (tgt := 8) hx hb dX3_least_42 (by decide) ?_
    exact k8 v0 v1 v2 (v3 + (1 : Int32)) _ _ _ _ G (gh_sub hl [1, 2, 3, 0] rfl) hw
theorem wk_X3_least_8 {D : gh_D} {p : Program} {l : Launch} {e : Env} {s : State} {m : MethodId} {args : Array Value} {below : List Frame} {meth : Method} {c : Code} {h0 : gh_H} (M : gh_M D p l s m args meth c RX3 cX3_least 8 (gh_A h0 s.heap.size)) (hr : meth.sig.returnType = (some .int)) (hex : ∀ x ∈ c.exceptionTable.toList, False)   {Q : Int32 → gh_H → Prop} {X : String → gh_H → Prop}   : ∀ (n : Nat) (v0 : Nat) (v1 : Int32) (v2 : Int32) (v3 : Int32) (H : Heap) (locs : List Loc) (ls : Array Slot) (h : gh_H) (_ : gh_Inv D h0 (gh_A h0 s.heap.size) s.heap s H locs h) (_ : gh_L ls 8 [(0, 1, va_rf (some v0)), (1, 1, .int v1), (2, 1, .int v2), (3, 1, .int v3)]) (_ : wl_X3_least_8 D.2.2 Q X n v0 v1 v2 v3 h), W p l e rm_X3_least s m args below meth c H locs 0 0 (vx_MQ below (gh_Qi Q D h0 s.heap.size) (gh_X X D h0 s.heap.size) args s 0 0 (gh_A h0 s.heap.size)) (F0 m 8 ls []) := by
  intro fu
  induction fu with
  | zero => intro v0 v1 v2 v3 H locs ls h G hl hw; exact False.elim hw
  | succ n1 ih =>
    intro v0 v1 v2 v3 H locs ls h G hl hw
    exact wk1_X3_least_8 M hr hex ih  v0 v1 v2 v3 _ _ _ _ G hl hw
set_option maxHeartbeats 4000000 in
theorem met_X3_least (l : Launch) (D : gh_D) (v0 : Nat) (v1 : Int32) (Q : Int32 → gh_H → Prop) (X : String → gh_H → Prop) (h : gh_H) (sz : Nat) (hw : wp_X3_least D.2.2 v0 v1 Q X h) (hst : l.stackTraces = false) : vx_Met l yX3_least (ws_ yX3_least cX3_least 8 (some .int)) rm_X3_least (gh_Pc D h sz [.ref v0, .int v1]) (gh_Qi Q D h sz) (gh_X X D h sz) 0 0 (gh_A h sz) := by
  refine vx_ofW (by decide) rfl (fun p e s m args below meth c s₁ B hml hex hP => ?_)
  obtain ⟨rfl, rfl, hK, hT, hE, G⟩ := gh_start hP
  have M : gh_M D p l s m _ meth c RX3 cX3_least 8 (gh_A h s.heap.size) := ⟨⟨B.exec, B.bytes, hml, findClass_of_methodNamed B.named, fun w hw => atoms_spec (ws := ws_ yX3_least cX3_least 8 (some .int)) B.pre w (List.mem_cons_of_mem _ hw)⟩, hK, hT, hE, B.notSynchronized, hst⟩
  have hr := B.returns
  have hx := M.1.1
  have hb := M.1.2.1
  refine gh_enter (vs := [(1, .ref v0), (1, .int v1)]) (gh_w1 rfl (gh_w1 rfl gh_wn)) (Nat.le_of_ble_eq_true rfl) (fun ls hl => ?_)
  replace hl : gh_L ls 8 [(0, 1, va_rf (some v0)), (1, 1, .int v1)] := hl
  unfold wp_X3_least at hw
  refine gh_aload_n hx hb dX3_least_0 rfl (gh_at hl 0 rfl) ?_
  refine lv_iload_n hx hb dX3_least_1 rfl (gh_at hl 1 rfl) ?_
  obtain ⟨a1, lba1, fsa1, hra1, haa1, hw⟩ := hw
  rw [← Option.some.inj hra1] at haa1
  refine gh_ki G (vx_runV M.1 (met_X3_count l D _ _ _ _ _ _ hw M.2.2.2.2.2) (cwV 1 (gh_Mts M) (lw_V q1684 q1686 qs25 q50 q1687) rfl rfl rfl ⟨rfl, by decide, by decide, rfl⟩ ⟨Nat.le_of_ble_eq_true rfl, Nat.le_of_ble_eq_true rfl⟩) (gh_preV (As := [.int v1]) M G (gh_rec M G haa1 rfl)) rfl rfl hl.1.1 rfl (lv_room (Nat.le_of_ble_eq_true rfl)) dX3_least_2 ⟨(Nat.le_of_ble_eq_true rfl), (Nat.le_of_ble_eq_true rfl)⟩) (gh_out M hex (by exact Nat.le_of_ble_eq_true rfl) (by exact Nat.le_of_ble_eq_true rfl)) (fun r2 h3 H locs hw G => ?_)
  refine gh_istore_n (lv' := [(2, 1, .int r2), (0, 1, va_rf (some v0)), (1, 1, .int v1)]) hx hb dX3_least_5 rfl hl (by decide) rfl (fun ls hl => ?_)
  refine lv_iconst (v := (0 : Int32)) hx hb dX3_least_6 (by decide) ?_
  refine gh_istore_n (lv' := [(3, 1, .int (0 : Int32)), (2, 1, .int r2), (0, 1, va_rf (some v0)), (1, 1, .int v1)]) hx hb dX3_least_7 rfl hl (by decide) rfl (fun ls hl => ?_)
  obtain ⟨n, hw⟩ := hw
  exact wk_X3_least_8 M hr hex  n v0 v1 r2 (0 : Int32) _ _ _ _ G (gh_sub hl [2, 3, 1, 0] rfl) hw
/-! BinderyDeskModel.leastMakeready (I)I -/
def rm_X3_leastMakeready : Room := { frames := 6, cells := 0, slots := 0, locals := 159 }
def wb_X3_leastMakeready_17 (κ : Nat → Nat)  (Q : Int32 → gh_H → Prop) (X : String → gh_H → Prop) (t0 : Int32) (h : gh_H) : Prop := (Q t0 h)
def wp_X3_leastMakeready (κ : Nat → Nat) (v0 : Nat) (v1 : Int32) (Q : Int32 → gh_H → Prop) (X : String → gh_H → Prop) (h : gh_H) : Prop := (gh_RC h (some v0) 1 (fun _ => (wp_X3_isJob κ v0 v1 (fun r2 h3 => ((r2 = 0 → wb_X3_leastMakeready_17 κ Q X (0 : Int32) h3) ∧ (¬ r2 = 0 → (gh_RC h3 (some v0) 1 (fun _ => (wp_X3_least κ v0 v1 (fun r5 h6 => wb_X3_leastMakeready_17 κ Q X r5 h6) X h3)))))) X h)))
set_option maxHeartbeats 4000000 in
theorem wk_X3_leastMakeready_17 {D : gh_D} {p : Program} {l : Launch} {e : Env} {s : State} {m : MethodId} {args : Array Value} {below : List Frame} {meth : Method} {c : Code} {h0 : gh_H} (M : gh_M D p l s m args meth c RX3 cX3_leastMakeready 2 (gh_A h0 s.heap.size)) (hr : meth.sig.returnType = (some .int)) (hex : ∀ x ∈ c.exceptionTable.toList, False)   {Q : Int32 → gh_H → Prop} {X : String → gh_H → Prop}   (t0 : Int32) (H : Heap) (locs : List Loc) (ls : Array Slot) (h : gh_H) (G : gh_Inv D h0 (gh_A h0 s.heap.size) s.heap s H locs h) (hl : gh_L ls 2 []) (hw : wb_X3_leastMakeready_17 D.2.2 Q X t0 h) : W p l e rm_X3_leastMakeready s m args below meth c H locs 0 0 (vx_MQ below (gh_Qi Q D h0 s.heap.size) (gh_X X D h0 s.heap.size) args s 0 0 (gh_A h0 s.heap.size)) (F0 m 17 ls [.int t0]) := by
  unfold wb_X3_leastMakeready_17 at hw
  have hx := M.1.1
  have hb := M.1.2.1
  exact gh_iret M G hr rfl hw (by exact Nat.le_of_ble_eq_true rfl) (by exact Nat.le_of_ble_eq_true rfl) dX3_leastMakeready_17
set_option maxHeartbeats 4000000 in
theorem met_X3_leastMakeready (l : Launch) (D : gh_D) (v0 : Nat) (v1 : Int32) (Q : Int32 → gh_H → Prop) (X : String → gh_H → Prop) (h : gh_H) (sz : Nat) (hw : wp_X3_leastMakeready D.2.2 v0 v1 Q X h) (hst : l.stackTraces = false) : vx_Met l yX3_leastMakeready (ws_ yX3_leastMakeready cX3_leastMakeready 2 (some .int)) rm_X3_leastMakeready (gh_Pc D h sz [.ref v0, .int v1]) (gh_Qi Q D h sz) (gh_X X D h sz) 0 0 (gh_A h sz) := by
  refine vx_ofW (by decide) rfl (fun p e s m args below meth c s₁ B hml hex hP => ?_)
  obtain ⟨rfl, rfl, hK, hT, hE, G⟩ := gh_start hP
  have M : gh_M D p l s m _ meth c RX3 cX3_leastMakeready 2 (gh_A h s.heap.size) := ⟨⟨B.exec, B.bytes, hml, findClass_of_methodNamed B.named, fun w hw => atoms_spec (ws := ws_ yX3_leastMakeready cX3_leastMakeready 2 (some .int)) B.pre w (List.mem_cons_of_mem _ hw)⟩, hK, hT, hE, B.notSynchronized, hst⟩
  have hr := B.returns
  have hx := M.1.1
  have hb := M.1.2.1
  refine gh_enter (vs := [(1, .ref v0), (1, .int v1)]) (gh_w1 rfl (gh_w1 rfl gh_wn)) (Nat.le_of_ble_eq_true rfl) (fun ls hl => ?_)
  replace hl : gh_L ls 2 [(0, 1, va_rf (some v0)), (1, 1, .int v1)] := hl
  unfold wp_X3_leastMakeready at hw
  refine gh_aload_n hx hb dX3_leastMakeready_0 rfl (gh_at hl 0 rfl) ?_
  refine lv_iload_n hx hb dX3_leastMakeready_1 rfl (gh_at hl 1 rfl) ?_
  obtain ⟨a1, lba1, fsa1, hra1, haa1, hw⟩ := hw
  rw [← Option.some.inj hra1] at haa1
  refine gh_ki G (vx_runV M.1 (met_X3_isJob l D _ _ _ _ _ _ hw M.2.2.2.2.2) (cwV 1 (gh_Mts M) (lw_V q1724 q1726 qs30 q50 q1727) rfl rfl rfl ⟨rfl, by decide, by decide, rfl⟩ ⟨Nat.le_of_ble_eq_true rfl, Nat.le_of_ble_eq_true rfl⟩) (gh_preV (As := [.int v1]) M G (gh_rec M G haa1 rfl)) rfl rfl hl.1.1 rfl (lv_room (Nat.le_of_ble_eq_true rfl)) dX3_leastMakeready_2 ⟨(Nat.le_of_ble_eq_true rfl), (Nat.le_of_ble_eq_true rfl)⟩) (gh_out M hex (by exact Nat.le_of_ble_eq_true rfl) (by exact Nat.le_of_ble_eq_true rfl)) (fun r2 h3 H locs hw G => ?_)
  refine lv_if_eq (tgt := 16) hx hb dX3_leastMakeready_5 (by decide) (fun hc => ?_) (fun hc => ?_)
  · replace hw := hw.1 hc
    refine lv_iconst (v := (0 : Int32)) hx hb dX3_leastMakeready_16 (by decide) ?_
    exact wk_X3_leastMakeready_17 M hr hex  (0 : Int32) _ _ _ _ G (gh_sub hl [] rfl) hw
  · replace hw := hw.2 hc
    refine gh_aload_n hx hb dX3_leastMakeready_8 rfl (gh_at hl 0 rfl) ?_
    refine lv_iload_n hx hb dX3_leastMakeready_9 rfl (gh_at hl 1 rfl) ?_
    obtain ⟨a4, lba4, fsa4, hra4, haa4, hw⟩ := hw
    rw [← Option.some.inj hra4] at haa4
    refine gh_ki G (vx_runV M.1 (met_X3_least l D _ _ _ _ _ _ hw M.2.2.2.2.2) (cwV 1 (gh_Mts M) (lw_V q1772 q1774 qs37 q50 q1775) rfl rfl rfl ⟨rfl, by decide, by decide, rfl⟩ ⟨Nat.le_of_ble_eq_true rfl, Nat.le_of_ble_eq_true rfl⟩) (gh_preV (As := [.int v1]) M G (gh_rec M G haa4 rfl)) rfl rfl hl.1.1 rfl (lv_room (Nat.le_of_ble_eq_true rfl)) dX3_leastMakeready_10 ⟨(Nat.le_of_ble_eq_true rfl), (Nat.le_of_ble_eq_true rfl)⟩) (gh_out M hex (by exact Nat.le_of_ble_eq_true rfl) (by exact Nat.le_of_ble_eq_true rfl)) (fun r5 h6 H locs hw G => ?_)
    refine lv_goto (tgt := 17) hx hb dX3_leastMakeready_13 (by decide) ?_
    exact wk_X3_leastMakeready_17 M hr hex  r5 _ _ _ _ G (gh_sub hl [] rfl) hw
/-! BinderyDesk.tryOrders (LBinderyDesk$Job;II)I -/
def rm_X1_tryOrders (n : Nat) : Room := { frames := 7 + n, cells := 0, slots := 0, locals := 174 + n * 26 }
def wb_X1_tryOrders_88 (κ : Nat → Nat) (REC : Nat → Option Nat → Int32 → Int32 → (Int32 → gh_H → Prop) → (String → gh_H → Prop) → gh_H → Prop) (K23 : Nat → Option Nat → Int32 → Int32 → Int32 → Int32 → gh_H → Prop) (Q : Int32 → gh_H → Prop) (X : String → gh_H → Prop) (v0 : Nat) (v1 : Option Nat) (v2 : Int32) (v3 : Int32) (v4 : Int32) (v5 : Int32) (h : gh_H) : Prop := K23 v0 v1 v2 v3 v4 (v5 + (1 : Int32)) h
def wb_X1_tryOrders_63 (κ : Nat → Nat) (REC : Nat → Option Nat → Int32 → Int32 → (Int32 → gh_H → Prop) → (String → gh_H → Prop) → gh_H → Prop) (K23 : Nat → Option Nat → Int32 → Int32 → Int32 → Int32 → gh_H → Prop) (Q : Int32 → gh_H → Prop) (X : String → gh_H → Prop) (v0 : Nat) (v1 : Option Nat) (v2 : Int32) (v3 : Int32) (v4 : Int32) (v5 : Int32) (t0 : Int32) (h : gh_H) : Prop := (gh_RC h (some v0) 0 (fun _ => (REC v0 v1 (v2 ||| ((1 : Int32) <<< (v5 &&& 31))) v5 (fun r2 h3 => wb_X1_tryOrders_88 κ REC K23 Q X v0 v1 v2 v3 (if (t0 + r2) < v4 then (t0 + r2) else v4) v5 h3) X h)))
def wb_X1_tryOrders_23 (κ : Nat → Nat) (REC : Nat → Option Nat → Int32 → Int32 → (Int32 → gh_H → Prop) → (String → gh_H → Prop) → gh_H → Prop) (K23 : Nat → Option Nat → Int32 → Int32 → Int32 → Int32 → gh_H → Prop) (Q : Int32 → gh_H → Prop) (X : String → gh_H → Prop) (v0 : Nat) (v1 : Option Nat) (v2 : Int32) (v3 : Int32) (v4 : Int32) (v5 : Int32) (h : gh_H) : Prop := (gh_RC h v1 7 (fun a1 => (wp_X7_sheets κ a1 (fun r2 h3 => ((r2 ≤ v5 → (Q v4 h3)) ∧ (¬ r2 ≤ v5 → ((((v2 >>> (v5 &&& 31)) &&& (1 : Int32)) = 0 → ((v3 = (-1 : Int32) → (gh_RC h3 (some v0) 0 (fun _ => (wp_X1_makeready κ v0 (some a1) v5 (fun r7 h8 => wb_X1_tryOrders_63 κ REC K23 Q X v0 (some a1) v2 v3 v4 v5 r7 h8) X h3)))) ∧ (¬ v3 = (-1 : Int32) → (wp_X1_between κ (some a1) v3 v5 (fun r4 h5 => wb_X1_tryOrders_63 κ REC K23 Q X v0 (some a1) v2 v3 v4 v5 r4 h5) X h3)))) ∧ (¬ ((v2 >>> (v5 &&& 31)) &&& (1 : Int32)) = 0 → wb_X1_tryOrders_88 κ REC K23 Q X v0 (some a1) v2 v3 v4 v5 h3))))) X h)))
def wl_X1_tryOrders_23 (κ : Nat → Nat) (REC : Nat → Option Nat → Int32 → Int32 → (Int32 → gh_H → Prop) → (String → gh_H → Prop) → gh_H → Prop)  (Q : Int32 → gh_H → Prop) (X : String → gh_H → Prop) : Nat → Nat → Option Nat → Int32 → Int32 → Int32 → Int32 → gh_H → Prop
  | 0 => fun _ _ _ _ _ _ _ => False
  | n + 1 => fun v0 v1 v2 v3 v4 v5 h => wb_X1_tryOrders_23 κ REC (wl_X1_tryOrders_23 κ REC Q X n) Q X v0 v1 v2 v3 v4 v5 h
def wb_X1_tryOrders_18 (κ : Nat → Nat) (REC : Nat → Option Nat → Int32 → Int32 → (Int32 → gh_H → Prop) → (String → gh_H → Prop) → gh_H → Prop)  (Q : Int32 → gh_H → Prop) (X : String → gh_H → Prop) (v0 : Nat) (v1 : Option Nat) (v2 : Int32) (v3 : Int32) (t0 : Int32) (h : gh_H) : Prop := (∃ n : Nat, wl_X1_tryOrders_23 κ REC Q X n v0 v1 v2 v3 t0 (0 : Int32) h)
def wf_X1_tryOrders (κ : Nat → Nat) (REC : Nat → Option Nat → Int32 → Int32 → (Int32 → gh_H → Prop) → (String → gh_H → Prop) → gh_H → Prop) (v0 : Nat) (v1 : Option Nat) (v2 : Int32) (v3 : Int32) (Q : Int32 → gh_H → Prop) (X : String → gh_H → Prop) (h : gh_H) : Prop := (gh_RC h v1 7 (fun a1 => (wp_X7_sheets κ a1 (fun r2 h3 => ((v2 = (((1 : Int32) <<< (r2 &&& 31)) - (1 : Int32)) → wb_X1_tryOrders_18 κ REC Q X v0 (some a1) v2 v3 (0 : Int32) h3) ∧ (¬ v2 = (((1 : Int32) <<< (r2 &&& 31)) - (1 : Int32)) → wb_X1_tryOrders_18 κ REC Q X v0 (some a1) v2 v3 (1000000 : Int32) h3))) X h)))
def wp_X1_tryOrders (κ : Nat → Nat) : Nat → Nat → Option Nat → Int32 → Int32 → (Int32 → gh_H → Prop) → (String → gh_H → Prop) → gh_H → Prop
  | 0 => fun _ _ _ _ _ _ _ => False
  | n + 1 => fun v0 v1 v2 v3 Q X h => wf_X1_tryOrders κ (wp_X1_tryOrders κ n) v0 v1 v2 v3 Q X h
set_option maxHeartbeats 4000000 in
theorem wk_X1_tryOrders_88 {D : gh_D} {p : Program} {l : Launch} {e : Env} {s : State} {m : MethodId} {args : Array Value} {below : List Frame} {meth : Method} {c : Code} {h0 : gh_H} (M : gh_M D p l s m args meth c RX1 cX1_tryOrders 7 (gh_A h0 s.heap.size)) {REC : Nat → Option Nat → Int32 → Int32 → (Int32 → gh_H → Prop) → (String → gh_H → Prop) → gh_H → Prop} {n : Nat} (hr : meth.sig.returnType = (some .int)) (hex : ∀ x ∈ c.exceptionTable.toList, False) (hrec : ∀ (v0 : Nat) (v1 : Option Nat) (v2 : Int32) (v3 : Int32) (Q : Int32 → gh_H → Prop) (X : String → gh_H → Prop) (h : gh_H) (sz : Nat) (_ : REC v0 v1 v2 v3 Q X h), vx_Met l yX1_tryOrders (ws_ yX1_tryOrders cX1_tryOrders 7 (some .int)) (rm_X1_tryOrders n) (gh_Pc D h sz [.ref v0, va_rf v1, .int v2, .int v3]) (gh_Qi Q D h sz) (gh_X X D h sz) 0 0 (gh_A h sz)) {K23 : Nat → Option Nat → Int32 → Int32 → Int32 → Int32 → gh_H → Prop}  {Q : Int32 → gh_H → Prop} {X : String → gh_H → Prop} (k23 : ∀ (v0 : Nat) (v1 : Option Nat) (v2 : Int32) (v3 : Int32) (v4 : Int32) (v5 : Int32) (H : Heap) (locs : List Loc) (ls : Array Slot) (h : gh_H) (_ : gh_Inv D h0 (gh_A h0 s.heap.size) s.heap s H locs h) (_ : gh_L ls 7 [(0, 1, va_rf (some v0)), (1, 1, va_rf v1), (2, 1, .int v2), (3, 1, .int v3), (4, 1, .int v4), (5, 1, .int v5)]) (_ : K23 v0 v1 v2 v3 v4 v5 h), W p l e (rm_X1_tryOrders (n + 1)) s m args below meth c H locs 0 0 (vx_MQ below (gh_Qi Q D h0 s.heap.size) (gh_X X D h0 s.heap.size) args s 0 0 (gh_A h0 s.heap.size)) (F0 m 23 ls []))  (v0 : Nat) (v1 : Option Nat) (v2 : Int32) (v3 : Int32) (v4 : Int32) (v5 : Int32) (H : Heap) (locs : List Loc) (ls : Array Slot) (h : gh_H) (G : gh_Inv D h0 (gh_A h0 s.heap.size) s.heap s H locs h) (hl : gh_L ls 7 [(0, 1, va_rf (some v0)), (1, 1, va_rf v1), (2, 1, .int v2), (3, 1, .int v3), (4, 1, .int v4), (5, 1, .int v5)]) (hw : wb_X1_tryOrders_88 D.2.2 REC K23 Q X v0 v1 v2 v3 v4 v5 h) : W p l e (rm_X1_tryOrders (n + 1)) s m args below meth c H locs 0 0 (vx_MQ below (gh_Qi Q D h0 s.heap.size) (gh_X X D h0 s.heap.size) args s 0 0 (gh_A h0 s.heap.size)) (F0 m 88 ls []) := by
  unfold wb_X1_tryOrders_88 at hw
  have hx := M.1.1
  have hb := M.1.2.1
  refine gh_iinc (k := 5) (v := (v5 + (1 : Int32))) (lv' := [(5, 1, .int (v5 + (1 : Int32))), (0, 1, va_rf (some v0)), (1, 1, va_rf v1), (2, 1, .int v2), (3, 1, .int v3), (4, 1, .int v4)]) hx hb dX1_tryOrders_88 hl rfl rfl (by decide) rfl (fun ls hl => ?_)
  refine lv_goto (tgt := 23) hx hb dX1_tryOrders_91 (by decide) ?_
  exact k23 v0 v1 v2 v3 v4 (v5 + (1 : Int32)) _ _ _ _ G (gh_sub hl [1, 2, 3, 4, 5, 0] rfl) hw
set_option maxHeartbeats 4000000 in
theorem wk_X1_tryOrders_63 {D : gh_D} {p : Program} {l : Launch} {e : Env} {s : State} {m : MethodId} {args : Array Value} {below : List Frame} {meth : Method} {c : Code} {h0 : gh_H} (M : gh_M D p l s m args meth c RX1 cX1_tryOrders 7 (gh_A h0 s.heap.size)) {REC : Nat → Option Nat → Int32 → Int32 → (Int32 → gh_H → Prop) → (String → gh_H → Prop) → gh_H → Prop} {n : Nat} (hr : meth.sig.returnType = (some .int)) (hex : ∀ x ∈ c.exceptionTable.toList, False) (hrec : ∀ (v0 : Nat) (v1 : Option Nat) (v2 : Int32) (v3 : Int32) (Q : Int32 → gh_H → Prop) (X : String → gh_H → Prop) (h : gh_H) (sz : Nat) (_ : REC v0 v1 v2 v3 Q X h), vx_Met l yX1_tryOrders (ws_ yX1_tryOrders cX1_tryOrders 7 (some .int)) (rm_X1_tryOrders n) (gh_Pc D h sz [.ref v0, va_rf v1, .int v2, .int v3]) (gh_Qi Q D h sz) (gh_X X D h sz) 0 0 (gh_A h sz)) {K23 : Nat → Option Nat → Int32 → Int32 → Int32 → Int32 → gh_H → Prop}  {Q : Int32 → gh_H → Prop} {X : String → gh_H → Prop} (k23 : ∀ (v0 : Nat) (v1 : Option Nat) (v2 : Int32) (v3 : Int32) (v4 : Int32) (v5 : Int32) (H : Heap) (locs : List Loc) (ls : Array Slot) (h : gh_H) (_ : gh_Inv D h0 (gh_A h0 s.heap.size) s.heap s H locs h) (_ : gh_L ls 7 [(0, 1, va_rf (some v0)), (1, 1, va_rf v1), (2, 1, .int v2), (3, 1, .int v3), (4, 1, .int v4), (5, 1, .int v5)]) (_ : K23 v0 v1 v2 v3 v4 v5 h), W p l e (rm_X1_tryOrders (n + 1)) s m args below meth c H locs 0 0 (vx_MQ below (gh_Qi Q D h0 s.heap.size) (gh_X X D h0 s.heap.size) args s 0 0 (gh_A h0 s.heap.size)) (F0 m 23 ls []))  (v0 : Nat) (v1 : Option Nat) (v2 : Int32) (v3 : Int32) (v4 : Int32) (v5 : Int32) (t0 : Int32) (H : Heap) (locs : List Loc) (ls : Array Slot) (h : gh_H) (G : gh_Inv D h0 (gh_A h0 s.heap.size) s.heap s H locs h) (hl : gh_L ls 7 [(0, 1, va_rf (some v0)), (1, 1, va_rf v1), (2, 1, .int v2), (3, 1, .int v3), (4, 1, .int v4), (5, 1, .int v5)]) (hw : wb_X1_tryOrders_63 D.2.2 REC K23 Q X v0 v1 v2 v3 v4 v5 t0 h) : W p l e (rm_X1_tryOrders (n + 1)) s m args below meth c H locs 0 0 (vx_MQ below (gh_Qi Q D h0 s.heap.size) (gh_X X D h0 s.heap.size) args s 0 0 (gh_A h0 s.heap.size)) (F0 m 63 ls [.int t0]) := by
  unfold wb_X1_tryOrders_63 at hw
  have hx := M.1.1
  have hb := M.1.2.1
  refine gh_istore (lv' := [(6, 1, .int t0), (0, 1, va_rf (some v0)), (1, 1, va_rf v1), (2, 1, .int v2), (3, 1, .int v3), (4, 1, .int v4), (5, 1, .int v5)]) hx hb dX1_tryOrders_63 hl (by decide) rfl (fun ls hl => ?_)
  refine lv_iload hx hb dX1_tryOrders_65 (gh_at hl 5 rfl) ?_
  refine lv_iload hx hb dX1_tryOrders_67 (gh_at hl 0 rfl) ?_
  refine gh_aload_n hx hb dX1_tryOrders_69 rfl (gh_at hl 1 rfl) ?_
  refine gh_aload_n hx hb dX1_tryOrders_70 rfl (gh_at hl 2 rfl) ?_
  refine lv_iload_n hx hb dX1_tryOrders_71 rfl (gh_at hl 3 rfl) ?_
  refine lv_iconst (v := (1 : Int32)) hx hb dX1_tryOrders_72 (by decide) ?_
  refine lv_iload hx hb dX1_tryOrders_73 (gh_at hl 6 rfl) ?_
  refine lv_ishl hx hb dX1_tryOrders_75 ?_
  refine lv_ior hx hb dX1_tryOrders_76 ?_
  refine lv_iload hx hb dX1_tryOrders_77 (gh_at hl 6 rfl) ?_
  obtain ⟨a1, lba1, fsa1, hra1, haa1, hw⟩ := hw
  rw [← Option.some.inj hra1] at haa1
  refine gh_ki G (vx_runV M.1 (hrec _ _ _ _ _ _ _ _ hw) (cwV 3 (gh_Mts M) (lw_V q1101 q1103 qs15 q41 q1104) rfl rfl rfl ⟨rfl, by decide, by decide, rfl⟩ ⟨Nat.le_refl _, by show 8 + (7 + 11) + (174 + n * 26) ≤ 174 + (n + 1) * 26; omega⟩) (gh_preV (As := [va_rf v1, .int (v2 ||| ((1 : Int32) <<< (v5 &&& 31))), .int v5]) M G (gh_rec M G haa1 rfl)) rfl rfl hl.1.1 rfl (lv_room (Nat.le_of_ble_eq_true rfl)) dX1_tryOrders_79 ⟨(Nat.le_of_ble_eq_true rfl), (Nat.le_of_ble_eq_true rfl)⟩) (gh_out M hex (by exact Nat.le_of_ble_eq_true rfl) (by exact Nat.le_of_ble_eq_true rfl)) (fun r2 h3 H locs hw G => ?_)
  refine lv_iadd hx hb dX1_tryOrders_82 ?_
  refine va_mmin M.1.1 M.1.2.1 (M.1.2.2.1.trans hl.1.1.symm) M.1.2.2.2.1 (gh_Mts M _ q1093) (gh_Mts M _ q429) (gh_Mts M _ q57) (gh_Mts M _ q430) (by show 1 ≤ 7 + (n + 1); omega) (Nat.le_trans (Nat.add_le_add_right gh_r0 _) (by show 0 + 13 ≤ 174 + (n + 1) * 26; omega)) (Nat.le_of_ble_eq_true rfl) (Nat.le_of_ble_eq_true rfl) dX1_tryOrders_83 ?_
  refine gh_istore (lv' := [(4, 1, .int (if (t0 + r2) < v4 then (t0 + r2) else v4)), (6, 1, .int t0), (0, 1, va_rf (some v0)), (1, 1, va_rf v1), (2, 1, .int v2), (3, 1, .int v3), (5, 1, .int v5)]) hx hb dX1_tryOrders_86 hl (by decide) rfl (fun ls hl => ?_)
  exact wk_X1_tryOrders_88 M hr hex hrec k23 v0 v1 v2 v3 (if (t0 + r2) < v4 then (t0 + r2) else v4) v5 _ _ _ _ G (gh_sub hl [2, 3, 4, 5, 0, 6] rfl) hw
set_option maxHeartbeats 4000000 in
theorem wk1_X1_tryOrders_23 {D : gh_D} {p : Program} {l : Launch} {e : Env} {s : State} {m : MethodId} {args : Array Value} {below : List Frame} {meth : Method} {c : Code} {h0 : gh_H} (M : gh_M D p l s m args meth c RX1 cX1_tryOrders 7 (gh_A h0 s.heap.size)) {REC : Nat → Option Nat → Int32 → Int32 → (Int32 → gh_H → Prop) → (String → gh_H → Prop) → gh_H → Prop} {n : Nat} (hr : meth.sig.returnType = (some .int)) (hex : ∀ x ∈ c.exceptionTable.toList, False) (hrec : ∀ (v0 : Nat) (v1 : Option Nat) (v2 : Int32) (v3 : Int32) (Q : Int32 → gh_H → Prop) (X : String → gh_H → Prop) (h : gh_H) (sz : Nat) (_ : REC v0 v1 v2 v3 Q X h), vx_Met l yX1_tryOrders (ws_ yX1_tryOrders cX1_tryOrders 7 (some .int)) (rm_X1_tryOrders n) (gh_Pc D h sz [.ref v0, va_rf v1, .int v2, .int v3]) (gh_Qi Q D h sz) (gh_X X D h sz) 0 0 (gh_A h sz)) {K23 : Nat → Option Nat → Int32 → Int32 → Int32 → Int32 → gh_H → Prop}  {Q : Int32 → gh_H → Prop} {X : String → gh_H → Prop} (k23 : ∀ (v0 : Nat) (v1 : Option Nat) (v2 : Int32) (v3 : Int32) (v4 : Int32) (v5 : Int32) (H : Heap) (locs : List Loc) (ls : Array Slot) (h : gh_H) (_ : gh_Inv D h0 (gh_A h0 s.heap.size) s.heap s H locs h) (_ : gh_L ls 7 [(0, 1, va_rf (some v0)), (1, 1, va_rf v1), (2, 1, .int v2), (3, 1, .int v3), (4, 1, .int v4), (5, 1, .int v5)]) (_ : K23 v0 v1 v2 v3 v4 v5 h), W p l e (rm_X1_tryOrders (n + 1)) s m args below meth c H locs 0 0 (vx_MQ below (gh_Qi Q D h0 s.heap.size) (gh_X X D h0 s.heap.size) args s 0 0 (gh_A h0 s.heap.size)) (F0 m 23 ls []))  (v0 : Nat) (v1 : Option Nat) (v2 : Int32) (v3 : Int32) (v4 : Int32) (v5 : Int32) (H : Heap) (locs : List Loc) (ls : Array Slot) (h : gh_H) (G : gh_Inv D h0 (gh_A h0 s.heap.size) s.heap s H locs h) (hl : gh_L ls 7 [(0, 1, va_rf (some v0)), (1, 1, va_rf v1), (2, 1, .int v2), (3, 1, .int v3), (4, 1, .int v4), (5, 1, .int v5)]) (hw : wb_X1_tryOrders_23 D.2.2 REC K23 Q X v0 v1 v2 v3 v4 v5 h) : W p l e (rm_X1_tryOrders (n + 1)) s m args below meth c H locs 0 0 (vx_MQ below (gh_Qi Q D h0 s.heap.size) (gh_X X D h0 s.heap.size) args s 0 0 (gh_A h0 s.heap.size)) (F0 m 23 ls []) := by
  unfold wb_X1_tryOrders_23 at hw
  have hx := M.1.1
  have hb := M.1.2.1
  refine lv_iload hx hb dX1_tryOrders_23 (gh_at hl 5 rfl) ?_
  refine gh_aload_n hx hb dX1_tryOrders_25 rfl (gh_at hl 1 rfl) ?_
  obtain ⟨a1, lba1, fsa1, rfl, haa1, hw⟩ := hw
  refine gh_ki G (vx_runV M.1 (met_X7_sheets l D _ _ _ _ _ hw M.2.2.2.2.2) (cwV 0 (gh_Mts M) (lw_V q814 q644 q645 q71 q646) rfl rfl rfl ⟨rfl, by decide, by decide, rfl⟩ ⟨by show 2 + 1 ≤ 7 + (n + 1); omega, by show 8 + (1 + 11) + 60 ≤ 174 + (n + 1) * 26; omega⟩) (gh_preV (As := []) M G (gh_rec M G haa1 rfl)) rfl rfl hl.1.1 rfl (lv_room (Nat.le_of_ble_eq_true rfl)) dX1_tryOrders_26 ⟨(Nat.le_of_ble_eq_true rfl), (Nat.le_of_ble_eq_true rfl)⟩) (gh_out M hex (by exact Nat.le_of_ble_eq_true rfl) (by exact Nat.le_of_ble_eq_true rfl)) (fun r2 h3 H locs hw G => ?_)
  refine lv_icmp_ge (tgt := 94) hx hb dX1_tryOrders_29 (by decide) (fun hc => ?_) (fun hc => ?_)
  · replace hw := hw.1 hc
    refine lv_iload hx hb dX1_tryOrders_94 (gh_at hl 4 rfl) ?_
    exact gh_iret M G hr rfl hw (by exact Nat.le_of_ble_eq_true rfl) (by exact Nat.le_of_ble_eq_true rfl) dX1_tryOrders_96
  · replace hw := hw.2 hc
    refine lv_iload_n hx hb dX1_tryOrders_32 rfl (gh_at hl 2 rfl) ?_
    refine lv_iload hx hb dX1_tryOrders_33 (gh_at hl 5 rfl) ?_
    refine lv_ishr hx hb dX1_tryOrders_35 ?_
    refine lv_iconst (v := (1 : Int32)) hx hb dX1_tryOrders_36 (by decide) ?_
    refine lv_iand hx hb dX1_tryOrders_37 ?_
    refine lv_if_ne (tgt := 88) hx hb dX1_tryOrders_38 (by decide) (fun hc => ?_) (fun hc => ?_)
    · replace hw := hw.2 hc
      exact wk_X1_tryOrders_88 M hr hex hrec k23 v0 (some a1) v2 v3 v4 v5 _ _ _ _ G (gh_sub hl [0, 1, 2, 3, 4, 5] rfl) hw
    · replace hw := hw.1 hc
      refine lv_iload_n hx hb dX1_tryOrders_41 rfl (gh_at hl 3 rfl) ?_
      refine lv_iconst (v := (-1 : Int32)) hx hb dX1_tryOrders_42 (by decide) ?_
      refine lv_icmp_ne (tgt := 56) hx hb dX1_tryOrders_43 (by decide) (fun hc => ?_) (fun hc => ?_)
      · replace hw := hw.2 hc
        refine gh_aload_n hx hb dX1_tryOrders_56 rfl (gh_at hl 1 rfl) ?_
        refine lv_iload_n hx hb dX1_tryOrders_57 rfl (gh_at hl 3 rfl) ?_
        refine lv_iload hx hb dX1_tryOrders_58 (gh_at hl 5 rfl) ?_
        refine gh_ki G (vx_runS M.1 (met_X1_between l D _ _ _ _ _ _ _ hw M.2.2.2.2.2) (va_cwS 3 (gh_Mts M) (lw_S q1090 q1091 q41 q1092) rfl rfl rfl ⟨by decide, by decide, rfl⟩ ⟨by show 6 + 1 ≤ 7 + (n + 1); omega, by show 8 + (5 + 11) + 150 ≤ 174 + (n + 1) * 26; omega⟩) (gh_pre M G (As := [va_rf (some a1), .int v3, .int v5])) rfl rfl hl.1.1 rfl (lv_room (Nat.le_of_ble_eq_true rfl)) dX1_tryOrders_60 ⟨(Nat.le_of_ble_eq_true rfl), (Nat.le_of_ble_eq_true rfl)⟩) (gh_out M hex (by exact Nat.le_of_ble_eq_true rfl) (by exact Nat.le_of_ble_eq_true rfl)) (fun r4 h5 H locs hw G => ?_)
        exact wk_X1_tryOrders_63 M hr hex hrec k23 v0 (some a1) v2 v3 v4 v5 r4 _ _ _ _ G (gh_sub hl [0, 1, 2, 3, 4, 5] rfl) hw
      · replace hw := hw.1 hc
        refine gh_aload_n hx hb dX1_tryOrders_46 rfl (gh_at hl 0 rfl) ?_
        refine gh_aload_n hx hb dX1_tryOrders_47 rfl (gh_at hl 1 rfl) ?_
        refine lv_iload hx hb dX1_tryOrders_48 (gh_at hl 5 rfl) ?_
        obtain ⟨a6, lba6, fsa6, hra6, haa6, hw⟩ := hw
        rw [← Option.some.inj hra6] at haa6
        refine gh_ki G (vx_runV M.1 (met_X1_makeready l D _ _ _ _ _ _ _ hw M.2.2.2.2.2) (cwV 2 (gh_Mts M) (lw_V q877 q879 qs8 q41 q880) rfl rfl rfl ⟨rfl, by decide, by decide, rfl⟩ ⟨by show 6 + 1 ≤ 7 + (n + 1); omega, by show 8 + (5 + 11) + 150 ≤ 174 + (n + 1) * 26; omega⟩) (gh_preV (As := [va_rf (some a1), .int v5]) M G (gh_rec M G haa6 rfl)) rfl rfl hl.1.1 rfl (lv_room (Nat.le_of_ble_eq_true rfl)) dX1_tryOrders_50 ⟨(Nat.le_of_ble_eq_true rfl), (Nat.le_of_ble_eq_true rfl)⟩) (gh_out M hex (by exact Nat.le_of_ble_eq_true rfl) (by exact Nat.le_of_ble_eq_true rfl)) (fun r7 h8 H locs hw G => ?_)
        refine lv_goto (tgt := 63) hx hb dX1_tryOrders_53 (by decide) ?_
        exact wk_X1_tryOrders_63 M hr hex hrec k23 v0 (some a1) v2 v3 v4 v5 r7 _ _ _ _ G (gh_sub hl [0, 1, 2, 3, 4, 5] rfl) hw
theorem wk_X1_tryOrders_23 {D : gh_D} {p : Program} {l : Launch} {e : Env} {s : State} {m : MethodId} {args : Array Value} {below : List Frame} {meth : Method} {c : Code} {h0 : gh_H} (M : gh_M D p l s m args meth c RX1 cX1_tryOrders 7 (gh_A h0 s.heap.size)) {REC : Nat → Option Nat → Int32 → Int32 → (Int32 → gh_H → Prop) → (String → gh_H → Prop) → gh_H → Prop} {n : Nat} (hr : meth.sig.returnType = (some .int)) (hex : ∀ x ∈ c.exceptionTable.toList, False) (hrec : ∀ (v0 : Nat) (v1 : Option Nat) (v2 : Int32) (v3 : Int32) (Q : Int32 → gh_H → Prop) (X : String → gh_H → Prop) (h : gh_H) (sz : Nat) (_ : REC v0 v1 v2 v3 Q X h), vx_Met l yX1_tryOrders (ws_ yX1_tryOrders cX1_tryOrders 7 (some .int)) (rm_X1_tryOrders n) (gh_Pc D h sz [.ref v0, va_rf v1, .int v2, .int v3]) (gh_Qi Q D h sz) (gh_X X D h sz) 0 0 (gh_A h sz))   {Q : Int32 → gh_H → Prop} {X : String → gh_H → Prop}   : ∀ (fu : Nat) (v0 : Nat) (v1 : Option Nat) (v2 : Int32) (v3 : Int32) (v4 : Int32) (v5 : Int32) (H : Heap) (locs : List Loc) (ls : Array Slot) (h : gh_H) (_ : gh_Inv D h0 (gh_A h0 s.heap.size) s.heap s H locs h) (_ : gh_L ls 7 [(0, 1, va_rf (some v0)), (1, 1, va_rf v1), (2, 1, .int v2), (3, 1, .int v3), (4, 1, .int v4), (5, 1, .int v5)]) (_ : wl_X1_tryOrders_23 D.2.2 REC Q X fu v0 v1 v2 v3 v4 v5 h), W p l e (rm_X1_tryOrders (n + 1)) s m args below meth c H locs 0 0 (vx_MQ below (gh_Qi Q D h0 s.heap.size) (gh_X X D h0 s.heap.size) args s 0 0 (gh_A h0 s.heap.size)) (F0 m 23 ls []) := by
  intro fu
  induction fu with
  | zero => intro v0 v1 v2 v3 v4 v5 H locs ls h G hl hw; exact False.elim hw
  | succ n1 ih =>
    intro v0 v1 v2 v3 v4 v5 H locs ls h G hl hw
    exact wk1_X1_tryOrders_23 M hr hex hrec ih  v0 v1 v2 v3 v4 v5 _ _ _ _ G hl hw
set_option maxHeartbeats 4000000 in
theorem wk_X1_tryOrders_18 {D : gh_D} {p : Program} {l : Launch} {e : Env} {s : State} {m : MethodId} {args : Array Value} {below : List Frame} {meth : Method} {c : Code} {h0 : gh_H} (M : gh_M D p l s m args meth c RX1 cX1_tryOrders 7 (gh_A h0 s.heap.size)) {REC : Nat → Option Nat → Int32 → Int32 → (Int32 → gh_H → Prop) → (String → gh_H → Prop) → gh_H → Prop} {n : Nat} (hr : meth.sig.returnType = (some .int)) (hex : ∀ x ∈ c.exceptionTable.toList, False) (hrec : ∀ (v0 : Nat) (v1 : Option Nat) (v2 : Int32) (v3 : Int32) (Q : Int32 → gh_H → Prop) (X : String → gh_H → Prop) (h : gh_H) (sz : Nat) (_ : REC v0 v1 v2 v3 Q X h), vx_Met l yX1_tryOrders (ws_ yX1_tryOrders cX1_tryOrders 7 (some .int)) (rm_X1_tryOrders n) (gh_Pc D h sz [.ref v0, va_rf v1, .int v2, .int v3]) (gh_Qi Q D h sz) (gh_X X D h sz) 0 0 (gh_A h sz))   {Q : Int32 → gh_H → Prop} {X : String → gh_H → Prop}   (v0 : Nat) (v1 : Option Nat) (v2 : Int32) (v3 : Int32) (t0 : Int32) (H : Heap) (locs : List Loc) (ls : Array Slot) (h : gh_H) (G : gh_Inv D h0 (gh_A h0 s.heap.size) s.heap s H locs h) (hl : gh_L ls 7 [(0, 1, va_rf (some v0)), (1, 1, va_rf v1), (2, 1, .int v2), (3, 1, .int v3)]) (hw : wb_X1_tryOrders_18 D.2.2 REC Q X v0 v1 v2 v3 t0 h) : W p l e (rm_X1_tryOrders (n + 1)) s m args below meth c H locs 0 0 (vx_MQ below (gh_Qi Q D h0 s.heap.size) (gh_X X D h0 s.heap.size) args s 0 0 (gh_A h0 s.heap.size)) (F0 m 18 ls [.int t0]) := by
  unfold wb_X1_tryOrders_18 at hw
  have hx := M.1.1
  have hb := M.1.2.1
  refine gh_istore (lv' := [(4, 1, .int t0), (0, 1, va_rf (some v0)), (1, 1, va_rf v1), (2, 1, .int v2), (3, 1, .int v3)]) hx hb dX1_tryOrders_18 hl (by decide) rfl (fun ls hl => ?_)
  refine lv_iconst (v := (0 : Int32)) hx hb dX1_tryOrders_20 (by decide) ?_
  refine gh_istore (lv' := [(5, 1, .int (0 : Int32)), (4, 1, .int t0), (0, 1, va_rf (some v0)), (1, 1, va_rf v1), (2, 1, .int v2), (3, 1, .int v3)]) hx hb dX1_tryOrders_21 hl (by decide) rfl (fun ls hl => ?_)
  obtain ⟨n, hw⟩ := hw
  exact wk_X1_tryOrders_23 M hr hex hrec  n v0 v1 v2 v3 t0 (0 : Int32) _ _ _ _ G (gh_sub hl [2, 3, 4, 5, 1, 0] rfl) hw
set_option maxHeartbeats 4000000 in
theorem mf_X1_tryOrders (l : Launch) (D : gh_D) {REC : Nat → Option Nat → Int32 → Int32 → (Int32 → gh_H → Prop) → (String → gh_H → Prop) → gh_H → Prop} {n : Nat} (hrec : ∀ (v0 : Nat) (v1 : Option Nat) (v2 : Int32) (v3 : Int32) (Q : Int32 → gh_H → Prop) (X : String → gh_H → Prop) (h : gh_H) (sz : Nat) (_ : REC v0 v1 v2 v3 Q X h), vx_Met l yX1_tryOrders (ws_ yX1_tryOrders cX1_tryOrders 7 (some .int)) (rm_X1_tryOrders n) (gh_Pc D h sz [.ref v0, va_rf v1, .int v2, .int v3]) (gh_Qi Q D h sz) (gh_X X D h sz) 0 0 (gh_A h sz)) (v0 : Nat) (v1 : Option Nat) (v2 : Int32) (v3 : Int32) (Q : Int32 → gh_H → Prop) (X : String → gh_H → Prop) (h : gh_H) (sz : Nat) (hw : wf_X1_tryOrders D.2.2 REC v0 v1 v2 v3 Q X h) (hst : l.stackTraces = false) : vx_Met l yX1_tryOrders (ws_ yX1_tryOrders cX1_tryOrders 7 (some .int)) (rm_X1_tryOrders (n + 1)) (gh_Pc D h sz [.ref v0, va_rf v1, .int v2, .int v3]) (gh_Qi Q D h sz) (gh_X X D h sz) 0 0 (gh_A h sz) := by
  refine vx_ofW (by decide) rfl (fun p e s m args below meth c s₁ B hml hex hP => ?_)
  obtain ⟨rfl, rfl, hK, hT, hE, G⟩ := gh_start hP
  have M : gh_M D p l s m _ meth c RX1 cX1_tryOrders 7 (gh_A h s.heap.size) := ⟨⟨B.exec, B.bytes, hml, findClass_of_methodNamed B.named, fun w hw => atoms_spec (ws := ws_ yX1_tryOrders cX1_tryOrders 7 (some .int)) B.pre w (List.mem_cons_of_mem _ hw)⟩, hK, hT, hE, B.notSynchronized, hst⟩
  have hr := B.returns
  have hx := M.1.1
  have hb := M.1.2.1
  refine gh_enter (vs := [(1, .ref v0), (1, va_rf v1), (1, .int v2), (1, .int v3)]) (gh_w1 rfl (gh_w1 (gh_cat _) (gh_w1 rfl (gh_w1 rfl gh_wn)))) (Nat.le_of_ble_eq_true rfl) (fun ls hl => ?_)
  replace hl : gh_L ls 7 [(0, 1, va_rf (some v0)), (1, 1, va_rf v1), (2, 1, .int v2), (3, 1, .int v3)] := hl
  unfold wf_X1_tryOrders at hw
  refine lv_iload_n hx hb dX1_tryOrders_0 rfl (gh_at hl 2 rfl) ?_
  refine lv_iconst (v := (1 : Int32)) hx hb dX1_tryOrders_1 (by decide) ?_
  refine gh_aload_n hx hb dX1_tryOrders_2 rfl (gh_at hl 1 rfl) ?_
  obtain ⟨a1, lba1, fsa1, rfl, haa1, hw⟩ := hw
  refine gh_ki G (vx_runV M.1 (met_X7_sheets l D _ _ _ _ _ hw M.2.2.2.2.2) (cwV 0 (gh_Mts M) (lw_V q814 q644 q645 q71 q646) rfl rfl rfl ⟨rfl, by decide, by decide, rfl⟩ ⟨by show 2 + 1 ≤ 7 + (n + 1); omega, by show 8 + (1 + 11) + 60 ≤ 174 + (n + 1) * 26; omega⟩) (gh_preV (As := []) M G (gh_rec M G haa1 rfl)) rfl rfl hl.1.1 rfl (lv_room (Nat.le_of_ble_eq_true rfl)) dX1_tryOrders_3 ⟨(Nat.le_of_ble_eq_true rfl), (Nat.le_of_ble_eq_true rfl)⟩) (gh_out M hex (by exact Nat.le_of_ble_eq_true rfl) (by exact Nat.le_of_ble_eq_true rfl)) (fun r2 h3 H locs hw G => ?_)
  refine lv_ishl hx hb dX1_tryOrders_6 ?_
  refine lv_iconst (v := (1 : Int32)) hx hb dX1_tryOrders_7 (by decide) ?_
  refine lv_isub hx hb dX1_tryOrders_8 ?_
  refine lv_icmp_ne (tgt := 16) hx hb dX1_tryOrders_9 (by decide) (fun hc => ?_) (fun hc => ?_)
  · replace hw := hw.2 hc
    refine lv_ldc (v := (1000000 : Int32)) hx hb M.1.2.2.2.1 (gh_Mts M _ q1089) dX1_tryOrders_16 ?_
    exact wk_X1_tryOrders_18 M hr hex hrec  v0 (some a1) v2 v3 (1000000 : Int32) _ _ _ _ G (gh_sub hl [0, 1, 2, 3] rfl) hw
  · replace hw := hw.1 hc
    refine lv_iconst (v := (0 : Int32)) hx hb dX1_tryOrders_12 (by decide) ?_
    refine lv_goto (tgt := 18) hx hb dX1_tryOrders_13 (by decide) ?_
    exact wk_X1_tryOrders_18 M hr hex hrec  v0 (some a1) v2 v3 (0 : Int32) _ _ _ _ G (gh_sub hl [0, 1, 2, 3] rfl) hw
theorem met_X1_tryOrders (n : Nat) (l : Launch) (D : gh_D) (v0 : Nat) (v1 : Option Nat) (v2 : Int32) (v3 : Int32) (Q : Int32 → gh_H → Prop) (X : String → gh_H → Prop) (h : gh_H) (sz : Nat) (hw : wp_X1_tryOrders D.2.2 n v0 v1 v2 v3 Q X h) (hst : l.stackTraces = false) : vx_Met l yX1_tryOrders (ws_ yX1_tryOrders cX1_tryOrders 7 (some .int)) (rm_X1_tryOrders n) (gh_Pc D h sz [.ref v0, va_rf v1, .int v2, .int v3]) (gh_Qi Q D h sz) (gh_X X D h sz) 0 0 (gh_A h sz) := by
  induction n generalizing v0 v1 v2 v3 Q X h sz with
  | zero => exact False.elim hw
  | succ n ih => exact mf_X1_tryOrders l D (fun v0 v1 v2 v3 Q X h sz hw => ih v0 v1 v2 v3 Q X h sz hw) v0 v1 v2 v3 Q X h sz hw hst
/-! BinderyDesk.leastByTrying (I)I -/
def rm_X1_leastByTrying : Room := { frames := 16, cells := 3, slots := 18, locals := 408 }
def wb_X1_leastByTrying_20 (κ : Nat → Nat)  (Q : Int32 → gh_H → Prop) (X : String → gh_H → Prop) (v0 : Nat) (v2 : Option Nat) (t0 : Int32) (h : gh_H) : Prop := (wp_X1_requirePossible κ t0 (fun h1 => (gh_RC h1 (some v0) 0 (fun _ => (wp_X1_tryOrders κ 8 v0 v2 (0 : Int32) (-1 : Int32) (fun r3 h4 => (Q r3 h4)) X h1)))) X h)
def wp_X1_leastByTrying (κ : Nat → Nat) (v0 : Nat) (v1 : Int32) (Q : Int32 → gh_H → Prop) (X : String → gh_H → Prop) (h : gh_H) : Prop := (gh_RC h (some v0) 0 (fun _ => (wp_X1_completeJob κ v0 v1 (fun r2 h3 => (gh_RC h3 r2 7 (fun a4 => (wp_X7_sheets κ a4 (fun r5 h6 => (((6 : Int32) < r5 → wb_X1_leastByTrying_20 κ Q X v0 (some a4) (0 : Int32) h6) ∧ (¬ (6 : Int32) < r5 → wb_X1_leastByTrying_20 κ Q X v0 (some a4) (1 : Int32) h6))) X h3)))) X h)))
set_option maxHeartbeats 4000000 in
theorem wk_X1_leastByTrying_20 {D : gh_D} {p : Program} {l : Launch} {e : Env} {s : State} {m : MethodId} {args : Array Value} {below : List Frame} {meth : Method} {c : Code} {h0 : gh_H} (M : gh_M D p l s m args meth c RX1 cX1_leastByTrying 3 (gh_A h0 s.heap.size)) (hr : meth.sig.returnType = (some .int)) (hex : ∀ x ∈ c.exceptionTable.toList, False)   {Q : Int32 → gh_H → Prop} {X : String → gh_H → Prop}   (v0 : Nat) (v2 : Option Nat) (t0 : Int32) (H : Heap) (locs : List Loc) (ls : Array Slot) (h : gh_H) (G : gh_Inv D h0 (gh_A h0 s.heap.size) s.heap s H locs h) (hl : gh_L ls 3 [(0, 1, va_rf (some v0)), (2, 1, va_rf v2)]) (hw : wb_X1_leastByTrying_20 D.2.2 Q X v0 v2 t0 h) : W p l e rm_X1_leastByTrying s m args below meth c H locs 2 12 (vx_MQ below (gh_Qi Q D h0 s.heap.size) (gh_X X D h0 s.heap.size) args s 3 18 (gh_A h0 s.heap.size)) (F0 m 20 ls [.int t0]) := by
  unfold wb_X1_leastByTrying_20 at hw
  have hx := M.1.1
  have hb := M.1.2.1
  refine gh_kv G (vx_runS M.1 (met_X1_requirePossible l D _ _ _ _ _ hw M.2.2.2.2.2) (va_cwS 1 (gh_Mts M) (lw_S q859 q860 q41 q861) rfl rfl rfl ⟨by decide, by decide, rfl⟩ ⟨Nat.le_of_ble_eq_true rfl, Nat.le_of_ble_eq_true rfl⟩) (gh_pre M G (As := [.int t0])) rfl rfl hl.1.1 rfl (lv_room (Nat.le_of_ble_eq_true rfl)) dX1_leastByTrying_20 ⟨(Nat.le_of_ble_eq_true rfl), (Nat.le_of_ble_eq_true rfl)⟩) (gh_out M hex (by exact Nat.le_of_ble_eq_true rfl) (by exact Nat.le_of_ble_eq_true rfl)) (fun h1 H locs hw G => ?_)
  refine gh_aload_n hx hb dX1_leastByTrying_23 rfl (gh_at hl 0 rfl) ?_
  refine gh_aload_n hx hb dX1_leastByTrying_24 rfl (gh_at hl 1 rfl) ?_
  refine lv_iconst (v := (0 : Int32)) hx hb dX1_leastByTrying_25 (by decide) ?_
  refine lv_iconst (v := (-1 : Int32)) hx hb dX1_leastByTrying_26 (by decide) ?_
  obtain ⟨a2, lba2, fsa2, hra2, haa2, hw⟩ := hw
  rw [← Option.some.inj hra2] at haa2
  refine gh_ki G (vx_runV M.1 (met_X1_tryOrders 8 l D _ _ _ _ _ _ _ _ hw M.2.2.2.2.2) (cwV 3 (gh_Mts M) (lw_V q1101 q1103 qs15 q41 q1104) rfl rfl rfl ⟨rfl, by decide, by decide, rfl⟩ ⟨Nat.le_of_ble_eq_true rfl, Nat.le_of_ble_eq_true rfl⟩) (gh_preV (As := [va_rf v2, .int (0 : Int32), .int (-1 : Int32)]) M G (gh_rec M G haa2 rfl)) rfl rfl hl.1.1 rfl (lv_room (Nat.le_of_ble_eq_true rfl)) dX1_leastByTrying_27 ⟨(Nat.le_of_ble_eq_true rfl), (Nat.le_of_ble_eq_true rfl)⟩) (gh_out M hex (by exact Nat.le_of_ble_eq_true rfl) (by exact Nat.le_of_ble_eq_true rfl)) (fun r3 h4 H locs hw G => ?_)
  exact gh_iret M G hr rfl hw (by exact Nat.le_of_ble_eq_true rfl) (by exact Nat.le_of_ble_eq_true rfl) dX1_leastByTrying_30
set_option maxHeartbeats 4000000 in
theorem met_X1_leastByTrying (l : Launch) (D : gh_D) (v0 : Nat) (v1 : Int32) (Q : Int32 → gh_H → Prop) (X : String → gh_H → Prop) (h : gh_H) (sz : Nat) (hw : wp_X1_leastByTrying D.2.2 v0 v1 Q X h) (hst : l.stackTraces = false) : vx_Met l yX1_leastByTrying (ws_ yX1_leastByTrying cX1_leastByTrying 3 (some .int)) rm_X1_leastByTrying (gh_Pc D h sz [.ref v0, .int v1]) (gh_Qi Q D h sz) (gh_X X D h sz) 3 18 (gh_A h sz) := by
  refine vx_ofW (by decide) rfl (fun p e s m args below meth c s₁ B hml hex hP => ?_)
  obtain ⟨rfl, rfl, hK, hT, hE, G⟩ := gh_start hP
  have M : gh_M D p l s m _ meth c RX1 cX1_leastByTrying 3 (gh_A h s.heap.size) := ⟨⟨B.exec, B.bytes, hml, findClass_of_methodNamed B.named, fun w hw => atoms_spec (ws := ws_ yX1_leastByTrying cX1_leastByTrying 3 (some .int)) B.pre w (List.mem_cons_of_mem _ hw)⟩, hK, hT, hE, B.notSynchronized, hst⟩
  have hr := B.returns
  have hx := M.1.1
  have hb := M.1.2.1
  refine gh_enter (vs := [(1, .ref v0), (1, .int v1)]) (gh_w1 rfl (gh_w1 rfl gh_wn)) (Nat.le_of_ble_eq_true rfl) (fun ls hl => ?_)
  replace hl : gh_L ls 3 [(0, 1, va_rf (some v0)), (1, 1, .int v1)] := hl
  unfold wp_X1_leastByTrying at hw
  refine gh_aload_n hx hb dX1_leastByTrying_0 rfl (gh_at hl 0 rfl) ?_
  refine lv_iload_n hx hb dX1_leastByTrying_1 rfl (gh_at hl 1 rfl) ?_
  obtain ⟨a1, lba1, fsa1, hra1, haa1, hw⟩ := hw
  rw [← Option.some.inj hra1] at haa1
  refine gh_kq G (vx_runV M.1 (met_X1_completeJob l D _ _ _ _ _ _ hw M.2.2.2.2.2) (cwV 1 (gh_Mts M) (lw_V q809 q811 qs6 q41 q812) rfl rfl rfl ⟨rfl, by decide, by decide, rfl⟩ ⟨Nat.le_of_ble_eq_true rfl, Nat.le_of_ble_eq_true rfl⟩) (gh_preV (As := [.int v1]) M G (gh_rec M G haa1 rfl)) rfl rfl hl.1.1 rfl (lv_room (Nat.le_of_ble_eq_true rfl)) dX1_leastByTrying_2 ⟨(Nat.le_of_ble_eq_true rfl), (Nat.le_of_ble_eq_true rfl)⟩) (gh_out M hex (by exact Nat.le_of_ble_eq_true rfl) (by exact Nat.le_of_ble_eq_true rfl)) (fun r2 h3 H locs hw G => ?_)
  refine gh_astore_n (lv' := [(2, 1, va_rf r2), (0, 1, va_rf (some v0)), (1, 1, .int v1)]) hx hb dX1_leastByTrying_5 rfl hl (by decide) rfl (fun ls hl => ?_)
  refine gh_aload_n hx hb dX1_leastByTrying_6 rfl (gh_at hl 0 rfl) ?_
  obtain ⟨a4, lba4, fsa4, rfl, haa4, hw⟩ := hw
  refine gh_ki G (vx_runV M.1 (met_X7_sheets l D _ _ _ _ _ hw M.2.2.2.2.2) (cwV 0 (gh_Mts M) (lw_V q814 q644 q645 q71 q646) rfl rfl rfl ⟨rfl, by decide, by decide, rfl⟩ ⟨Nat.le_of_ble_eq_true rfl, Nat.le_of_ble_eq_true rfl⟩) (gh_preV (As := []) M G (gh_rec M G haa4 rfl)) rfl rfl hl.1.1 rfl (lv_room (Nat.le_of_ble_eq_true rfl)) dX1_leastByTrying_7 ⟨(Nat.le_of_ble_eq_true rfl), (Nat.le_of_ble_eq_true rfl)⟩) (gh_out M hex (by exact Nat.le_of_ble_eq_true rfl) (by exact Nat.le_of_ble_eq_true rfl)) (fun r5 h6 H locs hw G => ?_)
  refine lv_bipush (v := (6 : Int32)) hx hb dX1_leastByTrying_10 (by decide) ?_
  refine lv_icmp_gt (tgt := 19) hx hb dX1_leastByTrying_12 (by decide) (fun hc => ?_) (fun hc => ?_)
  · replace hw := hw.1 hc
    refine lv_iconst (v := (0 : Int32)) hx hb dX1_leastByTrying_19 (by decide) ?_
    exact wk_X1_leastByTrying_20 M hr hex  v0 (some a4) (0 : Int32) _ _ _ _ G (gh_sub hl [1, 0] rfl) hw
  · replace hw := hw.2 hc
    refine lv_iconst (v := (1 : Int32)) hx hb dX1_leastByTrying_15 (by decide) ?_
    refine lv_goto (tgt := 20) hx hb dX1_leastByTrying_16 (by decide) ?_
    exact wk_X1_leastByTrying_20 M hr hex  v0 (some a4) (1 : Int32) _ _ _ _ G (gh_sub hl [1, 0] rfl) hw
/-! BinderyDeskLaw.leastByTrying (LBinderyDesk;I[J)I -/
def rm_X0_leastByTrying : Room := { frames := 17, cells := 3, slots := 18, locals := 430 }
def wb_X0_leastByTrying_12 (κ : Nat → Nat)  (Q : Int32 → gh_H → Prop) (X : String → gh_H → Prop) (t0 : Option Nat) (h : gh_H) : Prop := (Q (1 : Int32) h)
def wb_X0_leastByTrying_15 (κ : Nat → Nat)  (Q : Int32 → gh_H → Prop) (X : String → gh_H → Prop) (t0 : Option Nat) (h : gh_H) : Prop := (Q (2 : Int32) h)
def wb_X0_leastByTrying_18 (κ : Nat → Nat)  (Q : Int32 → gh_H → Prop) (X : String → gh_H → Prop) (t0 : Option Nat) (h : gh_H) : Prop := (Q (3 : Int32) h)
def wp_X0_leastByTrying (κ : Nat → Nat) (v0 : Option Nat) (v1 : Int32) (v2 : Option Nat) (Q : Int32 → gh_H → Prop) (X : String → gh_H → Prop) (h : gh_H) : Prop := (gh_RC h v0 0 (fun a1 => (wp_X1_leastByTrying κ a1 v1 (fun r2 h3 => (gh_SJ h3 v2 (0 : Int32) (r2.toInt64) (fun h4 => (Q (0 : Int32) h4)))) (fun E h9 => (E = "java/lang/IndexOutOfBoundsException" ∧ ∀ q9 : Nat, wb_X0_leastByTrying_12 κ Q X (some q9) h9) ∨ (E = "java/lang/IllegalStateException" ∧ ∀ q9 : Nat, wb_X0_leastByTrying_15 κ Q X (some q9) h9) ∨ (E = "java/lang/UnsupportedOperationException" ∧ ∀ q9 : Nat, wb_X0_leastByTrying_18 κ Q X (some q9) h9)) h)))
set_option maxHeartbeats 4000000 in
theorem wk_X0_leastByTrying_12 {D : gh_D} {p : Program} {l : Launch} {e : Env} {s : State} {m : MethodId} {args : Array Value} {below : List Frame} {meth : Method} {c : Code} {h0 : gh_H} (M : gh_M D p l s m args meth c RX0 cX0_leastByTrying 4 (gh_A h0 s.heap.size)) (hr : meth.sig.returnType = (some .int)) (htab : c.exceptionTable.toList = tableOf [(0, 9, 12, 19), (0, 9, 15, 13), (0, 9, 18, 56)])   {Q : Int32 → gh_H → Prop} {X : String → gh_H → Prop}   (t0 : Option Nat) (H : Heap) (locs : List Loc) (ls : Array Slot) (h : gh_H) (G : gh_Inv D h0 (gh_A h0 s.heap.size) s.heap s H locs h) (hl : gh_L ls 4 []) (hw : wb_X0_leastByTrying_12 D.2.2 Q X t0 h) : W p l e rm_X0_leastByTrying s m args below meth c H locs 3 18 (vx_MQ below (gh_Qi Q D h0 s.heap.size) (gh_X X D h0 s.heap.size) args s 3 18 (gh_A h0 s.heap.size)) (F0 m 12 ls [va_rf t0]) := by
  unfold wb_X0_leastByTrying_12 at hw
  have hx := M.1.1
  have hb := M.1.2.1
  refine gh_astore_n (lv' := [(3, 1, va_rf t0)]) hx hb dX0_leastByTrying_12 rfl hl (by decide) rfl (fun ls hl => ?_)
  refine lv_iconst (v := (1 : Int32)) hx hb dX0_leastByTrying_13 (by decide) ?_
  exact gh_iret M G hr rfl hw (by exact Nat.le_of_ble_eq_true rfl) (by exact Nat.le_of_ble_eq_true rfl) dX0_leastByTrying_14
set_option maxHeartbeats 4000000 in
theorem wk_X0_leastByTrying_15 {D : gh_D} {p : Program} {l : Launch} {e : Env} {s : State} {m : MethodId} {args : Array Value} {below : List Frame} {meth : Method} {c : Code} {h0 : gh_H} (M : gh_M D p l s m args meth c RX0 cX0_leastByTrying 4 (gh_A h0 s.heap.size)) (hr : meth.sig.returnType = (some .int)) (htab : c.exceptionTable.toList = tableOf [(0, 9, 12, 19), (0, 9, 15, 13), (0, 9, 18, 56)])   {Q : Int32 → gh_H → Prop} {X : String → gh_H → Prop}   (t0 : Option Nat) (H : Heap) (locs : List Loc) (ls : Array Slot) (h : gh_H) (G : gh_Inv D h0 (gh_A h0 s.heap.size) s.heap s H locs h) (hl : gh_L ls 4 []) (hw : wb_X0_leastByTrying_15 D.2.2 Q X t0 h) : W p l e rm_X0_leastByTrying s m args below meth c H locs 3 18 (vx_MQ below (gh_Qi Q D h0 s.heap.size) (gh_X X D h0 s.heap.size) args s 3 18 (gh_A h0 s.heap.size)) (F0 m 15 ls [va_rf t0]) := by
  unfold wb_X0_leastByTrying_15 at hw
  have hx := M.1.1
  have hb := M.1.2.1
  refine gh_astore_n (lv' := [(3, 1, va_rf t0)]) hx hb dX0_leastByTrying_15 rfl hl (by decide) rfl (fun ls hl => ?_)
  refine lv_iconst (v := (2 : Int32)) hx hb dX0_leastByTrying_16 (by decide) ?_
  exact gh_iret M G hr rfl hw (by exact Nat.le_of_ble_eq_true rfl) (by exact Nat.le_of_ble_eq_true rfl) dX0_leastByTrying_17
set_option maxHeartbeats 4000000 in
theorem wk_X0_leastByTrying_18 {D : gh_D} {p : Program} {l : Launch} {e : Env} {s : State} {m : MethodId} {args : Array Value} {below : List Frame} {meth : Method} {c : Code} {h0 : gh_H} (M : gh_M D p l s m args meth c RX0 cX0_leastByTrying 4 (gh_A h0 s.heap.size)) (hr : meth.sig.returnType = (some .int)) (htab : c.exceptionTable.toList = tableOf [(0, 9, 12, 19), (0, 9, 15, 13), (0, 9, 18, 56)])   {Q : Int32 → gh_H → Prop} {X : String → gh_H → Prop}   (t0 : Option Nat) (H : Heap) (locs : List Loc) (ls : Array Slot) (h : gh_H) (G : gh_Inv D h0 (gh_A h0 s.heap.size) s.heap s H locs h) (hl : gh_L ls 4 []) (hw : wb_X0_leastByTrying_18 D.2.2 Q X t0 h) : W p l e rm_X0_leastByTrying s m args below meth c H locs 3 18 (vx_MQ below (gh_Qi Q D h0 s.heap.size) (gh_X X D h0 s.heap.size) args s 3 18 (gh_A h0 s.heap.size)) (F0 m 18 ls [va_rf t0]) := by
  unfold wb_X0_leastByTrying_18 at hw
  have hx := M.1.1
  have hb := M.1.2.1
  refine gh_astore_n (lv' := [(3, 1, va_rf t0)]) hx hb dX0_leastByTrying_18 rfl hl (by decide) rfl (fun ls hl => ?_)
  refine lv_iconst (v := (3 : Int32)) hx hb dX0_leastByTrying_19 (by decide) ?_
  exact gh_iret M G hr rfl hw (by exact Nat.le_of_ble_eq_true rfl) (by exact Nat.le_of_ble_eq_true rfl) dX0_leastByTrying_20
set_option maxHeartbeats 4000000 in
theorem met_X0_leastByTrying (l : Launch) (D : gh_D) (v0 : Option Nat) (v1 : Int32) (v2 : Option Nat) (Q : Int32 → gh_H → Prop) (X : String → gh_H → Prop) (h : gh_H) (sz : Nat) (hw : wp_X0_leastByTrying D.2.2 v0 v1 v2 Q X h) (hst : l.stackTraces = false) : vx_Met l yX0_leastByTrying (wsW_ yX0_leastByTrying cX0_leastByTrying 4 (some .int) [(0, 9, 12, 19), (0, 9, 15, 13), (0, 9, 18, 56)]) rm_X0_leastByTrying (gh_Pc D h sz [va_rf v0, .int v1, va_rf v2]) (gh_Qi Q D h sz) (gh_X X D h sz) 3 18 (gh_A h sz) := by
  refine vx_ofWH (by decide) rfl (fun p e s m args below meth c s₁ B hml hP => ?_)
  have htab := vx_table (x := yX0_leastByTrying) B (atoms_spec (ws := wsW_ yX0_leastByTrying cX0_leastByTrying 4 (some .int) [(0, 9, 12, 19), (0, 9, 15, 13), (0, 9, 18, 56)]) B.pre _ List.mem_cons_self)
  obtain ⟨rfl, rfl, hK, hT, hE, G⟩ := gh_start hP
  have M : gh_M D p l s m _ meth c RX0 cX0_leastByTrying 4 (gh_A h s.heap.size) := ⟨⟨B.exec, B.bytes, hml, findClass_of_methodNamed B.named, fun w hw => atoms_spec (ws := wsW_ yX0_leastByTrying cX0_leastByTrying 4 (some .int) [(0, 9, 12, 19), (0, 9, 15, 13), (0, 9, 18, 56)]) B.pre w (List.mem_cons_of_mem _ hw)⟩, hK, hT, hE, B.notSynchronized, hst⟩
  have hr := B.returns
  have hx := M.1.1
  have hb := M.1.2.1
  refine gh_enter (vs := [(1, va_rf v0), (1, .int v1), (1, va_rf v2)]) (gh_w1 (gh_cat _) (gh_w1 rfl (gh_w1 (gh_cat _) gh_wn))) (Nat.le_of_ble_eq_true rfl) (fun ls hl => ?_)
  replace hl : gh_L ls 4 [(0, 1, va_rf v0), (1, 1, .int v1), (2, 1, va_rf v2)] := hl
  unfold wp_X0_leastByTrying at hw
  refine gh_aload_n hx hb dX0_leastByTrying_0 rfl (gh_at hl 2 rfl) ?_
  refine lv_iconst (v := (0 : Int32)) hx hb dX0_leastByTrying_1 (by decide) ?_
  refine gh_aload_n hx hb dX0_leastByTrying_2 rfl (gh_at hl 0 rfl) ?_
  refine lv_iload_n hx hb dX0_leastByTrying_3 rfl (gh_at hl 1 rfl) ?_
  obtain ⟨a1, lba1, fsa1, rfl, haa1, hw⟩ := hw
  refine gh_ki G (vx_runV M.1 (met_X1_leastByTrying l D _ _ _ _ _ _ hw M.2.2.2.2.2) (cwV 1 (gh_Mts M) (lw_V q1097 q1098 q1099 q41 q1100) rfl rfl rfl ⟨rfl, by decide, by decide, rfl⟩ ⟨Nat.le_of_ble_eq_true rfl, Nat.le_of_ble_eq_true rfl⟩) (gh_preV (As := [.int v1]) M G (gh_rec M G haa1 rfl)) rfl rfl hl.1.1 rfl (lv_room (Nat.le_trans (gh_r1 rfl (gh_r1 (gh_cat _) gh_r0)) (Nat.le_of_ble_eq_true rfl : 2 ≤ 8))) dX0_leastByTrying_4 ⟨(Nat.le_of_ble_eq_true rfl), (Nat.le_of_ble_eq_true rfl)⟩) (fun E ce q9 h9 H locs hX G hce hcv hcl => ?_) (fun r2 h3 H locs hw G => ?_)
  · rcases hX with ⟨rfl, hX⟩ | ⟨rfl, hX⟩ | ⟨rfl, hX⟩
    · replace hw := hX q9
      refine vx_catch (name := "java/lang/IndexOutOfBoundsException") M.1.2.2.2.1 (tableOf []) ⟨0, 9, 12, 19⟩ (tableOf [(0, 9, 15, 13), (0, 9, 18, 56)]) (htab.trans rfl) (fun _ h => absurd h List.not_mem_nil) (by decide) (by decide) (gh_Mts M _ q439) (va_Nw.use rfl (M.2.2.1.1 _ (List.mem_of_getElem? (i := 8) rfl))) hce hcv hcl ?_
      exact wk_X0_leastByTrying_12 M hr htab  (some q9) _ _ _ _ G (gh_sub hl [] rfl) hw
    · replace hw := hX q9
      refine vx_catch (name := "java/lang/IllegalStateException") M.1.2.2.2.1 (tableOf [(0, 9, 12, 19)]) ⟨0, 9, 15, 13⟩ (tableOf [(0, 9, 18, 56)]) (htab.trans rfl) (List.forall_mem_cons.mpr ⟨Or.inr ⟨by decide, "java/lang/IndexOutOfBoundsException", gh_Mts M _ q439, M.2.2.1.2.2.1 _ (List.mem_of_getElem? (i := 6) rfl)⟩, fun _ h => absurd h List.not_mem_nil⟩) (by decide) (by decide) (gh_Mts M _ q261) (va_Nw.use rfl (M.2.2.1.1 _ (List.mem_of_getElem? (i := 4) rfl))) hce hcv hcl ?_
      exact wk_X0_leastByTrying_15 M hr htab  (some q9) _ _ _ _ G (gh_sub hl [] rfl) hw
    · replace hw := hX q9
      refine vx_catch (name := "java/lang/UnsupportedOperationException") M.1.2.2.2.1 (tableOf [(0, 9, 12, 19), (0, 9, 15, 13)]) ⟨0, 9, 18, 56⟩ (tableOf []) (htab.trans rfl) (List.forall_mem_cons.mpr ⟨Or.inr ⟨by decide, "java/lang/IndexOutOfBoundsException", gh_Mts M _ q439, M.2.2.1.2.2.1 _ (List.mem_of_getElem? (i := 21) rfl)⟩, List.forall_mem_cons.mpr ⟨Or.inr ⟨by decide, "java/lang/IllegalStateException", gh_Mts M _ q261, M.2.2.1.2.2.1 _ (List.mem_of_getElem? (i := 22) rfl)⟩, fun _ h => absurd h List.not_mem_nil⟩⟩) (by decide) (by decide) (gh_Mts M _ q843) (va_Nw.use rfl (M.2.2.1.1 _ (List.mem_of_getElem? (i := 51) rfl))) hce hcv hcl ?_
      exact wk_X0_leastByTrying_18 M hr htab  (some q9) _ _ _ _ G (gh_sub hl [] rfl) hw
  · refine lv_i2l (v := (r2.toInt64)) hx hb dX0_leastByTrying_7 rfl ?_
    refine gh_jas M G hw dX0_leastByTrying_8 (fun h4 H locs hw G => ?_)
    refine lv_goto (tgt := 21) hx hb dX0_leastByTrying_9 (by decide) ?_
    refine lv_iconst (v := (0 : Int32)) hx hb dX0_leastByTrying_21 (by decide) ?_
    exact gh_iret M G hr rfl hw (by exact Nat.le_of_ble_eq_true rfl) (by exact Nat.le_of_ble_eq_true rfl) dX0_leastByTrying_22
/-! BinderyDeskModel.leastByTrying (I)I -/
def rm_X3_leastByTrying : Room := { frames := 6, cells := 0, slots := 0, locals := 159 }
def wb_X3_leastByTrying_33 (κ : Nat → Nat)  (Q : Int32 → gh_H → Prop) (X : String → gh_H → Prop) (t0 : Int32) (h : gh_H) : Prop := (Q t0 h)
def wp_X3_leastByTrying (κ : Nat → Nat) (v0 : Nat) (v1 : Int32) (Q : Int32 → gh_H → Prop) (X : String → gh_H → Prop) (h : gh_H) : Prop := (gh_RC h (some v0) 1 (fun _ => (wp_X3_isJob κ v0 v1 (fun r2 h3 => ((r2 = 0 → (Q (0 : Int32) h3)) ∧ (¬ r2 = 0 → (gh_RC h3 (some v0) 1 (fun _ => (wp_X3_count κ v0 v1 (fun r5 h6 => ((r5 ≤ (6 : Int32) → (gh_RC h6 (some v0) 1 (fun _ => (wp_X3_least κ v0 v1 (fun r8 h9 => wb_X3_leastByTrying_33 κ Q X r8 h9) X h6)))) ∧ (¬ r5 ≤ (6 : Int32) → (gh_RC h6 (some v0) 1 (fun _ => (wp_X3_fails κ v0 (3 : Int32) (fun r11 h12 => wb_X3_leastByTrying_33 κ Q X r11 h12) X h6)))))) X h3)))))) X h)))
set_option maxHeartbeats 4000000 in
theorem wk_X3_leastByTrying_33 {D : gh_D} {p : Program} {l : Launch} {e : Env} {s : State} {m : MethodId} {args : Array Value} {below : List Frame} {meth : Method} {c : Code} {h0 : gh_H} (M : gh_M D p l s m args meth c RX3 cX3_leastByTrying 2 (gh_A h0 s.heap.size)) (hr : meth.sig.returnType = (some .int)) (hex : ∀ x ∈ c.exceptionTable.toList, False)   {Q : Int32 → gh_H → Prop} {X : String → gh_H → Prop}   (t0 : Int32) (H : Heap) (locs : List Loc) (ls : Array Slot) (h : gh_H) (G : gh_Inv D h0 (gh_A h0 s.heap.size) s.heap s H locs h) (hl : gh_L ls 2 []) (hw : wb_X3_leastByTrying_33 D.2.2 Q X t0 h) : W p l e rm_X3_leastByTrying s m args below meth c H locs 0 0 (vx_MQ below (gh_Qi Q D h0 s.heap.size) (gh_X X D h0 s.heap.size) args s 0 0 (gh_A h0 s.heap.size)) (F0 m 33 ls [.int t0]) := by
  unfold wb_X3_leastByTrying_33 at hw
  have hx := M.1.1
  have hb := M.1.2.1
  exact gh_iret M G hr rfl hw (by exact Nat.le_of_ble_eq_true rfl) (by exact Nat.le_of_ble_eq_true rfl) dX3_leastByTrying_33
set_option maxHeartbeats 4000000 in
theorem met_X3_leastByTrying (l : Launch) (D : gh_D) (v0 : Nat) (v1 : Int32) (Q : Int32 → gh_H → Prop) (X : String → gh_H → Prop) (h : gh_H) (sz : Nat) (hw : wp_X3_leastByTrying D.2.2 v0 v1 Q X h) (hst : l.stackTraces = false) : vx_Met l yX3_leastByTrying (ws_ yX3_leastByTrying cX3_leastByTrying 2 (some .int)) rm_X3_leastByTrying (gh_Pc D h sz [.ref v0, .int v1]) (gh_Qi Q D h sz) (gh_X X D h sz) 0 0 (gh_A h sz) := by
  refine vx_ofW (by decide) rfl (fun p e s m args below meth c s₁ B hml hex hP => ?_)
  obtain ⟨rfl, rfl, hK, hT, hE, G⟩ := gh_start hP
  have M : gh_M D p l s m _ meth c RX3 cX3_leastByTrying 2 (gh_A h s.heap.size) := ⟨⟨B.exec, B.bytes, hml, findClass_of_methodNamed B.named, fun w hw => atoms_spec (ws := ws_ yX3_leastByTrying cX3_leastByTrying 2 (some .int)) B.pre w (List.mem_cons_of_mem _ hw)⟩, hK, hT, hE, B.notSynchronized, hst⟩
  have hr := B.returns
  have hx := M.1.1
  have hb := M.1.2.1
  refine gh_enter (vs := [(1, .ref v0), (1, .int v1)]) (gh_w1 rfl (gh_w1 rfl gh_wn)) (Nat.le_of_ble_eq_true rfl) (fun ls hl => ?_)
  replace hl : gh_L ls 2 [(0, 1, va_rf (some v0)), (1, 1, .int v1)] := hl
  unfold wp_X3_leastByTrying at hw
  refine gh_aload_n hx hb dX3_leastByTrying_0 rfl (gh_at hl 0 rfl) ?_
  refine lv_iload_n hx hb dX3_leastByTrying_1 rfl (gh_at hl 1 rfl) ?_
  obtain ⟨a1, lba1, fsa1, hra1, haa1, hw⟩ := hw
  rw [← Option.some.inj hra1] at haa1
  refine gh_ki G (vx_runV M.1 (met_X3_isJob l D _ _ _ _ _ _ hw M.2.2.2.2.2) (cwV 1 (gh_Mts M) (lw_V q1724 q1726 qs30 q50 q1727) rfl rfl rfl ⟨rfl, by decide, by decide, rfl⟩ ⟨Nat.le_of_ble_eq_true rfl, Nat.le_of_ble_eq_true rfl⟩) (gh_preV (As := [.int v1]) M G (gh_rec M G haa1 rfl)) rfl rfl hl.1.1 rfl (lv_room (Nat.le_of_ble_eq_true rfl)) dX3_leastByTrying_2 ⟨(Nat.le_of_ble_eq_true rfl), (Nat.le_of_ble_eq_true rfl)⟩) (gh_out M hex (by exact Nat.le_of_ble_eq_true rfl) (by exact Nat.le_of_ble_eq_true rfl)) (fun r2 h3 H locs hw G => ?_)
  refine lv_if_ne (tgt := 10) hx hb dX3_leastByTrying_5 (by decide) (fun hc => ?_) (fun hc => ?_)
  · replace hw := hw.2 hc
    refine gh_aload_n hx hb dX3_leastByTrying_10 rfl (gh_at hl 0 rfl) ?_
    refine lv_iload_n hx hb dX3_leastByTrying_11 rfl (gh_at hl 1 rfl) ?_
    obtain ⟨a4, lba4, fsa4, hra4, haa4, hw⟩ := hw
    rw [← Option.some.inj hra4] at haa4
    refine gh_ki G (vx_runV M.1 (met_X3_count l D _ _ _ _ _ _ hw M.2.2.2.2.2) (cwV 1 (gh_Mts M) (lw_V q1684 q1686 qs25 q50 q1687) rfl rfl rfl ⟨rfl, by decide, by decide, rfl⟩ ⟨Nat.le_of_ble_eq_true rfl, Nat.le_of_ble_eq_true rfl⟩) (gh_preV (As := [.int v1]) M G (gh_rec M G haa4 rfl)) rfl rfl hl.1.1 rfl (lv_room (Nat.le_of_ble_eq_true rfl)) dX3_leastByTrying_12 ⟨(Nat.le_of_ble_eq_true rfl), (Nat.le_of_ble_eq_true rfl)⟩) (gh_out M hex (by exact Nat.le_of_ble_eq_true rfl) (by exact Nat.le_of_ble_eq_true rfl)) (fun r5 h6 H locs hw G => ?_)
    refine lv_bipush (v := (6 : Int32)) hx hb dX3_leastByTrying_15 (by decide) ?_
    refine lv_icmp_le (tgt := 28) hx hb dX3_leastByTrying_17 (by decide) (fun hc => ?_) (fun hc => ?_)
    · replace hw := hw.1 hc
      refine gh_aload_n hx hb dX3_leastByTrying_28 rfl (gh_at hl 0 rfl) ?_
      refine lv_iload_n hx hb dX3_leastByTrying_29 rfl (gh_at hl 1 rfl) ?_
      obtain ⟨a7, lba7, fsa7, hra7, haa7, hw⟩ := hw
      rw [← Option.some.inj hra7] at haa7
      refine gh_ki G (vx_runV M.1 (met_X3_least l D _ _ _ _ _ _ hw M.2.2.2.2.2) (cwV 1 (gh_Mts M) (lw_V q1772 q1774 qs37 q50 q1775) rfl rfl rfl ⟨rfl, by decide, by decide, rfl⟩ ⟨Nat.le_of_ble_eq_true rfl, Nat.le_of_ble_eq_true rfl⟩) (gh_preV (As := [.int v1]) M G (gh_rec M G haa7 rfl)) rfl rfl hl.1.1 rfl (lv_room (Nat.le_of_ble_eq_true rfl)) dX3_leastByTrying_30 ⟨(Nat.le_of_ble_eq_true rfl), (Nat.le_of_ble_eq_true rfl)⟩) (gh_out M hex (by exact Nat.le_of_ble_eq_true rfl) (by exact Nat.le_of_ble_eq_true rfl)) (fun r8 h9 H locs hw G => ?_)
      exact wk_X3_leastByTrying_33 M hr hex  r8 _ _ _ _ G (gh_sub hl [] rfl) hw
    · replace hw := hw.2 hc
      refine gh_aload_n hx hb dX3_leastByTrying_20 rfl (gh_at hl 0 rfl) ?_
      refine lv_iconst (v := (3 : Int32)) hx hb dX3_leastByTrying_21 (by decide) ?_
      obtain ⟨a10, lba10, fsa10, hra10, haa10, hw⟩ := hw
      rw [← Option.some.inj hra10] at haa10
      refine gh_ki G (vx_runV M.1 (met_X3_fails l D _ _ _ _ _ _ hw M.2.2.2.2.2) (cwV 1 (gh_Mts M) (lw_V q1657 q1659 qs21 q50 q1660) rfl rfl rfl ⟨rfl, by decide, by decide, rfl⟩ ⟨Nat.le_of_ble_eq_true rfl, Nat.le_of_ble_eq_true rfl⟩) (gh_preV (As := [.int (3 : Int32)]) M G (gh_rec M G haa10 rfl)) rfl rfl hl.1.1 rfl (lv_room (Nat.le_of_ble_eq_true rfl)) dX3_leastByTrying_22 ⟨(Nat.le_of_ble_eq_true rfl), (Nat.le_of_ble_eq_true rfl)⟩) (gh_out M hex (by exact Nat.le_of_ble_eq_true rfl) (by exact Nat.le_of_ble_eq_true rfl)) (fun r11 h12 H locs hw G => ?_)
      refine lv_goto (tgt := 33) hx hb dX3_leastByTrying_25 (by decide) ?_
      exact wk_X3_leastByTrying_33 M hr hex  r11 _ _ _ _ G (gh_sub hl [] rfl) hw
  · replace hw := hw.1 hc
    refine lv_iconst (v := (0 : Int32)) hx hb dX3_leastByTrying_8 (by decide) ?_
    exact gh_iret M G hr rfl hw (by exact Nat.le_of_ble_eq_true rfl) (by exact Nat.le_of_ble_eq_true rfl) dX3_leastByTrying_9
/-! BinderyDesk.stock (II)I -/
def rm_X1_stock : Room := { frames := 10, cells := 3, slots := 18, locals := 187 }
def wp_X1_stock (κ : Nat → Nat) (v0 : Nat) (v1 : Int32) (v2 : Int32) (Q : Int32 → gh_H → Prop) (X : String → gh_H → Prop) (h : gh_H) : Prop := (gh_RC h (some v0) 0 (fun _ => (wp_X1_jobWithSheet κ v0 v1 v2 (fun r2 h3 => (gh_GR h3 r2 [(7, 2)] (fun x4 => (gh_RC h3 x4 8 (fun a5 => (wp_J2_get κ a5 v2 (fun r6 h7 => (gh_CK h7 r6 [3] (gh_RC h7 r6 3 (fun a8 => (wp_X8_stock κ a8 (fun r9 h10 => (Q r9 h10)) X h7))))) X h3)))))) X h)))
set_option maxHeartbeats 4000000 in
theorem met_X1_stock (l : Launch) (D : gh_D) (v0 : Nat) (v1 : Int32) (v2 : Int32) (Q : Int32 → gh_H → Prop) (X : String → gh_H → Prop) (h : gh_H) (sz : Nat) (hw : wp_X1_stock D.2.2 v0 v1 v2 Q X h) (hst : l.stackTraces = false) : vx_Met l yX1_stock (ws_ yX1_stock cX1_stock 3 (some .int)) rm_X1_stock (gh_Pc D h sz [.ref v0, .int v1, .int v2]) (gh_Qi Q D h sz) (gh_X X D h sz) 3 18 (gh_A h sz) := by
  refine vx_ofW (by decide) rfl (fun p e s m args below meth c s₁ B hml hex hP => ?_)
  obtain ⟨rfl, rfl, hK, hT, hE, G⟩ := gh_start hP
  have M : gh_M D p l s m _ meth c RX1 cX1_stock 3 (gh_A h s.heap.size) := ⟨⟨B.exec, B.bytes, hml, findClass_of_methodNamed B.named, fun w hw => atoms_spec (ws := ws_ yX1_stock cX1_stock 3 (some .int)) B.pre w (List.mem_cons_of_mem _ hw)⟩, hK, hT, hE, B.notSynchronized, hst⟩
  have hr := B.returns
  have hx := M.1.1
  have hb := M.1.2.1
  refine gh_enter (vs := [(1, .ref v0), (1, .int v1), (1, .int v2)]) (gh_w1 rfl (gh_w1 rfl (gh_w1 rfl gh_wn))) (Nat.le_of_ble_eq_true rfl) (fun ls hl => ?_)
  replace hl : gh_L ls 3 [(0, 1, va_rf (some v0)), (1, 1, .int v1), (2, 1, .int v2)] := hl
  unfold wp_X1_stock at hw
  refine gh_aload_n hx hb dX1_stock_0 rfl (gh_at hl 0 rfl) ?_
  refine lv_iload_n hx hb dX1_stock_1 rfl (gh_at hl 1 rfl) ?_
  refine lv_iload_n hx hb dX1_stock_2 rfl (gh_at hl 2 rfl) ?_
  obtain ⟨a1, lba1, fsa1, hra1, haa1, hw⟩ := hw
  rw [← Option.some.inj hra1] at haa1
  refine gh_kq G (vx_runV M.1 (met_X1_jobWithSheet l D _ _ _ _ _ _ _ hw M.2.2.2.2.2) (cwV 2 (gh_Mts M) (lw_V q823 q825 qs7 q41 q826) rfl rfl rfl ⟨rfl, by decide, by decide, rfl⟩ ⟨Nat.le_of_ble_eq_true rfl, Nat.le_of_ble_eq_true rfl⟩) (gh_preV (As := [.int v1, .int v2]) M G (gh_rec M G haa1 rfl)) rfl rfl hl.1.1 rfl (lv_room (Nat.le_of_ble_eq_true rfl)) dX1_stock_3 ⟨(Nat.le_of_ble_eq_true rfl), (Nat.le_of_ble_eq_true rfl)⟩) (gh_out M hex (by exact Nat.le_of_ble_eq_true rfl) (by exact Nat.le_of_ble_eq_true rfl)) (fun r2 h3 H locs hw G => ?_)
  refine gh_getR M G hw fl_X1_179 dX1_stock_6 (fun x4 hw => ?_)
  refine lv_iload_n hx hb dX1_stock_9 rfl (gh_at hl 2 rfl) ?_
  obtain ⟨a5, lba5, fsa5, rfl, haa5, hw⟩ := hw
  refine gh_kFq G (vx_runF (C := "java/util/ArrayList") (M.2.1.1.1 8 _ rfl).2 M.1 (met_J2_get l D _ _ _ _ _ _ hw M.2.2.2.2.2) (va_cwF 1 (gh_Mts M) (gh_gF q499 q502 q504 q44 q506) rfl rfl rfl (M.2.2.1.2.1 _ (List.mem_of_getElem? (i := 6) rfl)) ⟨by decide, by decide, rfl⟩ ⟨Nat.le_of_ble_eq_true rfl, Nat.le_of_ble_eq_true rfl⟩) (gh_preV (As := [.int v2]) M G (gh_rec M G haa5 rfl)) rfl rfl hl.1.1 rfl (lv_room (Nat.le_of_ble_eq_true rfl)) dX1_stock_10 ⟨(Nat.le_of_ble_eq_true rfl), (Nat.le_of_ble_eq_true rfl)⟩) (gh_out M hex (by exact Nat.le_of_ble_eq_true rfl) (by exact Nat.le_of_ble_eq_true rfl)) (fun r6 h7 H locs hw G => ?_)
  refine gh_cast (cis := [3]) M G hw q853 (List.forall_mem_cons.mpr ⟨⟨_, rfl, Or.inl ⟨rfl, rfl⟩⟩, fun _ h => absurd h List.not_mem_nil⟩) dX1_stock_15 (fun hw => ?_)
  obtain ⟨a8, lba8, fsa8, rfl, haa8, hw⟩ := hw
  refine gh_ki G (vx_runU (C := "BinderyDesk$SheetPile") M.1 (met_X8_stock l D _ _ _ _ _ hw M.2.2.2.2.2) (va_cwU 0 (gh_Mts M) (gh_gU q858 q680 q682 q683 q72 q684) rfl rfl rfl rfl ⟨by decide, by decide, rfl⟩ ⟨Nat.le_of_ble_eq_true rfl, Nat.le_of_ble_eq_true rfl⟩) (gh_preV (As := []) M G (gh_rec M G haa8 rfl)) rfl rfl hl.1.1 rfl (lv_room (Nat.le_of_ble_eq_true rfl)) dX1_stock_18 ⟨(Nat.le_of_ble_eq_true rfl), (Nat.le_of_ble_eq_true rfl)⟩) (gh_out M hex (by exact Nat.le_of_ble_eq_true rfl) (by exact Nat.le_of_ble_eq_true rfl)) (fun r9 h10 H locs hw G => ?_)
  exact gh_iret M G hr rfl hw (by exact Nat.le_of_ble_eq_true rfl) (by exact Nat.le_of_ble_eq_true rfl) dX1_stock_21
