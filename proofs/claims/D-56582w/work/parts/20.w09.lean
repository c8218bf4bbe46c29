set_option maxRecDepth 100000
/-! BinderyDesk.lacks (II)I -/
def rm_X1_lacks : Room := { frames := 8, cells := 3, slots := 18, locals := 142 }
def wp_X1_lacks (κ : Nat → Nat) (v0 : Nat) (v1 : Int32) (v2 : Int32) (Q : Int32 → gh_H → Prop) (X : String → gh_H → Prop) (h : gh_H) : Prop := (gh_RC h (some v0) 0 (fun _ => (wp_X1_jobNumbered κ v0 v1 (fun r2 h3 => (wp_X1_requireCount κ v2 (fun h4 => (gh_RC h4 r2 7 (fun a5 => (wp_X7_isComplete κ a5 (fun r6 h7 => (wp_X1_requireState κ r6 (fun h8 => (gh_RC h8 (some a5) 7 (fun _ => (wp_X7_lacks κ a5 v2 (fun r10 h11 => (Q r10 h11)) X h8)))) X h7)) X h4)))) X h3)) X h)))
set_option maxHeartbeats 4000000 in
theorem met_X1_lacks (l : Launch) (D : gh_D) (v0 : Nat) (v1 : Int32) (v2 : Int32) (Q : Int32 → gh_H → Prop) (X : String → gh_H → Prop) (h : gh_H) (sz : Nat) (hw : wp_X1_lacks D.2.2 v0 v1 v2 Q X h) (hst : l.stackTraces = false) : vx_Met l yX1_lacks (ws_ yX1_lacks cX1_lacks 4 (some .int)) rm_X1_lacks (gh_Pc D h sz [.ref v0, .int v1, .int v2]) (gh_Qi Q D h sz) (gh_X X D h sz) 3 18 (gh_A h sz) := by
  refine vx_ofW (by decide) rfl (fun p e s m args below meth c s₁ B hml hex hP => ?_)
  obtain ⟨rfl, rfl, hK, hT, hE, G⟩ := gh_start hP
  have M : gh_M D p l s m _ meth c RX1 cX1_lacks 4 (gh_A h s.heap.size) := ⟨⟨B.exec, B.bytes, hml, findClass_of_methodNamed B.named, fun w hw => atoms_spec (ws := ws_ yX1_lacks cX1_lacks 4 (some .int)) B.pre w (List.mem_cons_of_mem _ hw)⟩, hK, hT, hE, B.notSynchronized, hst⟩
  have hr := B.returns
  have hx := M.1.1
  have hb := M.1.2.1
  refine gh_enter (vs := [(1, .ref v0), (1, .int v1), (1, .int v2)]) (gh_w1 rfl (gh_w1 rfl (gh_w1 rfl gh_wn))) (Nat.le_of_ble_eq_true rfl) (fun ls hl => ?_)
  replace hl : gh_L ls 4 [(0, 1, va_rf (some v0)), (1, 1, .int v1), (2, 1, .int v2)] := hl
  unfold wp_X1_lacks at hw
  refine gh_aload_n hx hb dX1_lacks_0 rfl (gh_at hl 0 rfl) ?_
  refine lv_iload_n hx hb dX1_lacks_1 rfl (gh_at hl 1 rfl) ?_
  obtain ⟨a1, lba1, fsa1, hra1, haa1, hw⟩ := hw
  rw [← Option.some.inj hra1] at haa1
  refine gh_kq G (vx_runV M.1 (met_X1_jobNumbered l D _ _ _ _ _ _ hw M.2.2.2.2.2) (cwV 1 (gh_Mts M) (lw_V q791 q793 qs5 q41 q794) rfl rfl rfl ⟨rfl, by decide, by decide, rfl⟩ ⟨Nat.le_of_ble_eq_true rfl, Nat.le_of_ble_eq_true rfl⟩) (gh_preV (As := [.int v1]) M G (gh_rec M G haa1 rfl)) rfl rfl hl.1.1 rfl (lv_room (Nat.le_of_ble_eq_true rfl)) dX1_lacks_2 ⟨(Nat.le_of_ble_eq_true rfl), (Nat.le_of_ble_eq_true rfl)⟩) (gh_out M hex (by exact Nat.le_of_ble_eq_true rfl) (by exact Nat.le_of_ble_eq_true rfl)) (fun r2 h3 H locs hw G => ?_)
  refine gh_astore_n (lv' := [(3, 1, va_rf r2), (0, 1, va_rf (some v0)), (1, 1, .int v1), (2, 1, .int v2)]) hx hb dX1_lacks_5 rfl hl (by decide) rfl (fun ls hl => ?_)
  refine lv_iload_n hx hb dX1_lacks_6 rfl (gh_at hl 3 rfl) ?_
  refine gh_kv G (vx_runS M.1 (met_X1_requireCount l D _ _ _ _ _ hw M.2.2.2.2.2) (va_cwS 1 (gh_Mts M) (lw_S q848 q849 q41 q850) rfl rfl rfl ⟨by decide, by decide, rfl⟩ ⟨Nat.le_of_ble_eq_true rfl, Nat.le_of_ble_eq_true rfl⟩) (gh_pre M G (As := [.int v2])) rfl rfl hl.1.1 rfl (lv_room (Nat.le_of_ble_eq_true rfl)) dX1_lacks_7 ⟨(Nat.le_of_ble_eq_true rfl), (Nat.le_of_ble_eq_true rfl)⟩) (gh_out M hex (by exact Nat.le_of_ble_eq_true rfl) (by exact Nat.le_of_ble_eq_true rfl)) (fun h4 H locs hw G => ?_)
  refine gh_aload_n hx hb dX1_lacks_10 rfl (gh_at hl 0 rfl) ?_
  obtain ⟨a5, lba5, fsa5, rfl, haa5, hw⟩ := hw
  refine gh_ki G (vx_runV M.1 (met_X7_isComplete l D _ _ _ _ _ hw M.2.2.2.2.2) (cwV 0 (gh_Mts M) (lw_V q813 q629 q630 q71 q631) rfl rfl rfl ⟨rfl, by decide, by decide, rfl⟩ ⟨Nat.le_of_ble_eq_true rfl, Nat.le_of_ble_eq_true rfl⟩) (gh_preV (As := []) M G (gh_rec M G haa5 rfl)) rfl rfl hl.1.1 rfl (lv_room (Nat.le_of_ble_eq_true rfl)) dX1_lacks_11 ⟨(Nat.le_of_ble_eq_true rfl), (Nat.le_of_ble_eq_true rfl)⟩) (gh_out M hex (by exact Nat.le_of_ble_eq_true rfl) (by exact Nat.le_of_ble_eq_true rfl)) (fun r6 h7 H locs hw G => ?_)
  refine gh_kv G (vx_runS M.1 (met_X1_requireState l D _ _ _ _ _ hw M.2.2.2.2.2) (va_cwS 1 (gh_Mts M) (lw_S q266 q267 q41 q268) rfl rfl rfl ⟨by decide, by decide, rfl⟩ ⟨Nat.le_of_ble_eq_true rfl, Nat.le_of_ble_eq_true rfl⟩) (gh_pre M G (As := [.int r6])) rfl rfl hl.1.1 rfl (lv_room (Nat.le_of_ble_eq_true rfl)) dX1_lacks_14 ⟨(Nat.le_of_ble_eq_true rfl), (Nat.le_of_ble_eq_true rfl)⟩) (gh_out M hex (by exact Nat.le_of_ble_eq_true rfl) (by exact Nat.le_of_ble_eq_true rfl)) (fun h8 H locs hw G => ?_)
  refine gh_aload_n hx hb dX1_lacks_17 rfl (gh_at hl 0 rfl) ?_
  refine lv_iload_n hx hb dX1_lacks_18 rfl (gh_at hl 3 rfl) ?_
  obtain ⟨a9, lba9, fsa9, hra9, haa9, hw⟩ := hw
  rw [← Option.some.inj hra9] at haa9
  refine gh_ki G (vx_runV M.1 (met_X7_lacks l D _ _ _ _ _ _ hw M.2.2.2.2.2) (cwV 1 (gh_Mts M) (lw_V q1404 q1405 q1406 q71 q1407) rfl rfl rfl ⟨rfl, by decide, by decide, rfl⟩ ⟨Nat.le_of_ble_eq_true rfl, Nat.le_of_ble_eq_true rfl⟩) (gh_preV (As := [.int v2]) M G (gh_rec M G haa9 rfl)) rfl rfl hl.1.1 rfl (lv_room (Nat.le_of_ble_eq_true rfl)) dX1_lacks_19 ⟨(Nat.le_of_ble_eq_true rfl), (Nat.le_of_ble_eq_true rfl)⟩) (gh_out M hex (by exact Nat.le_of_ble_eq_true rfl) (by exact Nat.le_of_ble_eq_true rfl)) (fun r10 h11 H locs hw G => ?_)
  exact gh_iret M G hr rfl hw (by exact Nat.le_of_ble_eq_true rfl) (by exact Nat.le_of_ble_eq_true rfl) dX1_lacks_22
/-! BinderyDeskLaw.lacks (LBinderyDesk;II[J)I -/
def rm_X0_lacks : Room := { frames := 9, cells := 3, slots := 18, locals := 165 }
def wb_X0_lacks_13 (κ : Nat → Nat)  (Q : Int32 → gh_H → Prop) (X : String → gh_H → Prop) (t0 : Option Nat) (h : gh_H) : Prop := (Q (1 : Int32) h)
def wb_X0_lacks_17 (κ : Nat → Nat)  (Q : Int32 → gh_H → Prop) (X : String → gh_H → Prop) (t0 : Option Nat) (h : gh_H) : Prop := (Q (2 : Int32) h)
def wb_X0_lacks_21 (κ : Nat → Nat)  (Q : Int32 → gh_H → Prop) (X : String → gh_H → Prop) (t0 : Option Nat) (h : gh_H) : Prop := (Q (3 : Int32) h)
def wp_X0_lacks (κ : Nat → Nat) (v0 : Option Nat) (v1 : Int32) (v2 : Int32) (v3 : Option Nat) (Q : Int32 → gh_H → Prop) (X : String → gh_H → Prop) (h : gh_H) : Prop := (gh_RC h v0 0 (fun a1 => (wp_X1_lacks κ a1 v1 v2 (fun r2 h3 => (gh_SJ h3 v3 (0 : Int32) (r2.toInt64) (fun h4 => (Q (0 : Int32) h4)))) (fun E h9 => (E = "java/lang/IndexOutOfBoundsException" ∧ ∀ q9 : Nat, wb_X0_lacks_13 κ Q X (some q9) h9) ∨ (E = "java/lang/IllegalArgumentException" ∧ ∀ q9 : Nat, wb_X0_lacks_17 κ Q X (some q9) h9) ∨ (E = "java/lang/IllegalStateException" ∧ ∀ q9 : Nat, wb_X0_lacks_21 κ Q X (some q9) h9)) h)))
set_option maxHeartbeats 4000000 in
theorem wk_X0_lacks_13 {D : gh_D} {p : Program} {l : Launch} {e : Env} {s : State} {m : MethodId} {args : Array Value} {below : List Frame} {meth : Method} {c : Code} {h0 : gh_H} (M : gh_M D p l s m args meth c RX0 cX0_lacks 5 (gh_A h0 s.heap.size)) (hr : meth.sig.returnType = (some .int)) (htab : c.exceptionTable.toList = tableOf [(0, 10, 13, 19), (0, 10, 17, 32), (0, 10, 21, 13)])   {Q : Int32 → gh_H → Prop} {X : String → gh_H → Prop}   (t0 : Option Nat) (H : Heap) (locs : List Loc) (ls : Array Slot) (h : gh_H) (G : gh_Inv D h0 (gh_A h0 s.heap.size) s.heap s H locs h) (hl : gh_L ls 5 []) (hw : wb_X0_lacks_13 D.2.2 Q X t0 h) : W p l e rm_X0_lacks s m args below meth c H locs 3 18 (vx_MQ below (gh_Qi Q D h0 s.heap.size) (gh_X X D h0 s.heap.size) args s 3 18 (gh_A h0 s.heap.size)) (F0 m 13 ls [va_rf t0]) := by
  unfold wb_X0_lacks_13 at hw
  have hx := M.1.1
  have hb := M.1.2.1
  refine gh_astore (lv' := [(4, 1, va_rf t0)]) hx hb dX0_lacks_13 hl (by decide) rfl (fun ls hl => ?_)
  refine lv_iconst (v := (1 : Int32)) hx hb dX0_lacks_15 (by decide) ?_
  exact gh_iret M G hr rfl hw (by exact Nat.le_of_ble_eq_true rfl) (by exact Nat.le_of_ble_eq_true rfl) dX0_lacks_16
set_option maxHeartbeats 4000000 in
theorem wk_X0_lacks_17 {D : gh_D} {p : Program} {l : Launch} {e : Env} {s : State} {m : MethodId} {args : Array Value} {below : List Frame} {meth : Method} {c : Code} {h0 : gh_H} (M : gh_M D p l s m args meth c RX0 cX0_lacks 5 (gh_A h0 s.heap.size)) (hr : meth.sig.returnType = (some .int)) (htab : c.exceptionTable.toList = tableOf [(0, 10, 13, 19), (0, 10, 17, 32), (0, 10, 21, 13)])   {Q : Int32 → gh_H → Prop} {X : String → gh_H → Prop}   (t0 : Option Nat) (H : Heap) (locs : List Loc) (ls : Array Slot) (h : gh_H) (G : gh_Inv D h0 (gh_A h0 s.heap.size) s.heap s H locs h) (hl : gh_L ls 5 []) (hw : wb_X0_lacks_17 D.2.2 Q X t0 h) : W p l e rm_X0_lacks s m args below meth c H locs 3 18 (vx_MQ below (gh_Qi Q D h0 s.heap.size) (gh_X X D h0 s.heap.size) args s 3 18 (gh_A h0 s.heap.size)) (F0 m 17 ls [va_rf t0]) := by
  unfold wb_X0_lacks_17 at hw
  have hx := M.1.1
  have hb := M.1.2.1
  refine gh_astore (lv' := [(4, 1, va_rf t0)]) hx hb dX0_lacks_17 hl (by decide) rfl (fun ls hl => ?_)
  refine lv_iconst (v := (2 : Int32)) hx hb dX0_lacks_19 (by decide) ?_
  exact gh_iret M G hr rfl hw (by exact Nat.le_of_ble_eq_true rfl) (by exact Nat.le_of_ble_eq_true rfl) dX0_lacks_20
set_option maxHeartbeats 4000000 in
theorem wk_X0_lacks_21 {D : gh_D} {p : Program} {l : Launch} {e : Env} {s : State} {m : MethodId} {args : Array Value} {below : List Frame} {meth : Method} {c : Code} {h0 : gh_H} (M : gh_M D p l s m args meth c RX0 cX0_lacks 5 (gh_A h0 s.heap.size)) (hr : meth.sig.returnType = (some .int)) (htab : c.exceptionTable.toList = tableOf [(0, 10, 13, 19), (0, 10, 17, 32), (0, 10, 21, 13)])   {Q : Int32 → gh_H → Prop} {X : String → gh_H → Prop}   (t0 : Option Nat) (H : Heap) (locs : List Loc) (ls : Array Slot) (h : gh_H) (G : gh_Inv D h0 (gh_A h0 s.heap.size) s.heap s H locs h) (hl : gh_L ls 5 []) (hw : wb_X0_lacks_21 D.2.2 Q X t0 h) : W p l e rm_X0_lacks s m args below meth c H locs 3 18 (vx_MQ below (gh_Qi Q D h0 s.heap.size) (gh_X X D h0 s.heap.size) args s 3 18 (gh_A h0 s.heap.size)) (F0 m 21 ls [va_rf t0]) := by
  unfold wb_X0_lacks_21 at hw
  have hx := M.1.1
  have hb := M.1.2.1
  refine gh_astore (lv' := [(4, 1, va_rf t0)]) hx hb dX0_lacks_21 hl (by decide) rfl (fun ls hl => ?_)
  refine lv_iconst (v := (3 : Int32)) hx hb dX0_lacks_23 (by decide) ?_
  exact gh_iret M G hr rfl hw (by exact Nat.le_of_ble_eq_true rfl) (by exact Nat.le_of_ble_eq_true rfl) dX0_lacks_24
set_option maxHeartbeats 4000000 in
theorem met_X0_lacks (l : Launch) (D : gh_D) (v0 : Option Nat) (v1 : Int32) (v2 : Int32) (v3 : Option Nat) (Q : Int32 → gh_H → Prop) (X : String → gh_H → Prop) (h : gh_H) (sz : Nat) (hw : wp_X0_lacks D.2.2 v0 v1 v2 v3 Q X h) (hst : l.stackTraces = false) : vx_Met l yX0_lacks (wsW_ yX0_lacks cX0_lacks 5 (some .int) [(0, 10, 13, 19), (0, 10, 17, 32), (0, 10, 21, 13)]) rm_X0_lacks (gh_Pc D h sz [va_rf v0, .int v1, .int v2, va_rf v3]) (gh_Qi Q D h sz) (gh_X X D h sz) 3 18 (gh_A h sz) := by
  refine vx_ofWH (by decide) rfl (fun p e s m args below meth c s₁ B hml hP => ?_)
  have htab := vx_table (x := yX0_lacks) B (atoms_spec (ws := wsW_ yX0_lacks cX0_lacks 5 (some .int) [(0, 10, 13, 19), (0, 10, 17, 32), (0, 10, 21, 13)]) B.pre _ List.mem_cons_self)
  obtain ⟨rfl, rfl, hK, hT, hE, G⟩ := gh_start hP
  have M : gh_M D p l s m _ meth c RX0 cX0_lacks 5 (gh_A h s.heap.size) := ⟨⟨B.exec, B.bytes, hml, findClass_of_methodNamed B.named, fun w hw => atoms_spec (ws := wsW_ yX0_lacks cX0_lacks 5 (some .int) [(0, 10, 13, 19), (0, 10, 17, 32), (0, 10, 21, 13)]) B.pre w (List.mem_cons_of_mem _ hw)⟩, hK, hT, hE, B.notSynchronized, hst⟩
  have hr := B.returns
  have hx := M.1.1
  have hb := M.1.2.1
  refine gh_enter (vs := [(1, va_rf v0), (1, .int v1), (1, .int v2), (1, va_rf v3)]) (gh_w1 (gh_cat _) (gh_w1 rfl (gh_w1 rfl (gh_w1 (gh_cat _) gh_wn)))) (Nat.le_of_ble_eq_true rfl) (fun ls hl => ?_)
  replace hl : gh_L ls 5 [(0, 1, va_rf v0), (1, 1, .int v1), (2, 1, .int v2), (3, 1, va_rf v3)] := hl
  unfold wp_X0_lacks at hw
  refine gh_aload_n hx hb dX0_lacks_0 rfl (gh_at hl 3 rfl) ?_
  refine lv_iconst (v := (0 : Int32)) hx hb dX0_lacks_1 (by decide) ?_
  refine gh_aload_n hx hb dX0_lacks_2 rfl (gh_at hl 0 rfl) ?_
  refine lv_iload_n hx hb dX0_lacks_3 rfl (gh_at hl 1 rfl) ?_
  refine lv_iload_n hx hb dX0_lacks_4 rfl (gh_at hl 2 rfl) ?_
  obtain ⟨a1, lba1, fsa1, rfl, haa1, hw⟩ := hw
  refine gh_ki G (vx_runV M.1 (met_X1_lacks l D _ _ _ _ _ _ _ hw M.2.2.2.2.2) (cwV 2 (gh_Mts M) (lw_V q1478 q1479 q1480 q41 q1481) rfl rfl rfl ⟨rfl, by decide, by decide, rfl⟩ ⟨Nat.le_of_ble_eq_true rfl, Nat.le_of_ble_eq_true rfl⟩) (gh_preV (As := [.int v1, .int v2]) M G (gh_rec M G haa1 rfl)) rfl rfl hl.1.1 rfl (lv_room (Nat.le_trans (gh_r1 rfl (gh_r1 (gh_cat _) gh_r0)) (Nat.le_of_ble_eq_true rfl : 2 ≤ 8))) dX0_lacks_5 ⟨(Nat.le_of_ble_eq_true rfl), (Nat.le_of_ble_eq_true rfl)⟩) (fun E ce q9 h9 H locs hX G hce hcv hcl => ?_) (fun r2 h3 H locs hw G => ?_)
  · rcases hX with ⟨rfl, hX⟩ | ⟨rfl, hX⟩ | ⟨rfl, hX⟩
    · replace hw := hX q9
      refine vx_catch (name := "java/lang/IndexOutOfBoundsException") M.1.2.2.2.1 (tableOf []) ⟨0, 10, 13, 19⟩ (tableOf [(0, 10, 17, 32), (0, 10, 21, 13)]) (htab.trans rfl) (fun _ h => absurd h List.not_mem_nil) (by decide) (by decide) (gh_Mts M _ q439) (va_Nw.use rfl (M.2.2.1.1 _ (List.mem_of_getElem? (i := 8) rfl))) hce hcv hcl ?_
      exact wk_X0_lacks_13 M hr htab  (some q9) _ _ _ _ G (gh_sub hl [] rfl) hw
    · replace hw := hX q9
      refine vx_catch (name := "java/lang/IllegalArgumentException") M.1.2.2.2.1 (tableOf [(0, 10, 13, 19)]) ⟨0, 10, 17, 32⟩ (tableOf [(0, 10, 21, 13)]) (htab.trans rfl) (List.forall_mem_cons.mpr ⟨Or.inr ⟨by decide, "java/lang/IndexOutOfBoundsException", gh_Mts M _ q439, M.2.2.1.2.2.1 _ (List.mem_of_getElem? (i := 16) rfl)⟩, fun _ h => absurd h List.not_mem_nil⟩) (by decide) (by decide) (gh_Mts M _ q714) (va_Nw.use rfl (M.2.2.1.1 _ (List.mem_of_getElem? (i := 49) rfl))) hce hcv hcl ?_
      exact wk_X0_lacks_17 M hr htab  (some q9) _ _ _ _ G (gh_sub hl [] rfl) hw
    · replace hw := hX q9
      refine vx_catch (name := "java/lang/IllegalStateException") M.1.2.2.2.1 (tableOf [(0, 10, 13, 19), (0, 10, 17, 32)]) ⟨0, 10, 21, 13⟩ (tableOf []) (htab.trans rfl) (List.forall_mem_cons.mpr ⟨Or.inr ⟨by decide, "java/lang/IndexOutOfBoundsException", gh_Mts M _ q439, M.2.2.1.2.2.1 _ (List.mem_of_getElem? (i := 6) rfl)⟩, List.forall_mem_cons.mpr ⟨Or.inr ⟨by decide, "java/lang/IllegalArgumentException", gh_Mts M _ q714, M.2.2.1.2.2.1 _ (List.mem_of_getElem? (i := 8) rfl)⟩, fun _ h => absurd h List.not_mem_nil⟩⟩) (by decide) (by decide) (gh_Mts M _ q261) (va_Nw.use rfl (M.2.2.1.1 _ (List.mem_of_getElem? (i := 4) rfl))) hce hcv hcl ?_
      exact wk_X0_lacks_21 M hr htab  (some q9) _ _ _ _ G (gh_sub hl [] rfl) hw
  · refine lv_i2l (v := (r2.toInt64)) hx hb dX0_lacks_8 rfl ?_
    refine gh_jas M G hw dX0_lacks_9 (fun h4 H locs hw G => ?_)
    refine lv_goto (tgt := 25) hx hb dX0_lacks_10 (by decide) ?_
    refine lv_iconst (v := (0 : Int32)) hx hb dX0_lacks_25 (by decide) ?_
    exact gh_iret M G hr rfl hw (by exact Nat.le_of_ble_eq_true rfl) (by exact Nat.le_of_ble_eq_true rfl) dX0_lacks_26
/-! BinderyDeskModel.lacks (II)I -/
def rm_X3_lacks : Room := { frames := 4, cells := 0, slots := 0, locals := 106 }
def wp_X3_lacks (κ : Nat → Nat) (v0 : Nat) (v1 : Int32) (v2 : Int32) (Q : Int32 → gh_H → Prop) (X : String → gh_H → Prop) (h : gh_H) : Prop := (gh_GI h (some v0) [(1, 2)] (fun x1 => (wp_X3_in κ v1 (0 : Int32) (x1 - (1 : Int32)) (fun r2 h3 => ((r2 = 0 → (gh_RC h3 (some v0) 1 (fun _ => (wp_X3_fails κ v0 (1 : Int32) (fun r20 h21 => (Q r20 h21)) X h3)))) ∧ (¬ r2 = 0 → (wp_X3_in κ v2 (1 : Int32) (500 : Int32) (fun r4 h5 => ((r4 = 0 → (gh_RC h5 (some v0) 1 (fun _ => (wp_X3_fails κ v0 (2 : Int32) (fun r17 h18 => (Q r17 h18)) X h5)))) ∧ (¬ r4 = 0 → (gh_RC h5 (some v0) 1 (fun _ => (wp_X3_isWhole κ v0 v1 (fun r7 h8 => ((r7 = 0 → (gh_RC h8 (some v0) 1 (fun _ => (wp_X3_fails κ v0 (3 : Int32) (fun r14 h15 => (Q r14 h15)) X h8)))) ∧ (¬ r7 = 0 → (gh_PV h8 (some v0) [(1, 0)] (.int (0 : Int32)) (fun h9 => (gh_RC h9 (some v0) 1 (fun _ => (wp_X3_missing κ v0 v1 v2 (fun r11 h12 => (Q r11 h12)) X h9)))))))) X h5)))))) X h3)))) X h)))
set_option maxHeartbeats 4000000 in
theorem met_X3_lacks (l : Launch) (D : gh_D) (v0 : Nat) (v1 : Int32) (v2 : Int32) (Q : Int32 → gh_H → Prop) (X : String → gh_H → Prop) (h : gh_H) (sz : Nat) (hw : wp_X3_lacks D.2.2 v0 v1 v2 Q X h) (hst : l.stackTraces = false) : vx_Met l yX3_lacks (ws_ yX3_lacks cX3_lacks 3 (some .int)) rm_X3_lacks (gh_Pc D h sz [.ref v0, .int v1, .int v2]) (gh_Qi Q D h sz) (gh_X X D h sz) 0 0 (gh_A h sz) := by
  refine vx_ofW (by decide) rfl (fun p e s m args below meth c s₁ B hml hex hP => ?_)
  obtain ⟨rfl, rfl, hK, hT, hE, G⟩ := gh_start hP
  have M : gh_M D p l s m _ meth c RX3 cX3_lacks 3 (gh_A h s.heap.size) := ⟨⟨B.exec, B.bytes, hml, findClass_of_methodNamed B.named, fun w hw => atoms_spec (ws := ws_ yX3_lacks cX3_lacks 3 (some .int)) B.pre w (List.mem_cons_of_mem _ hw)⟩, hK, hT, hE, B.notSynchronized, hst⟩
  have hr := B.returns
  have hx := M.1.1
  have hb := M.1.2.1
  refine gh_enter (vs := [(1, .ref v0), (1, .int v1), (1, .int v2)]) (gh_w1 rfl (gh_w1 rfl (gh_w1 rfl gh_wn))) (Nat.le_of_ble_eq_true rfl) (fun ls hl => ?_)
  replace hl : gh_L ls 3 [(0, 1, va_rf (some v0)), (1, 1, .int v1), (2, 1, .int v2)] := hl
  unfold wp_X3_lacks at hw
  refine lv_iload_n hx hb dX3_lacks_0 rfl (gh_at hl 1 rfl) ?_
  refine lv_iconst (v := (0 : Int32)) hx hb dX3_lacks_1 (by decide) ?_
  refine gh_aload_n hx hb dX3_lacks_2 rfl (gh_at hl 0 rfl) ?_
  refine gh_getI M G hw fl_X3_68 dX3_lacks_3 (fun x1 hw => ?_)
  refine lv_iconst (v := (1 : Int32)) hx hb dX3_lacks_6 (by decide) ?_
  refine lv_isub hx hb dX3_lacks_7 ?_
  refine gh_ki G (vx_runS M.1 (met_X3_in l D _ _ _ _ _ _ _ hw M.2.2.2.2.2) (va_cwS 3 (gh_Mts M) (lw_S q1669 q1670 q50 q1671) rfl rfl rfl ⟨by decide, by decide, rfl⟩ ⟨Nat.le_of_ble_eq_true rfl, Nat.le_of_ble_eq_true rfl⟩) (gh_pre M G (As := [.int v1, .int (0 : Int32), .int (x1 - (1 : Int32))])) rfl rfl hl.1.1 rfl (lv_room (Nat.le_of_ble_eq_true rfl)) dX3_lacks_8 ⟨(Nat.le_of_ble_eq_true rfl), (Nat.le_of_ble_eq_true rfl)⟩) (gh_out M hex (by exact Nat.le_of_ble_eq_true rfl) (by exact Nat.le_of_ble_eq_true rfl)) (fun r2 h3 H locs hw G => ?_)
  refine lv_if_ne (tgt := 20) hx hb dX3_lacks_11 (by decide) (fun hc => ?_) (fun hc => ?_)
  · replace hw := hw.2 hc
    refine lv_iload_n hx hb dX3_lacks_20 rfl (gh_at hl 2 rfl) ?_
    refine lv_iconst (v := (1 : Int32)) hx hb dX3_lacks_21 (by decide) ?_
    refine lv_sipush (v := (500 : Int32)) hx hb dX3_lacks_22 (by decide) ?_
    refine gh_ki G (vx_runS M.1 (met_X3_in l D _ _ _ _ _ _ _ hw M.2.2.2.2.2) (va_cwS 3 (gh_Mts M) (lw_S q1669 q1670 q50 q1671) rfl rfl rfl ⟨by decide, by decide, rfl⟩ ⟨Nat.le_of_ble_eq_true rfl, Nat.le_of_ble_eq_true rfl⟩) (gh_pre M G (As := [.int v2, .int (1 : Int32), .int (500 : Int32)])) rfl rfl hl.1.1 rfl (lv_room (Nat.le_of_ble_eq_true rfl)) dX3_lacks_25 ⟨(Nat.le_of_ble_eq_true rfl), (Nat.le_of_ble_eq_true rfl)⟩) (gh_out M hex (by exact Nat.le_of_ble_eq_true rfl) (by exact Nat.le_of_ble_eq_true rfl)) (fun r4 h5 H locs hw G => ?_)
    refine lv_if_ne (tgt := 37) hx hb dX3_lacks_28 (by decide) (fun hc => ?_) (fun hc => ?_)
    · replace hw := hw.2 hc
      refine gh_aload_n hx hb dX3_lacks_37 rfl (gh_at hl 0 rfl) ?_
      refine lv_iload_n hx hb dX3_lacks_38 rfl (gh_at hl 1 rfl) ?_
      obtain ⟨a6, lba6, fsa6, hra6, haa6, hw⟩ := hw
      rw [← Option.some.inj hra6] at haa6
      refine gh_ki G (vx_runV M.1 (met_X3_isWhole l D _ _ _ _ _ _ hw M.2.2.2.2.2) (cwV 1 (gh_Mts M) (lw_V q1676 q1678 qs23 q50 q1679) rfl rfl rfl ⟨rfl, by decide, by decide, rfl⟩ ⟨Nat.le_of_ble_eq_true rfl, Nat.le_of_ble_eq_true rfl⟩) (gh_preV (As := [.int v1]) M G (gh_rec M G haa6 rfl)) rfl rfl hl.1.1 rfl (lv_room (Nat.le_of_ble_eq_true rfl)) dX3_lacks_39 ⟨(Nat.le_of_ble_eq_true rfl), (Nat.le_of_ble_eq_true rfl)⟩) (gh_out M hex (by exact Nat.le_of_ble_eq_true rfl) (by exact Nat.le_of_ble_eq_true rfl)) (fun r7 h8 H locs hw G => ?_)
      refine lv_if_ne (tgt := 51) hx hb dX3_lacks_42 (by decide) (fun hc => ?_) (fun hc => ?_)
      · replace hw := hw.2 hc
        refine gh_aload_n hx hb dX3_lacks_51 rfl (gh_at hl 0 rfl) ?_
        refine lv_iconst (v := (0 : Int32)) hx hb dX3_lacks_52 (by decide) ?_
        refine gh_put M G hw fp_X3_53 rfl rfl dX3_lacks_53 (fun h9 H locs hw G => ?_)
        refine gh_aload_n hx hb dX3_lacks_56 rfl (gh_at hl 0 rfl) ?_
        refine lv_iload_n hx hb dX3_lacks_57 rfl (gh_at hl 1 rfl) ?_
        refine lv_iload_n hx hb dX3_lacks_58 rfl (gh_at hl 2 rfl) ?_
        obtain ⟨a10, lba10, fsa10, hra10, haa10, hw⟩ := hw
        rw [← Option.some.inj hra10] at haa10
        refine gh_ki G (vx_runV M.1 (met_X3_missing l D _ _ _ _ _ _ _ hw M.2.2.2.2.2) (cwV 2 (gh_Mts M) (lw_V q1801 q1803 qs39 q50 q1804) rfl rfl rfl ⟨rfl, by decide, by decide, rfl⟩ ⟨Nat.le_of_ble_eq_true rfl, Nat.le_of_ble_eq_true rfl⟩) (gh_preV (As := [.int v1, .int v2]) M G (gh_rec M G haa10 rfl)) rfl rfl hl.1.1 rfl (lv_room (Nat.le_of_ble_eq_true rfl)) dX3_lacks_59 ⟨(Nat.le_of_ble_eq_true rfl), (Nat.le_of_ble_eq_true rfl)⟩) (gh_out M hex (by exact Nat.le_of_ble_eq_true rfl) (by exact Nat.le_of_ble_eq_true rfl)) (fun r11 h12 H locs hw G => ?_)
        exact gh_iret M G hr rfl hw (by exact Nat.le_of_ble_eq_true rfl) (by exact Nat.le_of_ble_eq_true rfl) dX3_lacks_62
      · replace hw := hw.1 hc
        refine gh_aload_n hx hb dX3_lacks_45 rfl (gh_at hl 0 rfl) ?_
        refine lv_iconst (v := (3 : Int32)) hx hb dX3_lacks_46 (by decide) ?_
        obtain ⟨a13, lba13, fsa13, hra13, haa13, hw⟩ := hw
        rw [← Option.some.inj hra13] at haa13
        refine gh_ki G (vx_runV M.1 (met_X3_fails l D _ _ _ _ _ _ hw M.2.2.2.2.2) (cwV 1 (gh_Mts M) (lw_V q1657 q1659 qs21 q50 q1660) rfl rfl rfl ⟨rfl, by decide, by decide, rfl⟩ ⟨Nat.le_of_ble_eq_true rfl, Nat.le_of_ble_eq_true rfl⟩) (gh_preV (As := [.int (3 : Int32)]) M G (gh_rec M G haa13 rfl)) rfl rfl hl.1.1 rfl (lv_room (Nat.le_of_ble_eq_true rfl)) dX3_lacks_47 ⟨(Nat.le_of_ble_eq_true rfl), (Nat.le_of_ble_eq_true rfl)⟩) (gh_out M hex (by exact Nat.le_of_ble_eq_true rfl) (by exact Nat.le_of_ble_eq_true rfl)) (fun r14 h15 H locs hw G => ?_)
        exact gh_iret M G hr rfl hw (by exact Nat.le_of_ble_eq_true rfl) (by exact Nat.le_of_ble_eq_true rfl) dX3_lacks_50
    · replace hw := hw.1 hc
      refine gh_aload_n hx hb dX3_lacks_31 rfl (gh_at hl 0 rfl) ?_
      refine lv_iconst (v := (2 : Int32)) hx hb dX3_lacks_32 (by decide) ?_
      obtain ⟨a16, lba16, fsa16, hra16, haa16, hw⟩ := hw
      rw [← Option.some.inj hra16] at haa16
      refine gh_ki G (vx_runV M.1 (met_X3_fails l D _ _ _ _ _ _ hw M.2.2.2.2.2) (cwV 1 (gh_Mts M) (lw_V q1657 q1659 qs21 q50 q1660) rfl rfl rfl ⟨rfl, by decide, by decide, rfl⟩ ⟨Nat.le_of_ble_eq_true rfl, Nat.le_of_ble_eq_true rfl⟩) (gh_preV (As := [.int (2 : Int32)]) M G (gh_rec M G haa16 rfl)) rfl rfl hl.1.1 rfl (lv_room (Nat.le_of_ble_eq_true rfl)) dX3_lacks_33 ⟨(Nat.le_of_ble_eq_true rfl), (Nat.le_of_ble_eq_true rfl)⟩) (gh_out M hex (by exact Nat.le_of_ble_eq_true rfl) (by exact Nat.le_of_ble_eq_true rfl)) (fun r17 h18 H locs hw G => ?_)
      exact gh_iret M G hr rfl hw (by exact Nat.le_of_ble_eq_true rfl) (by exact Nat.le_of_ble_eq_true rfl) dX3_lacks_36
  · replace hw := hw.1 hc
    refine gh_aload_n hx hb dX3_lacks_14 rfl (gh_at hl 0 rfl) ?_
    refine lv_iconst (v := (1 : Int32)) hx hb dX3_lacks_15 (by decide) ?_
    obtain ⟨a19, lba19, fsa19, hra19, haa19, hw⟩ := hw
    rw [← Option.some.inj hra19] at haa19
    refine gh_ki G (vx_runV M.1 (met_X3_fails l D _ _ _ _ _ _ hw M.2.2.2.2.2) (cwV 1 (gh_Mts M) (lw_V q1657 q1659 qs21 q50 q1660) rfl rfl rfl ⟨rfl, by decide, by decide, rfl⟩ ⟨Nat.le_of_ble_eq_true rfl, Nat.le_of_ble_eq_true rfl⟩) (gh_preV (As := [.int (1 : Int32)]) M G (gh_rec M G haa19 rfl)) rfl rfl hl.1.1 rfl (lv_room (Nat.le_of_ble_eq_true rfl)) dX3_lacks_16 ⟨(Nat.le_of_ble_eq_true rfl), (Nat.le_of_ble_eq_true rfl)⟩) (gh_out M hex (by exact Nat.le_of_ble_eq_true rfl) (by exact Nat.le_of_ble_eq_true rfl)) (fun r20 h21 H locs hw G => ?_)
    exact gh_iret M G hr rfl hw (by exact Nat.le_of_ble_eq_true rfl) (by exact Nat.le_of_ble_eq_true rfl) dX3_lacks_19
/-! BinderyDesk.lots ()I -/
def rm_X1_lots : Room := { frames := 2, cells := 0, slots := 0, locals := 60 }
def wp_X1_lots (κ : Nat → Nat) (v0 : Nat) (Q : Int32 → gh_H → Prop) (X : String → gh_H → Prop) (h : gh_H) : Prop := (gh_GR h (some v0) [(0, 3)] (fun x1 => (gh_RC h x1 8 (fun a2 => (wp_J2_size κ a2 (fun r3 h4 => (Q r3 h4)) X h)))))
set_option maxHeartbeats 4000000 in
theorem met_X1_lots (l : Launch) (D : gh_D) (v0 : Nat) (Q : Int32 → gh_H → Prop) (X : String → gh_H → Prop) (h : gh_H) (sz : Nat) (hw : wp_X1_lots D.2.2 v0 Q X h) (hst : l.stackTraces = false) : vx_Met l yX1_lots (ws_ yX1_lots cX1_lots 1 (some .int)) rm_X1_lots (gh_Pc D h sz [.ref v0]) (gh_Qi Q D h sz) (gh_X X D h sz) 0 0 (gh_A h sz) := by
  refine vx_ofW (by decide) rfl (fun p e s m args below meth c s₁ B hml hex hP => ?_)
  obtain ⟨rfl, rfl, hK, hT, hE, G⟩ := gh_start hP
  have M : gh_M D p l s m _ meth c RX1 cX1_lots 1 (gh_A h s.heap.size) := ⟨⟨B.exec, B.bytes, hml, findClass_of_methodNamed B.named, fun w hw => atoms_spec (ws := ws_ yX1_lots cX1_lots 1 (some .int)) B.pre w (List.mem_cons_of_mem _ hw)⟩, hK, hT, hE, B.notSynchronized, hst⟩
  have hr := B.returns
  have hx := M.1.1
  have hb := M.1.2.1
  refine gh_enter (vs := [(1, .ref v0)]) (gh_w1 rfl gh_wn) (Nat.le_of_ble_eq_true rfl) (fun ls hl => ?_)
  replace hl : gh_L ls 1 [(0, 1, va_rf (some v0))] := hl
  unfold wp_X1_lots at hw
  refine gh_aload_n hx hb dX1_lots_0 rfl (gh_at hl 0 rfl) ?_
  refine gh_getR M G hw fl_X1_37 dX1_lots_1 (fun x1 hw => ?_)
  obtain ⟨a2, lba2, fsa2, rfl, haa2, hw⟩ := hw
  refine gh_kFi G (vx_runF (C := "java/util/ArrayList") (M.2.1.1.1 8 _ rfl).2 M.1 (met_J2_size l D _ _ _ _ _ hw M.2.2.2.2.2) (va_cwF 0 (gh_Mts M) (gh_gF q239 q243 q245 q44 q247) rfl rfl rfl (M.2.2.1.2.1 _ (List.mem_of_getElem? (i := 4) rfl)) ⟨by decide, by decide, rfl⟩ ⟨Nat.le_of_ble_eq_true rfl, Nat.le_of_ble_eq_true rfl⟩) (gh_preV (As := []) M G (gh_rec M G haa2 rfl)) rfl rfl hl.1.1 rfl (lv_room (Nat.le_of_ble_eq_true rfl)) dX1_lots_4 ⟨(Nat.le_of_ble_eq_true rfl), (Nat.le_of_ble_eq_true rfl)⟩) (gh_out M hex (by exact Nat.le_of_ble_eq_true rfl) (by exact Nat.le_of_ble_eq_true rfl)) (fun r3 h4 H locs hw G => ?_)
  exact gh_iret M G hr rfl hw (by exact Nat.le_of_ble_eq_true rfl) (by exact Nat.le_of_ble_eq_true rfl) dX1_lots_9
/-! BinderyDeskModel.lots ()I -/
def rm_X3_lots : Room := { frames := 1, cells := 0, slots := 0, locals := 40 }
def wp_X3_lots (κ : Nat → Nat) (v0 : Nat) (Q : Int32 → gh_H → Prop) (X : String → gh_H → Prop) (h : gh_H) : Prop := (gh_PV h (some v0) [(1, 0)] (.int (0 : Int32)) (fun h1 => (gh_GI h1 (some v0) [(1, 3)] (fun x2 => (Q x2 h1)))))
set_option maxHeartbeats 4000000 in
theorem met_X3_lots (l : Launch) (D : gh_D) (v0 : Nat) (Q : Int32 → gh_H → Prop) (X : String → gh_H → Prop) (h : gh_H) (sz : Nat) (hw : wp_X3_lots D.2.2 v0 Q X h) (hst : l.stackTraces = false) : vx_Met l yX3_lots (ws_ yX3_lots cX3_lots 1 (some .int)) rm_X3_lots (gh_Pc D h sz [.ref v0]) (gh_Qi Q D h sz) (gh_X X D h sz) 0 0 (gh_A h sz) := by
  refine vx_ofW (by decide) rfl (fun p e s m args below meth c s₁ B hml hex hP => ?_)
  obtain ⟨rfl, rfl, hK, hT, hE, G⟩ := gh_start hP
  have M : gh_M D p l s m _ meth c RX3 cX3_lots 1 (gh_A h s.heap.size) := ⟨⟨B.exec, B.bytes, hml, findClass_of_methodNamed B.named, fun w hw => atoms_spec (ws := ws_ yX3_lots cX3_lots 1 (some .int)) B.pre w (List.mem_cons_of_mem _ hw)⟩, hK, hT, hE, B.notSynchronized, hst⟩
  have hr := B.returns
  have hx := M.1.1
  have hb := M.1.2.1
  refine gh_enter (vs := [(1, .ref v0)]) (gh_w1 rfl gh_wn) (Nat.le_of_ble_eq_true rfl) (fun ls hl => ?_)
  replace hl : gh_L ls 1 [(0, 1, va_rf (some v0))] := hl
  unfold wp_X3_lots at hw
  refine gh_aload_n hx hb dX3_lots_0 rfl (gh_at hl 0 rfl) ?_
  refine lv_iconst (v := (0 : Int32)) hx hb dX3_lots_1 (by decide) ?_
  refine gh_put M G hw fp_X3_53 rfl rfl dX3_lots_2 (fun h1 H locs hw G => ?_)
  refine gh_aload_n hx hb dX3_lots_5 rfl (gh_at hl 0 rfl) ?_
  refine gh_getI M G hw fl_X3_156 dX3_lots_6 (fun x2 hw => ?_)
  exact gh_iret M G hr rfl hw (by exact Nat.le_of_ble_eq_true rfl) (by exact Nat.le_of_ble_eq_true rfl) dX3_lots_9
/-! BinderyDesk.lotNumbered (I)LBinderyDesk$Lot; -/
def rm_X1_lotNumbered : Room := { frames := 7, cells := 1, slots := 6, locals := 121 }
def wp_X1_lotNumbered (κ : Nat → Nat) (v0 : Nat) (v1 : Int32) (Q : Option Nat → gh_H → Prop) (X : String → gh_H → Prop) (h : gh_H) : Prop := (gh_GR h (some v0) [(0, 3)] (fun x1 => (gh_RC h x1 8 (fun a2 => (wp_J2_size κ a2 (fun r3 h4 => (wp_X1_requireIndex κ v1 r3 (fun h5 => (gh_GR h5 (some v0) [(0, 3)] (fun x6 => (gh_RC h5 x6 8 (fun a7 => (wp_J2_get κ a7 v1 (fun r8 h9 => (gh_CK h9 r8 [6] (Q r8 h9))) X h5)))))) X h4)) X h)))))
set_option maxHeartbeats 4000000 in
theorem met_X1_lotNumbered (l : Launch) (D : gh_D) (v0 : Nat) (v1 : Int32) (Q : Option Nat → gh_H → Prop) (X : String → gh_H → Prop) (h : gh_H) (sz : Nat) (hw : wp_X1_lotNumbered D.2.2 v0 v1 Q X h) (hst : l.stackTraces = false) : vx_Met l yX1_lotNumbered (ws_ yX1_lotNumbered cX1_lotNumbered 2 (some (.object "BinderyDesk$Lot"))) rm_X1_lotNumbered (gh_Pc D h sz [.ref v0, .int v1]) (gh_Qq Q D h sz) (gh_X X D h sz) 1 6 (gh_A h sz) := by
  refine vx_ofW (by decide) rfl (fun p e s m args below meth c s₁ B hml hex hP => ?_)
  obtain ⟨rfl, rfl, hK, hT, hE, G⟩ := gh_start hP
  have M : gh_M D p l s m _ meth c RX1 cX1_lotNumbered 2 (gh_A h s.heap.size) := ⟨⟨B.exec, B.bytes, hml, findClass_of_methodNamed B.named, fun w hw => atoms_spec (ws := ws_ yX1_lotNumbered cX1_lotNumbered 2 (some (.object "BinderyDesk$Lot"))) B.pre w (List.mem_cons_of_mem _ hw)⟩, hK, hT, hE, B.notSynchronized, hst⟩
  have hr := B.returns
  have hx := M.1.1
  have hb := M.1.2.1
  refine gh_enter (vs := [(1, .ref v0), (1, .int v1)]) (gh_w1 rfl (gh_w1 rfl gh_wn)) (Nat.le_of_ble_eq_true rfl) (fun ls hl => ?_)
  replace hl : gh_L ls 2 [(0, 1, va_rf (some v0)), (1, 1, .int v1)] := hl
  unfold wp_X1_lotNumbered at hw
  refine lv_iload_n hx hb dX1_lotNumbered_0 rfl (gh_at hl 1 rfl) ?_
  refine gh_aload_n hx hb dX1_lotNumbered_1 rfl (gh_at hl 0 rfl) ?_
  refine gh_getR M G hw fl_X1_37 dX1_lotNumbered_2 (fun x1 hw => ?_)
  obtain ⟨a2, lba2, fsa2, rfl, haa2, hw⟩ := hw
  refine gh_kFi G (vx_runF (C := "java/util/ArrayList") (M.2.1.1.1 8 _ rfl).2 M.1 (met_J2_size l D _ _ _ _ _ hw M.2.2.2.2.2) (va_cwF 0 (gh_Mts M) (gh_gF q239 q243 q245 q44 q247) rfl rfl rfl (M.2.2.1.2.1 _ (List.mem_of_getElem? (i := 4) rfl)) ⟨by decide, by decide, rfl⟩ ⟨Nat.le_of_ble_eq_true rfl, Nat.le_of_ble_eq_true rfl⟩) (gh_preV (As := []) M G (gh_rec M G haa2 rfl)) rfl rfl hl.1.1 rfl (lv_room (Nat.le_of_ble_eq_true rfl)) dX1_lotNumbered_5 ⟨(Nat.le_of_ble_eq_true rfl), (Nat.le_of_ble_eq_true rfl)⟩) (gh_out M hex (by exact Nat.le_of_ble_eq_true rfl) (by exact Nat.le_of_ble_eq_true rfl)) (fun r3 h4 H locs hw G => ?_)
  refine gh_kv G (vx_runS M.1 (met_X1_requireIndex l D _ _ _ _ _ _ hw M.2.2.2.2.2) (va_cwS 2 (gh_Mts M) (lw_S q480 q481 q41 q482) rfl rfl rfl ⟨by decide, by decide, rfl⟩ ⟨Nat.le_of_ble_eq_true rfl, Nat.le_of_ble_eq_true rfl⟩) (gh_pre M G (As := [.int v1, .int r3])) rfl rfl hl.1.1 rfl (lv_room (Nat.le_of_ble_eq_true rfl)) dX1_lotNumbered_10 ⟨(Nat.le_of_ble_eq_true rfl), (Nat.le_of_ble_eq_true rfl)⟩) (gh_out M hex (by exact Nat.le_of_ble_eq_true rfl) (by exact Nat.le_of_ble_eq_true rfl)) (fun h5 H locs hw G => ?_)
  refine gh_aload_n hx hb dX1_lotNumbered_13 rfl (gh_at hl 0 rfl) ?_
  refine gh_getR M G hw fl_X1_37 dX1_lotNumbered_14 (fun x6 hw => ?_)
  refine lv_iload_n hx hb dX1_lotNumbered_17 rfl (gh_at hl 1 rfl) ?_
  obtain ⟨a7, lba7, fsa7, rfl, haa7, hw⟩ := hw
  refine gh_kFq G (vx_runF (C := "java/util/ArrayList") (M.2.1.1.1 8 _ rfl).2 M.1 (met_J2_get l D _ _ _ _ _ _ hw M.2.2.2.2.2) (va_cwF 1 (gh_Mts M) (gh_gF q499 q502 q504 q44 q506) rfl rfl rfl (M.2.2.1.2.1 _ (List.mem_of_getElem? (i := 6) rfl)) ⟨by decide, by decide, rfl⟩ ⟨Nat.le_of_ble_eq_true rfl, Nat.le_of_ble_eq_true rfl⟩) (gh_preV (As := [.int v1]) M G (gh_rec M G haa7 rfl)) rfl rfl hl.1.1 rfl (lv_room (Nat.le_of_ble_eq_true rfl)) dX1_lotNumbered_18 ⟨(Nat.le_of_ble_eq_true rfl), (Nat.le_of_ble_eq_true rfl)⟩) (gh_out M hex (by exact Nat.le_of_ble_eq_true rfl) (by exact Nat.le_of_ble_eq_true rfl)) (fun r8 h9 H locs hw G => ?_)
  refine gh_cast (cis := [6]) M G hw q1411 (List.forall_mem_cons.mpr ⟨⟨_, rfl, Or.inl ⟨rfl, rfl⟩⟩, fun _ h => absurd h List.not_mem_nil⟩) dX1_lotNumbered_23 (fun hw => ?_)
  exact gh_aret M G hr (Or.inl ⟨_, rfl⟩) hw (by exact Nat.le_of_ble_eq_true rfl) (by exact Nat.le_of_ble_eq_true rfl) dX1_lotNumbered_26
/-! BinderyDesk.copies (I)I -/
theorem fl_X1_254 : gh_FL RX1 254 [(6, 0)] := by
  intro args s hts tb q hq
  simp only [List.mem_cons, List.not_mem_nil, or_false] at hq
  subst hq
  exact ⟨_, "BinderyDesk$Lot", rfl, by decide, Or.inr ⟨"BinderyDesk", va_Nw.use rfl (tb.1 _ (List.mem_of_getElem? (i := 125) rfl))⟩, (fun x h => h)⟩
def rm_X1_copies : Room := { frames := 8, cells := 1, slots := 6, locals := 142 }
def wp_X1_copies (κ : Nat → Nat) (v0 : Nat) (v1 : Int32) (Q : Int32 → gh_H → Prop) (X : String → gh_H → Prop) (h : gh_H) : Prop := (gh_RC h (some v0) 0 (fun _ => (wp_X1_lotNumbered κ v0 v1 (fun r2 h3 => (gh_GI h3 r2 [(6, 0)] (fun x4 => (Q x4 h3)))) X h)))
set_option maxHeartbeats 4000000 in
theorem met_X1_copies (l : Launch) (D : gh_D) (v0 : Nat) (v1 : Int32) (Q : Int32 → gh_H → Prop) (X : String → gh_H → Prop) (h : gh_H) (sz : Nat) (hw : wp_X1_copies D.2.2 v0 v1 Q X h) (hst : l.stackTraces = false) : vx_Met l yX1_copies (ws_ yX1_copies cX1_copies 2 (some .int)) rm_X1_copies (gh_Pc D h sz [.ref v0, .int v1]) (gh_Qi Q D h sz) (gh_X X D h sz) 1 6 (gh_A h sz) := by
  refine vx_ofW (by decide) rfl (fun p e s m args below meth c s₁ B hml hex hP => ?_)
  obtain ⟨rfl, rfl, hK, hT, hE, G⟩ := gh_start hP
  have M : gh_M D p l s m _ meth c RX1 cX1_copies 2 (gh_A h s.heap.size) := ⟨⟨B.exec, B.bytes, hml, findClass_of_methodNamed B.named, fun w hw => atoms_spec (ws := ws_ yX1_copies cX1_copies 2 (some .int)) B.pre w (List.mem_cons_of_mem _ hw)⟩, hK, hT, hE, B.notSynchronized, hst⟩
  have hr := B.returns
  have hx := M.1.1
  have hb := M.1.2.1
  refine gh_enter (vs := [(1, .ref v0), (1, .int v1)]) (gh_w1 rfl (gh_w1 rfl gh_wn)) (Nat.le_of_ble_eq_true rfl) (fun ls hl => ?_)
  replace hl : gh_L ls 2 [(0, 1, va_rf (some v0)), (1, 1, .int v1)] := hl
  unfold wp_X1_copies at hw
  refine gh_aload_n hx hb dX1_copies_0 rfl (gh_at hl 0 rfl) ?_
  refine lv_iload_n hx hb dX1_copies_1 rfl (gh_at hl 1 rfl) ?_
  obtain ⟨a1, lba1, fsa1, hra1, haa1, hw⟩ := hw
  rw [← Option.some.inj hra1] at haa1
  refine gh_kq G (vx_runV M.1 (met_X1_lotNumbered l D _ _ _ _ _ _ hw M.2.2.2.2.2) (cwV 1 (gh_Mts M) (lw_V q1489 q1491 qs19 q41 q1492) rfl rfl rfl ⟨rfl, by decide, by decide, rfl⟩ ⟨Nat.le_of_ble_eq_true rfl, Nat.le_of_ble_eq_true rfl⟩) (gh_preV (As := [.int v1]) M G (gh_rec M G haa1 rfl)) rfl rfl hl.1.1 rfl (lv_room (Nat.le_of_ble_eq_true rfl)) dX1_copies_2 ⟨(Nat.le_of_ble_eq_true rfl), (Nat.le_of_ble_eq_true rfl)⟩) (gh_out M hex (by exact Nat.le_of_ble_eq_true rfl) (by exact Nat.le_of_ble_eq_true rfl)) (fun r2 h3 H locs hw G => ?_)
  refine gh_getI M G hw fl_X1_254 dX1_copies_5 (fun x4 hw => ?_)
  exact gh_iret M G hr rfl hw (by exact Nat.le_of_ble_eq_true rfl) (by exact Nat.le_of_ble_eq_true rfl) dX1_copies_8
/-! BinderyDeskLaw.copies (LBinderyDesk;I[J)I -/
def rm_X0_copies : Room := { frames := 9, cells := 1, slots := 6, locals := 163 }
def wb_X0_copies_12 (κ : Nat → Nat)  (Q : Int32 → gh_H → Prop) (X : String → gh_H → Prop) (t0 : Option Nat) (h : gh_H) : Prop := (Q (1 : Int32) h)
def wp_X0_copies (κ : Nat → Nat) (v0 : Option Nat) (v1 : Int32) (v2 : Option Nat) (Q : Int32 → gh_H → Prop) (X : String → gh_H → Prop) (h : gh_H) : Prop := (gh_RC h v0 0 (fun a1 => (wp_X1_copies κ a1 v1 (fun r2 h3 => (gh_SJ h3 v2 (0 : Int32) (r2.toInt64) (fun h4 => (Q (0 : Int32) h4)))) (fun E h9 => (E = "java/lang/IndexOutOfBoundsException" ∧ ∀ q9 : Nat, wb_X0_copies_12 κ Q X (some q9) h9)) h)))
set_option maxHeartbeats 4000000 in
theorem wk_X0_copies_12 {D : gh_D} {p : Program} {l : Launch} {e : Env} {s : State} {m : MethodId} {args : Array Value} {below : List Frame} {meth : Method} {c : Code} {h0 : gh_H} (M : gh_M D p l s m args meth c RX0 cX0_copies 4 (gh_A h0 s.heap.size)) (hr : meth.sig.returnType = (some .int)) (htab : c.exceptionTable.toList = tableOf [(0, 9, 12, 19)])   {Q : Int32 → gh_H → Prop} {X : String → gh_H → Prop}   (t0 : Option Nat) (H : Heap) (locs : List Loc) (ls : Array Slot) (h : gh_H) (G : gh_Inv D h0 (gh_A h0 s.heap.size) s.heap s H locs h) (hl : gh_L ls 4 []) (hw : wb_X0_copies_12 D.2.2 Q X t0 h) : W p l e rm_X0_copies s m args below meth c H locs 1 6 (vx_MQ below (gh_Qi Q D h0 s.heap.size) (gh_X X D h0 s.heap.size) args s 1 6 (gh_A h0 s.heap.size)) (F0 m 12 ls [va_rf t0]) := by
  unfold wb_X0_copies_12 at hw
  have hx := M.1.1
  have hb := M.1.2.1
  refine gh_astore_n (lv' := [(3, 1, va_rf t0)]) hx hb dX0_copies_12 rfl hl (by decide) rfl (fun ls hl => ?_)
  refine lv_iconst (v := (1 : Int32)) hx hb dX0_copies_13 (by decide) ?_
  exact gh_iret M G hr rfl hw (by exact Nat.le_of_ble_eq_true rfl) (by exact Nat.le_of_ble_eq_true rfl) dX0_copies_14
set_option maxHeartbeats 4000000 in
theorem met_X0_copies (l : Launch) (D : gh_D) (v0 : Option Nat) (v1 : Int32) (v2 : Option Nat) (Q : Int32 → gh_H → Prop) (X : String → gh_H → Prop) (h : gh_H) (sz : Nat) (hw : wp_X0_copies D.2.2 v0 v1 v2 Q X h) (hst : l.stackTraces = false) : vx_Met l yX0_copies (wsW_ yX0_copies cX0_copies 4 (some .int) [(0, 9, 12, 19)]) rm_X0_copies (gh_Pc D h sz [va_rf v0, .int v1, va_rf v2]) (gh_Qi Q D h sz) (gh_X X D h sz) 1 6 (gh_A h sz) := by
  refine vx_ofWH (by decide) rfl (fun p e s m args below meth c s₁ B hml hP => ?_)
  have htab := vx_table (x := yX0_copies) B (atoms_spec (ws := wsW_ yX0_copies cX0_copies 4 (some .int) [(0, 9, 12, 19)]) B.pre _ List.mem_cons_self)
  obtain ⟨rfl, rfl, hK, hT, hE, G⟩ := gh_start hP
  have M : gh_M D p l s m _ meth c RX0 cX0_copies 4 (gh_A h s.heap.size) := ⟨⟨B.exec, B.bytes, hml, findClass_of_methodNamed B.named, fun w hw => atoms_spec (ws := wsW_ yX0_copies cX0_copies 4 (some .int) [(0, 9, 12, 19)]) B.pre w (List.mem_cons_of_mem _ hw)⟩, hK, hT, hE, B.notSynchronized, hst⟩
  have hr := B.returns
  have hx := M.1.1
  have hb := M.1.2.1
  refine gh_enter (vs := [(1, va_rf v0), (1, .int v1), (1, va_rf v2)]) (gh_w1 (gh_cat _) (gh_w1 rfl (gh_w1 (gh_cat _) gh_wn))) (Nat.le_of_ble_eq_true rfl) (fun ls hl => ?_)
  replace hl : gh_L ls 4 [(0, 1, va_rf v0), (1, 1, .int v1), (2, 1, va_rf v2)] := hl
  unfold wp_X0_copies at hw
  refine gh_aload_n hx hb dX0_copies_0 rfl (gh_at hl 2 rfl) ?_
  refine lv_iconst (v := (0 : Int32)) hx hb dX0_copies_1 (by decide) ?_
  refine gh_aload_n hx hb dX0_copies_2 rfl (gh_at hl 0 rfl) ?_
  refine lv_iload_n hx hb dX0_copies_3 rfl (gh_at hl 1 rfl) ?_
  obtain ⟨a1, lba1, fsa1, rfl, haa1, hw⟩ := hw
  refine gh_ki G (vx_runV M.1 (met_X1_copies l D _ _ _ _ _ _ hw M.2.2.2.2.2) (cwV 1 (gh_Mts M) (lw_V q1485 q1486 q1487 q41 q1488) rfl rfl rfl ⟨rfl, by decide, by decide, rfl⟩ ⟨Nat.le_of_ble_eq_true rfl, Nat.le_of_ble_eq_true rfl⟩) (gh_preV (As := [.int v1]) M G (gh_rec M G haa1 rfl)) rfl rfl hl.1.1 rfl (lv_room (Nat.le_trans (gh_r1 rfl (gh_r1 (gh_cat _) gh_r0)) (Nat.le_of_ble_eq_true rfl : 2 ≤ 8))) dX0_copies_4 ⟨(Nat.le_of_ble_eq_true rfl), (Nat.le_of_ble_eq_true rfl)⟩) (fun E ce q9 h9 H locs hX G hce hcv hcl => ?_) (fun r2 h3 H locs hw G => ?_)
  · obtain ⟨rfl, hX⟩ := hX
    · replace hw := hX q9
      refine vx_catch (name := "java/lang/IndexOutOfBoundsException") M.1.2.2.2.1 (tableOf []) ⟨0, 9, 12, 19⟩ (tableOf []) (htab.trans rfl) (fun _ h => absurd h List.not_mem_nil) (by decide) (by decide) (gh_Mts M _ q439) (va_Nw.use rfl (M.2.2.1.1 _ (List.mem_of_getElem? (i := 8) rfl))) hce hcv hcl ?_
      exact wk_X0_copies_12 M hr htab  (some q9) _ _ _ _ G (gh_sub hl [] rfl) hw
  · refine lv_i2l (v := (r2.toInt64)) hx hb dX0_copies_7 rfl ?_
    refine gh_jas M G hw dX0_copies_8 (fun h4 H locs hw G => ?_)
    refine lv_goto (tgt := 15) hx hb dX0_copies_9 (by decide) ?_
    refine lv_iconst (v := (0 : Int32)) hx hb dX0_copies_15 (by decide) ?_
    exact gh_iret M G hr rfl hw (by exact Nat.le_of_ble_eq_true rfl) (by exact Nat.le_of_ble_eq_true rfl) dX0_copies_16
/-! BinderyDeskModel.copies (I)I -/
def rm_X3_copies : Room := { frames := 2, cells := 0, slots := 0, locals := 62 }
def wp_X3_copies (κ : Nat → Nat) (v0 : Nat) (v1 : Int32) (Q : Int32 → gh_H → Prop) (X : String → gh_H → Prop) (h : gh_H) : Prop := (gh_GI h (some v0) [(1, 3)] (fun x1 => (wp_X3_in κ v1 (0 : Int32) (x1 - (1 : Int32)) (fun r2 h3 => ((r2 = 0 → (gh_RC h3 (some v0) 1 (fun _ => (wp_X3_fails κ v0 (1 : Int32) (fun r8 h9 => (Q r8 h9)) X h3)))) ∧ (¬ r2 = 0 → (gh_PV h3 (some v0) [(1, 0)] (.int (0 : Int32)) (fun h4 => (gh_GR h4 (some v0) [(1, 23)] (fun x5 => (gh_LI h4 x5 v1 (fun x6 => (Q x6 h4)))))))))) X h)))
set_option maxHeartbeats 4000000 in
theorem met_X3_copies (l : Launch) (D : gh_D) (v0 : Nat) (v1 : Int32) (Q : Int32 → gh_H → Prop) (X : String → gh_H → Prop) (h : gh_H) (sz : Nat) (hw : wp_X3_copies D.2.2 v0 v1 Q X h) (hst : l.stackTraces = false) : vx_Met l yX3_copies (ws_ yX3_copies cX3_copies 2 (some .int)) rm_X3_copies (gh_Pc D h sz [.ref v0, .int v1]) (gh_Qi Q D h sz) (gh_X X D h sz) 0 0 (gh_A h sz) := by
  refine vx_ofW (by decide) rfl (fun p e s m args below meth c s₁ B hml hex hP => ?_)
  obtain ⟨rfl, rfl, hK, hT, hE, G⟩ := gh_start hP
  have M : gh_M D p l s m _ meth c RX3 cX3_copies 2 (gh_A h s.heap.size) := ⟨⟨B.exec, B.bytes, hml, findClass_of_methodNamed B.named, fun w hw => atoms_spec (ws := ws_ yX3_copies cX3_copies 2 (some .int)) B.pre w (List.mem_cons_of_mem _ hw)⟩, hK, hT, hE, B.notSynchronized, hst⟩
  have hr := B.returns
  have hx := M.1.1
  have hb := M.1.2.1
  refine gh_enter (vs := [(1, .ref v0), (1, .int v1)]) (gh_w1 rfl (gh_w1 rfl gh_wn)) (Nat.le_of_ble_eq_true rfl) (fun ls hl => ?_)
  replace hl : gh_L ls 2 [(0, 1, va_rf (some v0)), (1, 1, .int v1)] := hl
  unfold wp_X3_copies at hw
  refine lv_iload_n hx hb dX3_copies_0 rfl (gh_at hl 1 rfl) ?_
  refine lv_iconst (v := (0 : Int32)) hx hb dX3_copies_1 (by decide) ?_
  refine gh_aload_n hx hb dX3_copies_2 rfl (gh_at hl 0 rfl) ?_
  refine gh_getI M G hw fl_X3_156 dX3_copies_3 (fun x1 hw => ?_)
  refine lv_iconst (v := (1 : Int32)) hx hb dX3_copies_6 (by decide) ?_
  refine lv_isub hx hb dX3_copies_7 ?_
  refine gh_ki G (vx_runS M.1 (met_X3_in l D _ _ _ _ _ _ _ hw M.2.2.2.2.2) (va_cwS 3 (gh_Mts M) (lw_S q1669 q1670 q50 q1671) rfl rfl rfl ⟨by decide, by decide, rfl⟩ ⟨Nat.le_of_ble_eq_true rfl, Nat.le_of_ble_eq_true rfl⟩) (gh_pre M G (As := [.int v1, .int (0 : Int32), .int (x1 - (1 : Int32))])) rfl rfl hl.1.1 rfl (lv_room (Nat.le_of_ble_eq_true rfl)) dX3_copies_8 ⟨(Nat.le_of_ble_eq_true rfl), (Nat.le_of_ble_eq_true rfl)⟩) (gh_out M hex (by exact Nat.le_of_ble_eq_true rfl) (by exact Nat.le_of_ble_eq_true rfl)) (fun r2 h3 H locs hw G => ?_)
  refine lv_if_ne (tgt := 20) hx hb dX3_copies_11 (by decide) (fun hc => ?_) (fun hc => ?_)
  · replace hw := hw.2 hc
    refine gh_aload_n hx hb dX3_copies_20 rfl (gh_at hl 0 rfl) ?_
    refine lv_iconst (v := (0 : Int32)) hx hb dX3_copies_21 (by decide) ?_
    refine gh_put M G hw fp_X3_53 rfl rfl dX3_copies_22 (fun h4 H locs hw G => ?_)
    refine gh_aload_n hx hb dX3_copies_25 rfl (gh_at hl 0 rfl) ?_
    refine gh_getR M G hw fl_X3_44 dX3_copies_26 (fun x5 hw => ?_)
    refine lv_iload_n hx hb dX3_copies_29 rfl (gh_at hl 1 rfl) ?_
    refine gh_ial M G hw dX3_copies_30 (fun x6 hw => ?_)
    exact gh_iret M G hr rfl hw (by exact Nat.le_of_ble_eq_true rfl) (by exact Nat.le_of_ble_eq_true rfl) dX3_copies_31
  · replace hw := hw.1 hc
    refine gh_aload_n hx hb dX3_copies_14 rfl (gh_at hl 0 rfl) ?_
    refine lv_iconst (v := (1 : Int32)) hx hb dX3_copies_15 (by decide) ?_
    obtain ⟨a7, lba7, fsa7, hra7, haa7, hw⟩ := hw
    rw [← Option.some.inj hra7] at haa7
    refine gh_ki G (vx_runV M.1 (met_X3_fails l D _ _ _ _ _ _ hw M.2.2.2.2.2) (cwV 1 (gh_Mts M) (lw_V q1657 q1659 qs21 q50 q1660) rfl rfl rfl ⟨rfl, by decide, by decide, rfl⟩ ⟨Nat.le_of_ble_eq_true rfl, Nat.le_of_ble_eq_true rfl⟩) (gh_preV (As := [.int (1 : Int32)]) M G (gh_rec M G haa7 rfl)) rfl rfl hl.1.1 rfl (lv_room (Nat.le_of_ble_eq_true rfl)) dX3_copies_16 ⟨(Nat.le_of_ble_eq_true rfl), (Nat.le_of_ble_eq_true rfl)⟩) (gh_out M hex (by exact Nat.le_of_ble_eq_true rfl) (by exact Nat.le_of_ble_eq_true rfl)) (fun r8 h9 H locs hw G => ?_)
    exact gh_iret M G hr rfl hw (by exact Nat.le_of_ble_eq_true rfl) (by exact Nat.le_of_ble_eq_true rfl) dX3_copies_19
/-! BinderyDesk.lotWithPage (II)LBinderyDesk$Lot; -/
theorem fl_X1_251 : gh_FL RX1 251 [(6, 2)] := by
  intro args s hts tb q hq
  simp only [List.mem_cons, List.not_mem_nil, or_false] at hq
  subst hq
  exact ⟨_, "BinderyDesk$Lot", rfl, by decide, Or.inr ⟨"BinderyDesk", va_Nw.use rfl (tb.1 _ (List.mem_of_getElem? (i := 127) rfl))⟩, (fun x h => h)⟩
def rm_X1_lotWithPage : Room := { frames := 8, cells := 2, slots := 12, locals := 142 }
def wb_X1_lotWithPage_25 (κ : Nat → Nat)  (Q : Option Nat → gh_H → Prop) (X : String → gh_H → Prop) (v3 : Option Nat) (t0 : Int32) (h : gh_H) : Prop := (wp_X1_requireElement κ t0 (fun h1 => (Q v3 h1)) X h)
def wb_X1_lotWithPage_24 (κ : Nat → Nat)  (Q : Option Nat → gh_H → Prop) (X : String → gh_H → Prop) (v3 : Option Nat) (h : gh_H) : Prop := wb_X1_lotWithPage_25 κ Q X v3 (0 : Int32) h
def wp_X1_lotWithPage (κ : Nat → Nat) (v0 : Nat) (v1 : Int32) (v2 : Int32) (Q : Option Nat → gh_H → Prop) (X : String → gh_H → Prop) (h : gh_H) : Prop := (gh_RC h (some v0) 0 (fun _ => (wp_X1_lotNumbered κ v0 v1 (fun r2 h3 => ((v2 < (1 : Int32) → wb_X1_lotWithPage_24 κ Q X r2 h3) ∧ (¬ v2 < (1 : Int32) → (gh_GR h3 r2 [(6, 2)] (fun x4 => (gh_LN h3 x4 (fun x5 => ((x5 < v2 → wb_X1_lotWithPage_24 κ Q X r2 h3) ∧ (¬ x5 < v2 → wb_X1_lotWithPage_25 κ Q X r2 (1 : Int32) h3))))))))) X h)))
set_option maxHeartbeats 4000000 in
theorem wk_X1_lotWithPage_25 {D : gh_D} {p : Program} {l : Launch} {e : Env} {s : State} {m : MethodId} {args : Array Value} {below : List Frame} {meth : Method} {c : Code} {h0 : gh_H} (M : gh_M D p l s m args meth c RX1 cX1_lotWithPage 4 (gh_A h0 s.heap.size)) (hr : meth.sig.returnType = (some (.object "BinderyDesk$Lot"))) (hex : ∀ x ∈ c.exceptionTable.toList, False)   {Q : Option Nat → gh_H → Prop} {X : String → gh_H → Prop}   (v3 : Option Nat) (t0 : Int32) (H : Heap) (locs : List Loc) (ls : Array Slot) (h : gh_H) (G : gh_Inv D h0 (gh_A h0 s.heap.size) s.heap s H locs h) (hl : gh_L ls 4 [(3, 1, va_rf v3)]) (hw : wb_X1_lotWithPage_25 D.2.2 Q X v3 t0 h) : W p l e rm_X1_lotWithPage s m args below meth c H locs 1 6 (vx_MQ below (gh_Qq Q D h0 s.heap.size) (gh_X X D h0 s.heap.size) args s 2 12 (gh_A h0 s.heap.size)) (F0 m 25 ls [.int t0]) := by
  unfold wb_X1_lotWithPage_25 at hw
  have hx := M.1.1
  have hb := M.1.2.1
  refine gh_kv G (vx_runS M.1 (met_X1_requireElement l D _ _ _ _ _ hw M.2.2.2.2.2) (va_cwS 1 (gh_Mts M) (lw_S q827 q828 q41 q829) rfl rfl rfl ⟨by decide, by decide, rfl⟩ ⟨Nat.le_of_ble_eq_true rfl, Nat.le_of_ble_eq_true rfl⟩) (gh_pre M G (As := [.int t0])) rfl rfl hl.1.1 rfl (lv_room (Nat.le_of_ble_eq_true rfl)) dX1_lotWithPage_25 ⟨(Nat.le_of_ble_eq_true rfl), (Nat.le_of_ble_eq_true rfl)⟩) (gh_out M hex (by exact Nat.le_of_ble_eq_true rfl) (by exact Nat.le_of_ble_eq_true rfl)) (fun h1 H locs hw G => ?_)
  refine gh_aload_n hx hb dX1_lotWithPage_28 rfl (gh_at hl 0 rfl) ?_
  exact gh_aret M G hr (Or.inl ⟨_, rfl⟩) hw (by exact Nat.le_of_ble_eq_true rfl) (by exact Nat.le_of_ble_eq_true rfl) dX1_lotWithPage_29
set_option maxHeartbeats 4000000 in
theorem wk_X1_lotWithPage_24 {D : gh_D} {p : Program} {l : Launch} {e : Env} {s : State} {m : MethodId} {args : Array Value} {below : List Frame} {meth : Method} {c : Code} {h0 : gh_H} (M : gh_M D p l s m args meth c RX1 cX1_lotWithPage 4 (gh_A h0 s.heap.size)) (hr : meth.sig.returnType = (some (.object "BinderyDesk$Lot"))) (hex : ∀ x ∈ c.exceptionTable.toList, False)   {Q : Option Nat → gh_H → Prop} {X : String → gh_H → Prop}   (v3 : Option Nat) (H : Heap) (locs : List Loc) (ls : Array Slot) (h : gh_H) (G : gh_Inv D h0 (gh_A h0 s.heap.size) s.heap s H locs h) (hl : gh_L ls 4 [(3, 1, va_rf v3)]) (hw : wb_X1_lotWithPage_24 D.2.2 Q X v3 h) : W p l e rm_X1_lotWithPage s m args below meth c H locs 1 6 (vx_MQ below (gh_Qq Q D h0 s.heap.size) (gh_X X D h0 s.heap.size) args s 2 12 (gh_A h0 s.heap.size)) (F0 m 24 ls []) := by
  unfold wb_X1_lotWithPage_24 at hw
  have hx := M.1.1
  have hb := M.1.2.1
  refine lv_iconst (v := (0 : Int32)) hx hb dX1_lotWithPage_24 (by decide) ?_
  exact wk_X1_lotWithPage_25 M hr hex  v3 (0 : Int32) _ _ _ _ G (gh_sub hl [0] rfl) hw
set_option maxHeartbeats 4000000 in
theorem met_X1_lotWithPage (l : Launch) (D : gh_D) (v0 : Nat) (v1 : Int32) (v2 : Int32) (Q : Option Nat → gh_H → Prop) (X : String → gh_H → Prop) (h : gh_H) (sz : Nat) (hw : wp_X1_lotWithPage D.2.2 v0 v1 v2 Q X h) (hst : l.stackTraces = false) : vx_Met l yX1_lotWithPage (ws_ yX1_lotWithPage cX1_lotWithPage 4 (some (.object "BinderyDesk$Lot"))) rm_X1_lotWithPage (gh_Pc D h sz [.ref v0, .int v1, .int v2]) (gh_Qq Q D h sz) (gh_X X D h sz) 2 12 (gh_A h sz) := by
  refine vx_ofW (by decide) rfl (fun p e s m args below meth c s₁ B hml hex hP => ?_)
  obtain ⟨rfl, rfl, hK, hT, hE, G⟩ := gh_start hP
  have M : gh_M D p l s m _ meth c RX1 cX1_lotWithPage 4 (gh_A h s.heap.size) := ⟨⟨B.exec, B.bytes, hml, findClass_of_methodNamed B.named, fun w hw => atoms_spec (ws := ws_ yX1_lotWithPage cX1_lotWithPage 4 (some (.object "BinderyDesk$Lot"))) B.pre w (List.mem_cons_of_mem _ hw)⟩, hK, hT, hE, B.notSynchronized, hst⟩
  have hr := B.returns
  have hx := M.1.1
  have hb := M.1.2.1
  refine gh_enter (vs := [(1, .ref v0), (1, .int v1), (1, .int v2)]) (gh_w1 rfl (gh_w1 rfl (gh_w1 rfl gh_wn))) (Nat.le_of_ble_eq_true rfl) (fun ls hl => ?_)
  replace hl : gh_L ls 4 [(0, 1, va_rf (some v0)), (1, 1, .int v1), (2, 1, .int v2)] := hl
  unfold wp_X1_lotWithPage at hw
  refine gh_aload_n hx hb dX1_lotWithPage_0 rfl (gh_at hl 0 rfl) ?_
  refine lv_iload_n hx hb dX1_lotWithPage_1 rfl (gh_at hl 1 rfl) ?_
  obtain ⟨a1, lba1, fsa1, hra1, haa1, hw⟩ := hw
  rw [← Option.some.inj hra1] at haa1
  refine gh_kq G (vx_runV M.1 (met_X1_lotNumbered l D _ _ _ _ _ _ hw M.2.2.2.2.2) (cwV 1 (gh_Mts M) (lw_V q1489 q1491 qs19 q41 q1492) rfl rfl rfl ⟨rfl, by decide, by decide, rfl⟩ ⟨Nat.le_of_ble_eq_true rfl, Nat.le_of_ble_eq_true rfl⟩) (gh_preV (As := [.int v1]) M G (gh_rec M G haa1 rfl)) rfl rfl hl.1.1 rfl (lv_room (Nat.le_of_ble_eq_true rfl)) dX1_lotWithPage_2 ⟨(Nat.le_of_ble_eq_true rfl), (Nat.le_of_ble_eq_true rfl)⟩) (gh_out M hex (by exact Nat.le_of_ble_eq_true rfl) (by exact Nat.le_of_ble_eq_true rfl)) (fun r2 h3 H locs hw G => ?_)
  refine gh_astore_n (lv' := [(3, 1, va_rf r2), (0, 1, va_rf (some v0)), (1, 1, .int v1), (2, 1, .int v2)]) hx hb dX1_lotWithPage_5 rfl hl (by decide) rfl (fun ls hl => ?_)
  refine lv_iload_n hx hb dX1_lotWithPage_6 rfl (gh_at hl 3 rfl) ?_
  refine lv_iconst (v := (1 : Int32)) hx hb dX1_lotWithPage_7 (by decide) ?_
  refine lv_icmp_lt (tgt := 24) hx hb dX1_lotWithPage_8 (by decide) (fun hc => ?_) (fun hc => ?_)
  · replace hw := hw.1 hc
    exact wk_X1_lotWithPage_24 M hr hex  r2 _ _ _ _ G (gh_sub hl [0] rfl) hw
  · replace hw := hw.2 hc
    refine lv_iload_n hx hb dX1_lotWithPage_11 rfl (gh_at hl 3 rfl) ?_
    refine gh_aload_n hx hb dX1_lotWithPage_12 rfl (gh_at hl 0 rfl) ?_
    refine gh_getR M G hw fl_X1_251 dX1_lotWithPage_13 (fun x4 hw => ?_)
    refine gh_len M G hw dX1_lotWithPage_16 (fun x5 hw => ?_)
    refine lv_icmp_gt (tgt := 24) hx hb dX1_lotWithPage_17 (by decide) (fun hc => ?_) (fun hc => ?_)
    · replace hw := hw.1 hc
      exact wk_X1_lotWithPage_24 M hr hex  r2 _ _ _ _ G (gh_sub hl [0] rfl) hw
    · replace hw := hw.2 hc
      refine lv_iconst (v := (1 : Int32)) hx hb dX1_lotWithPage_20 (by decide) ?_
      refine lv_goto (tgt := 25) hx hb dX1_lotWithPage_21 (by decide) ?_
      exact wk_X1_lotWithPage_25 M hr hex  r2 (1 : Int32) _ _ _ _ G (gh_sub hl [0] rfl) hw
/-! BinderyDesk.stateIn (II)I -/
def rm_X1_stateIn : Room := { frames := 9, cells := 2, slots := 12, locals := 165 }
def wp_X1_stateIn (κ : Nat → Nat) (v0 : Nat) (v1 : Int32) (v2 : Int32) (Q : Int32 → gh_H → Prop) (X : String → gh_H → Prop) (h : gh_H) : Prop := (gh_RC h (some v0) 0 (fun _ => (wp_X1_lotWithPage κ v0 v1 v2 (fun r2 h3 => (gh_GR h3 r2 [(6, 2)] (fun x4 => (gh_LI h3 x4 (v2 - (1 : Int32)) (fun x5 => (Q x5 h3)))))) X h)))
set_option maxHeartbeats 4000000 in
theorem met_X1_stateIn (l : Launch) (D : gh_D) (v0 : Nat) (v1 : Int32) (v2 : Int32) (Q : Int32 → gh_H → Prop) (X : String → gh_H → Prop) (h : gh_H) (sz : Nat) (hw : wp_X1_stateIn D.2.2 v0 v1 v2 Q X h) (hst : l.stackTraces = false) : vx_Met l yX1_stateIn (ws_ yX1_stateIn cX1_stateIn 3 (some .int)) rm_X1_stateIn (gh_Pc D h sz [.ref v0, .int v1, .int v2]) (gh_Qi Q D h sz) (gh_X X D h sz) 2 12 (gh_A h sz) := by
  refine vx_ofW (by decide) rfl (fun p e s m args below meth c s₁ B hml hex hP => ?_)
  obtain ⟨rfl, rfl, hK, hT, hE, G⟩ := gh_start hP
  have M : gh_M D p l s m _ meth c RX1 cX1_stateIn 3 (gh_A h s.heap.size) := ⟨⟨B.exec, B.bytes, hml, findClass_of_methodNamed B.named, fun w hw => atoms_spec (ws := ws_ yX1_stateIn cX1_stateIn 3 (some .int)) B.pre w (List.mem_cons_of_mem _ hw)⟩, hK, hT, hE, B.notSynchronized, hst⟩
  have hr := B.returns
  have hx := M.1.1
  have hb := M.1.2.1
  refine gh_enter (vs := [(1, .ref v0), (1, .int v1), (1, .int v2)]) (gh_w1 rfl (gh_w1 rfl (gh_w1 rfl gh_wn))) (Nat.le_of_ble_eq_true rfl) (fun ls hl => ?_)
  replace hl : gh_L ls 3 [(0, 1, va_rf (some v0)), (1, 1, .int v1), (2, 1, .int v2)] := hl
  unfold wp_X1_stateIn at hw
  refine gh_aload_n hx hb dX1_stateIn_0 rfl (gh_at hl 0 rfl) ?_
  refine lv_iload_n hx hb dX1_stateIn_1 rfl (gh_at hl 1 rfl) ?_
  refine lv_iload_n hx hb dX1_stateIn_2 rfl (gh_at hl 2 rfl) ?_
  obtain ⟨a1, lba1, fsa1, hra1, haa1, hw⟩ := hw
  rw [← Option.some.inj hra1] at haa1
  refine gh_kq G (vx_runV M.1 (met_X1_lotWithPage l D _ _ _ _ _ _ _ hw M.2.2.2.2.2) (cwV 2 (gh_Mts M) (lw_V q1500 q1502 qs20 q41 q1503) rfl rfl rfl ⟨rfl, by decide, by decide, rfl⟩ ⟨Nat.le_of_ble_eq_true rfl, Nat.le_of_ble_eq_true rfl⟩) (gh_preV (As := [.int v1, .int v2]) M G (gh_rec M G haa1 rfl)) rfl rfl hl.1.1 rfl (lv_room (Nat.le_of_ble_eq_true rfl)) dX1_stateIn_3 ⟨(Nat.le_of_ble_eq_true rfl), (Nat.le_of_ble_eq_true rfl)⟩) (gh_out M hex (by exact Nat.le_of_ble_eq_true rfl) (by exact Nat.le_of_ble_eq_true rfl)) (fun r2 h3 H locs hw G => ?_)
  refine gh_getR M G hw fl_X1_251 dX1_stateIn_6 (fun x4 hw => ?_)
  refine lv_iload_n hx hb dX1_stateIn_9 rfl (gh_at hl 2 rfl) ?_
  refine lv_iconst (v := (1 : Int32)) hx hb dX1_stateIn_10 (by decide) ?_
  refine lv_isub hx hb dX1_stateIn_11 ?_
  refine gh_ial M G hw dX1_stateIn_12 (fun x5 hw => ?_)
  exact gh_iret M G hr rfl hw (by exact Nat.le_of_ble_eq_true rfl) (by exact Nat.le_of_ble_eq_true rfl) dX1_stateIn_13
/-! BinderyDeskLaw.stateIn (LBinderyDesk;II[J)I -/
def rm_X0_stateIn : Room := { frames := 10, cells := 2, slots := 12, locals := 187 }
def wb_X0_stateIn_13 (κ : Nat → Nat)  (Q : Int32 → gh_H → Prop) (X : String → gh_H → Prop) (t0 : Option Nat) (h : gh_H) : Prop := (Q (1 : Int32) h)
def wb_X0_stateIn_17 (κ : Nat → Nat)  (Q : Int32 → gh_H → Prop) (X : String → gh_H → Prop) (t0 : Option Nat) (h : gh_H) : Prop := (Q (2 : Int32) h)
def wp_X0_stateIn (κ : Nat → Nat) (v0 : Option Nat) (v1 : Int32) (v2 : Int32) (v3 : Option Nat) (Q : Int32 → gh_H → Prop) (X : String → gh_H → Prop) (h : gh_H) : Prop := (gh_RC h v0 0 (fun a1 => (wp_X1_stateIn κ a1 v1 v2 (fun r2 h3 => (gh_SJ h3 v3 (0 : Int32) (r2.toInt64) (fun h4 => (Q (0 : Int32) h4)))) (fun E h9 => (E = "java/lang/IndexOutOfBoundsException" ∧ ∀ q9 : Nat, wb_X0_stateIn_13 κ Q X (some q9) h9) ∨ (E = "java/util/NoSuchElementException" ∧ ∀ q9 : Nat, wb_X0_stateIn_17 κ Q X (some q9) h9)) h)))
set_option maxHeartbeats 4000000 in
theorem wk_X0_stateIn_13 {D : gh_D} {p : Program} {l : Launch} {e : Env} {s : State} {m : MethodId} {args : Array Value} {below : List Frame} {meth : Method} {c : Code} {h0 : gh_H} (M : gh_M D p l s m args meth c RX0 cX0_stateIn 5 (gh_A h0 s.heap.size)) (hr : meth.sig.returnType = (some .int)) (htab : c.exceptionTable.toList = tableOf [(0, 10, 13, 19), (0, 10, 17, 48)])   {Q : Int32 → gh_H → Prop} {X : String → gh_H → Prop}   (t0 : Option Nat) (H : Heap) (locs : List Loc) (ls : Array Slot) (h : gh_H) (G : gh_Inv D h0 (gh_A h0 s.heap.size) s.heap s H locs h) (hl : gh_L ls 5 []) (hw : wb_X0_stateIn_13 D.2.2 Q X t0 h) : W p l e rm_X0_stateIn s m args below meth c H locs 2 12 (vx_MQ below (gh_Qi Q D h0 s.heap.size) (gh_X X D h0 s.heap.size) args s 2 12 (gh_A h0 s.heap.size)) (F0 m 13 ls [va_rf t0]) := by
  unfold wb_X0_stateIn_13 at hw
  have hx := M.1.1
  have hb := M.1.2.1
  refine gh_astore (lv' := [(4, 1, va_rf t0)]) hx hb dX0_stateIn_13 hl (by decide) rfl (fun ls hl => ?_)
  refine lv_iconst (v := (1 : Int32)) hx hb dX0_stateIn_15 (by decide) ?_
  exact gh_iret M G hr rfl hw (by exact Nat.le_of_ble_eq_true rfl) (by exact Nat.le_of_ble_eq_true rfl) dX0_stateIn_16
set_option maxHeartbeats 4000000 in
theorem wk_X0_stateIn_17 {D : gh_D} {p : Program} {l : Launch} {e : Env} {s : State} {m : MethodId} {args : Array Value} {below : List Frame} {meth : Method} {c : Code} {h0 : gh_H} (M : gh_M D p l s m args meth c RX0 cX0_stateIn 5 (gh_A h0 s.heap.size)) (hr : meth.sig.returnType = (some .int)) (htab : c.exceptionTable.toList = tableOf [(0, 10, 13, 19), (0, 10, 17, 48)])   {Q : Int32 → gh_H → Prop} {X : String → gh_H → Prop}   (t0 : Option Nat) (H : Heap) (locs : List Loc) (ls : Array Slot) (h : gh_H) (G : gh_Inv D h0 (gh_A h0 s.heap.size) s.heap s H locs h) (hl : gh_L ls 5 []) (hw : wb_X0_stateIn_17 D.2.2 Q X t0 h) : W p l e rm_X0_stateIn s m args below meth c H locs 2 12 (vx_MQ below (gh_Qi Q D h0 s.heap.size) (gh_X X D h0 s.heap.size) args s 2 12 (gh_A h0 s.heap.size)) (F0 m 17 ls [va_rf t0]) := by
  unfold wb_X0_stateIn_17 at hw
  have hx := M.1.1
  have hb := M.1.2.1
  refine gh_astore (lv' := [(4, 1, va_rf t0)]) hx hb dX0_stateIn_17 hl (by decide) rfl (fun ls hl => ?_)
  refine lv_iconst (v := (2 : Int32)) hx hb dX0_stateIn_19 (by decide) ?_
  exact gh_iret M G hr rfl hw (by exact Nat.le_of_ble_eq_true rfl) (by exact Nat.le_of_ble_eq_true rfl) dX0_stateIn_20
set_option maxHeartbeats 4000000 in
theorem met_X0_stateIn (l : Launch) (D : gh_D) (v0 : Option Nat) (v1 : Int32) (v2 : Int32) (v3 : Option Nat) (Q : Int32 → gh_H → Prop) (X : String → gh_H → Prop) (h : gh_H) (sz : Nat) (hw : wp_X0_stateIn D.2.2 v0 v1 v2 v3 Q X h) (hst : l.stackTraces = false) : vx_Met l yX0_stateIn (wsW_ yX0_stateIn cX0_stateIn 5 (some .int) [(0, 10, 13, 19), (0, 10, 17, 48)]) rm_X0_stateIn (gh_Pc D h sz [va_rf v0, .int v1, .int v2, va_rf v3]) (gh_Qi Q D h sz) (gh_X X D h sz) 2 12 (gh_A h sz) := by
  refine vx_ofWH (by decide) rfl (fun p e s m args below meth c s₁ B hml hP => ?_)
  have htab := vx_table (x := yX0_stateIn) B (atoms_spec (ws := wsW_ yX0_stateIn cX0_stateIn 5 (some .int) [(0, 10, 13, 19), (0, 10, 17, 48)]) B.pre _ List.mem_cons_self)
  obtain ⟨rfl, rfl, hK, hT, hE, G⟩ := gh_start hP
  have M : gh_M D p l s m _ meth c RX0 cX0_stateIn 5 (gh_A h s.heap.size) := ⟨⟨B.exec, B.bytes, hml, findClass_of_methodNamed B.named, fun w hw => atoms_spec (ws := wsW_ yX0_stateIn cX0_stateIn 5 (some .int) [(0, 10, 13, 19), (0, 10, 17, 48)]) B.pre w (List.mem_cons_of_mem _ hw)⟩, hK, hT, hE, B.notSynchronized, hst⟩
  have hr := B.returns
  have hx := M.1.1
  have hb := M.1.2.1
  refine gh_enter (vs := [(1, va_rf v0), (1, .int v1), (1, .int v2), (1, va_rf v3)]) (gh_w1 (gh_cat _) (gh_w1 rfl (gh_w1 rfl (gh_w1 (gh_cat _) gh_wn)))) (Nat.le_of_ble_eq_true rfl) (fun ls hl => ?_)
  replace hl : gh_L ls 5 [(0, 1, va_rf v0), (1, 1, .int v1), (2, 1, .int v2), (3, 1, va_rf v3)] := hl
  unfold wp_X0_stateIn at hw
  refine gh_aload_n hx hb dX0_stateIn_0 rfl (gh_at hl 3 rfl) ?_
  refine lv_iconst (v := (0 : Int32)) hx hb dX0_stateIn_1 (by decide) ?_
  refine gh_aload_n hx hb dX0_stateIn_2 rfl (gh_at hl 0 rfl) ?_
  refine lv_iload_n hx hb dX0_stateIn_3 rfl (gh_at hl 1 rfl) ?_
  refine lv_iload_n hx hb dX0_stateIn_4 rfl (gh_at hl 2 rfl) ?_
  obtain ⟨a1, lba1, fsa1, rfl, haa1, hw⟩ := hw
  refine gh_ki G (vx_runV M.1 (met_X1_stateIn l D _ _ _ _ _ _ _ hw M.2.2.2.2.2) (cwV 2 (gh_Mts M) (lw_V q1496 q1497 q1498 q41 q1499) rfl rfl rfl ⟨rfl, by decide, by decide, rfl⟩ ⟨Nat.le_of_ble_eq_true rfl, Nat.le_of_ble_eq_true rfl⟩) (gh_preV (As := [.int v1, .int v2]) M G (gh_rec M G haa1 rfl)) rfl rfl hl.1.1 rfl (lv_room (Nat.le_trans (gh_r1 rfl (gh_r1 (gh_cat _) gh_r0)) (Nat.le_of_ble_eq_true rfl : 2 ≤ 8))) dX0_stateIn_5 ⟨(Nat.le_of_ble_eq_true rfl), (Nat.le_of_ble_eq_true rfl)⟩) (fun E ce q9 h9 H locs hX G hce hcv hcl => ?_) (fun r2 h3 H locs hw G => ?_)
  · rcases hX with ⟨rfl, hX⟩ | ⟨rfl, hX⟩
    · replace hw := hX q9
      refine vx_catch (name := "java/lang/IndexOutOfBoundsException") M.1.2.2.2.1 (tableOf []) ⟨0, 10, 13, 19⟩ (tableOf [(0, 10, 17, 48)]) (htab.trans rfl) (fun _ h => absurd h List.not_mem_nil) (by decide) (by decide) (gh_Mts M _ q439) (va_Nw.use rfl (M.2.2.1.1 _ (List.mem_of_getElem? (i := 8) rfl))) hce hcv hcl ?_
      exact wk_X0_stateIn_13 M hr htab  (some q9) _ _ _ _ G (gh_sub hl [] rfl) hw
    · replace hw := hX q9
      refine vx_catch (name := "java/util/NoSuchElementException") M.1.2.2.2.1 (tableOf [(0, 10, 13, 19)]) ⟨0, 10, 17, 48⟩ (tableOf []) (htab.trans rfl) (List.forall_mem_cons.mpr ⟨Or.inr ⟨by decide, "java/lang/IndexOutOfBoundsException", gh_Mts M _ q439, M.2.2.1.2.2.1 _ (List.mem_of_getElem? (i := 11) rfl)⟩, fun _ h => absurd h List.not_mem_nil⟩) (by decide) (by decide) (gh_Mts M _ q818) (va_Nw.use rfl (M.2.2.1.1 _ (List.mem_of_getElem? (i := 46) rfl))) hce hcv hcl ?_
      exact wk_X0_stateIn_17 M hr htab  (some q9) _ _ _ _ G (gh_sub hl [] rfl) hw
  · refine lv_i2l (v := (r2.toInt64)) hx hb dX0_stateIn_8 rfl ?_
    refine gh_jas M G hw dX0_stateIn_9 (fun h4 H locs hw G => ?_)
    refine lv_goto (tgt := 21) hx hb dX0_stateIn_10 (by decide) ?_
    refine lv_iconst (v := (0 : Int32)) hx hb dX0_stateIn_21 (by decide) ?_
    exact gh_iret M G hr rfl hw (by exact Nat.le_of_ble_eq_true rfl) (by exact Nat.le_of_ble_eq_true rfl) dX0_stateIn_22
/-! BinderyDeskModel.stateIn (II)I -/
def rm_X3_stateIn : Room := { frames := 2, cells := 0, slots := 0, locals := 62 }
def wp_X3_stateIn (κ : Nat → Nat) (v0 : Nat) (v1 : Int32) (v2 : Int32) (Q : Int32 → gh_H → Prop) (X : String → gh_H → Prop) (h : gh_H) : Prop := (gh_GI h (some v0) [(1, 3)] (fun x1 => (wp_X3_in κ v1 (0 : Int32) (x1 - (1 : Int32)) (fun r2 h3 => ((r2 = 0 → (gh_RC h3 (some v0) 1 (fun _ => (wp_X3_fails κ v0 (1 : Int32) (fun r15 h16 => (Q r15 h16)) X h3)))) ∧ (¬ r2 = 0 → (gh_GR h3 (some v0) [(1, 24)] (fun x4 => (gh_LI h3 x4 v1 (fun x5 => (wp_X3_in κ v2 (1 : Int32) x5 (fun r6 h7 => ((r6 = 0 → (gh_RC h7 (some v0) 1 (fun _ => (wp_X3_fails κ v0 (2 : Int32) (fun r12 h13 => (Q r12 h13)) X h7)))) ∧ (¬ r6 = 0 → (gh_PV h7 (some v0) [(1, 0)] (.int (0 : Int32)) (fun h8 => (gh_GR h8 (some v0) [(1, 25)] (fun x9 => (gh_LI h8 x9 ((((16 : Int32) * v1) + v2) - (1 : Int32)) (fun x10 => (Q x10 h8)))))))))) X h3)))))))) X h)))
set_option maxHeartbeats 4000000 in
theorem met_X3_stateIn (l : Launch) (D : gh_D) (v0 : Nat) (v1 : Int32) (v2 : Int32) (Q : Int32 → gh_H → Prop) (X : String → gh_H → Prop) (h : gh_H) (sz : Nat) (hw : wp_X3_stateIn D.2.2 v0 v1 v2 Q X h) (hst : l.stackTraces = false) : vx_Met l yX3_stateIn (ws_ yX3_stateIn cX3_stateIn 3 (some .int)) rm_X3_stateIn (gh_Pc D h sz [.ref v0, .int v1, .int v2]) (gh_Qi Q D h sz) (gh_X X D h sz) 0 0 (gh_A h sz) := by
  refine vx_ofW (by decide) rfl (fun p e s m args below meth c s₁ B hml hex hP => ?_)
  obtain ⟨rfl, rfl, hK, hT, hE, G⟩ := gh_start hP
  have M : gh_M D p l s m _ meth c RX3 cX3_stateIn 3 (gh_A h s.heap.size) := ⟨⟨B.exec, B.bytes, hml, findClass_of_methodNamed B.named, fun w hw => atoms_spec (ws := ws_ yX3_stateIn cX3_stateIn 3 (some .int)) B.pre w (List.mem_cons_of_mem _ hw)⟩, hK, hT, hE, B.notSynchronized, hst⟩
  have hr := B.returns
  have hx := M.1.1
  have hb := M.1.2.1
  refine gh_enter (vs := [(1, .ref v0), (1, .int v1), (1, .int v2)]) (gh_w1 rfl (gh_w1 rfl (gh_w1 rfl gh_wn))) (Nat.le_of_ble_eq_true rfl) (fun ls hl => ?_)
  replace hl : gh_L ls 3 [(0, 1, va_rf (some v0)), (1, 1, .int v1), (2, 1, .int v2)] := hl
  unfold wp_X3_stateIn at hw
  refine lv_iload_n hx hb dX3_stateIn_0 rfl (gh_at hl 1 rfl) ?_
  refine lv_iconst (v := (0 : Int32)) hx hb dX3_stateIn_1 (by decide) ?_
  refine gh_aload_n hx hb dX3_stateIn_2 rfl (gh_at hl 0 rfl) ?_
  refine gh_getI M G hw fl_X3_156 dX3_stateIn_3 (fun x1 hw => ?_)
  refine lv_iconst (v := (1 : Int32)) hx hb dX3_stateIn_6 (by decide) ?_
  refine lv_isub hx hb dX3_stateIn_7 ?_
  refine gh_ki G (vx_runS M.1 (met_X3_in l D _ _ _ _ _ _ _ hw M.2.2.2.2.2) (va_cwS 3 (gh_Mts M) (lw_S q1669 q1670 q50 q1671) rfl rfl rfl ⟨by decide, by decide, rfl⟩ ⟨Nat.le_of_ble_eq_true rfl, Nat.le_of_ble_eq_true rfl⟩) (gh_pre M G (As := [.int v1, .int (0 : Int32), .int (x1 - (1 : Int32))])) rfl rfl hl.1.1 rfl (lv_room (Nat.le_of_ble_eq_true rfl)) dX3_stateIn_8 ⟨(Nat.le_of_ble_eq_true rfl), (Nat.le_of_ble_eq_true rfl)⟩) (gh_out M hex (by exact Nat.le_of_ble_eq_true rfl) (by exact Nat.le_of_ble_eq_true rfl)) (fun r2 h3 H locs hw G => ?_)
  refine lv_if_ne (tgt := 20) hx hb dX3_stateIn_11 (by decide) (fun hc => ?_) (fun hc => ?_)
  · replace hw := hw.2 hc
    refine lv_iload_n hx hb dX3_stateIn_20 rfl (gh_at hl 2 rfl) ?_
    refine lv_iconst (v := (1 : Int32)) hx hb dX3_stateIn_21 (by decide) ?_
    refine gh_aload_n hx hb dX3_stateIn_22 rfl (gh_at hl 0 rfl) ?_
    refine gh_getR M G hw fl_X3_47 dX3_stateIn_23 (fun x4 hw => ?_)
    refine lv_iload_n hx hb dX3_stateIn_26 rfl (gh_at hl 1 rfl) ?_
    refine gh_ial M G hw dX3_stateIn_27 (fun x5 hw => ?_)
    refine gh_ki G (vx_runS M.1 (met_X3_in l D _ _ _ _ _ _ _ hw M.2.2.2.2.2) (va_cwS 3 (gh_Mts M) (lw_S q1669 q1670 q50 q1671) rfl rfl rfl ⟨by decide, by decide, rfl⟩ ⟨Nat.le_of_ble_eq_true rfl, Nat.le_of_ble_eq_true rfl⟩) (gh_pre M G (As := [.int v2, .int (1 : Int32), .int x5])) rfl rfl hl.1.1 rfl (lv_room (Nat.le_of_ble_eq_true rfl)) dX3_stateIn_28 ⟨(Nat.le_of_ble_eq_true rfl), (Nat.le_of_ble_eq_true rfl)⟩) (gh_out M hex (by exact Nat.le_of_ble_eq_true rfl) (by exact Nat.le_of_ble_eq_true rfl)) (fun r6 h7 H locs hw G => ?_)
    refine lv_if_ne (tgt := 40) hx hb dX3_stateIn_31 (by decide) (fun hc => ?_) (fun hc => ?_)
    · replace hw := hw.2 hc
      refine gh_aload_n hx hb dX3_stateIn_40 rfl (gh_at hl 0 rfl) ?_
      refine lv_iconst (v := (0 : Int32)) hx hb dX3_stateIn_41 (by decide) ?_
      refine gh_put M G hw fp_X3_53 rfl rfl dX3_stateIn_42 (fun h8 H locs hw G => ?_)
      refine gh_aload_n hx hb dX3_stateIn_45 rfl (gh_at hl 0 rfl) ?_
      refine gh_getR M G hw fl_X3_50 dX3_stateIn_46 (fun x9 hw => ?_)
      refine lv_bipush (v := (16 : Int32)) hx hb dX3_stateIn_49 (by decide) ?_
      refine lv_iload_n hx hb dX3_stateIn_51 rfl (gh_at hl 1 rfl) ?_
      refine lv_imul hx hb dX3_stateIn_52 ?_
      refine lv_iload_n hx hb dX3_stateIn_53 rfl (gh_at hl 2 rfl) ?_
      refine lv_iadd hx hb dX3_stateIn_54 ?_
      refine lv_iconst (v := (1 : Int32)) hx hb dX3_stateIn_55 (by decide) ?_
      refine lv_isub hx hb dX3_stateIn_56 ?_
      refine gh_ial M G hw dX3_stateIn_57 (fun x10 hw => ?_)
      exact gh_iret M G hr rfl hw (by exact Nat.le_of_ble_eq_true rfl) (by exact Nat.le_of_ble_eq_true rfl) dX3_stateIn_58
    · replace hw := hw.1 hc
      refine gh_aload_n hx hb dX3_stateIn_34 rfl (gh_at hl 0 rfl) ?_
      refine lv_iconst (v := (2 : Int32)) hx hb dX3_stateIn_35 (by decide) ?_
      obtain ⟨a11, lba11, fsa11, hra11, haa11, hw⟩ := hw
      rw [← Option.some.inj hra11] at haa11
      refine gh_ki G (vx_runV M.1 (met_X3_fails l D _ _ _ _ _ _ hw M.2.2.2.2.2) (cwV 1 (gh_Mts M) (lw_V q1657 q1659 qs21 q50 q1660) rfl rfl rfl ⟨rfl, by decide, by decide, rfl⟩ ⟨Nat.le_of_ble_eq_true rfl, Nat.le_of_ble_eq_true rfl⟩) (gh_preV (As := [.int (2 : Int32)]) M G (gh_rec M G haa11 rfl)) rfl rfl hl.1.1 rfl (lv_room (Nat.le_of_ble_eq_true rfl)) dX3_stateIn_36 ⟨(Nat.le_of_ble_eq_true rfl), (Nat.le_of_ble_eq_true rfl)⟩) (gh_out M hex (by exact Nat.le_of_ble_eq_true rfl) (by exact Nat.le_of_ble_eq_true rfl)) (fun r12 h13 H locs hw G => ?_)
      exact gh_iret M G hr rfl hw (by exact Nat.le_of_ble_eq_true rfl) (by exact Nat.le_of_ble_eq_true rfl) dX3_stateIn_39
  · replace hw := hw.1 hc
    refine gh_aload_n hx hb dX3_stateIn_14 rfl (gh_at hl 0 rfl) ?_
    refine lv_iconst (v := (1 : Int32)) hx hb dX3_stateIn_15 (by decide) ?_
    obtain ⟨a14, lba14, fsa14, hra14, haa14, hw⟩ := hw
    rw [← Option.some.inj hra14] at haa14
    refine gh_ki G (vx_runV M.1 (met_X3_fails l D _ _ _ _ _ _ hw M.2.2.2.2.2) (cwV 1 (gh_Mts M) (lw_V q1657 q1659 qs21 q50 q1660) rfl rfl rfl ⟨rfl, by decide, by decide, rfl⟩ ⟨Nat.le_of_ble_eq_true rfl, Nat.le_of_ble_eq_true rfl⟩) (gh_preV (As := [.int (1 : Int32)]) M G (gh_rec M G haa14 rfl)) rfl rfl hl.1.1 rfl (lv_room (Nat.le_of_ble_eq_true rfl)) dX3_stateIn_16 ⟨(Nat.le_of_ble_eq_true rfl), (Nat.le_of_ble_eq_true rfl)⟩) (gh_out M hex (by exact Nat.le_of_ble_eq_true rfl) (by exact Nat.le_of_ble_eq_true rfl)) (fun r15 h16 H locs hw G => ?_)
    exact gh_iret M G hr rfl hw (by exact Nat.le_of_ble_eq_true rfl) (by exact Nat.le_of_ble_eq_true rfl) dX3_stateIn_19
/-! BinderyDesk.stateByReplay (II)I -/
theorem fl_X1_264 : gh_FL RX1 264 [(5, 0)] := by
  intro args s hts tb q hq
  simp only [List.mem_cons, List.not_mem_nil, or_false] at hq
  subst hq
  exact ⟨_, "BinderyDesk$Correction", rfl, by decide, Or.inr ⟨"BinderyDesk", va_Nw.use rfl (tb.1 _ (List.mem_of_getElem? (i := 121) rfl))⟩, (fun x h => h)⟩
theorem fl_X1_261 : gh_FL RX1 261 [(6, 1)] := by
  intro args s hts tb q hq
  simp only [List.mem_cons, List.not_mem_nil, or_false] at hq
  subst hq
  exact ⟨_, "BinderyDesk$Lot", rfl, by decide, Or.inr ⟨"BinderyDesk", va_Nw.use rfl (tb.1 _ (List.mem_of_getElem? (i := 126) rfl))⟩, (fun x h => h)⟩
def rm_X1_stateByReplay : Room := { frames := 9, cells := 69, slots := 412, locals := 165 }
def wb_X1_stateByReplay_107 (κ : Nat → Nat)  (Q : Int32 → gh_H → Prop) (X : String → gh_H → Prop) (v5 : Int32) (h : gh_H) : Prop := (Q v5 h)
def wb_X1_stateByReplay_101 (κ : Nat → Nat) (K38 : Nat → Option Nat → Option Nat → Int32 → Option Nat → gh_H → Prop) (it38 : Nat) (Q : Int32 → gh_H → Prop) (X : String → gh_H → Prop) (v3 : Option Nat) (v4 : Option Nat) (v6 : Option Nat) (t0 : Int32) (t1 : Int32) (h : gh_H) : Prop := K38 (it38 + 1) v3 v4 (t0 + t1) v6 h
def wb_X1_stateByReplay_100 (κ : Nat → Nat) (K38 : Nat → Option Nat → Option Nat → Int32 → Option Nat → gh_H → Prop) (it38 : Nat) (Q : Int32 → gh_H → Prop) (X : String → gh_H → Prop) (v3 : Option Nat) (v4 : Option Nat) (v6 : Option Nat) (t0 : Int32) (h : gh_H) : Prop := wb_X1_stateByReplay_101 κ K38 it38 Q X v3 v4 v6 t0 (0 : Int32) h
def wb_X1_stateByReplay_38 (κ : Nat → Nat) (K38 : Nat → Option Nat → Option Nat → Int32 → Option Nat → gh_H → Prop) (it38 : Nat) (Q : Int32 → gh_H → Prop) (X : String → gh_H → Prop) (v3 : Option Nat) (v4 : Option Nat) (v5 : Int32) (v6 : Option Nat) (h : gh_H) : Prop := (gh_RC h v6 9 (fun a1 => (wp_J19_hasNext κ a1 (fun r2 h3 => ((r2 = 0 → wb_X1_stateByReplay_107 κ Q X v5 h3) ∧ (¬ r2 = 0 → (gh_RC h3 (some a1) 9 (fun _ => (wp_J19_next κ a1 (fun r5 h6 => (gh_CK h6 r5 [5, 6] ((r5 = v3 → wb_X1_stateByReplay_107 κ Q X v5 h6) ∧ (¬ r5 = v3 → (gh_IS h6 r5 [5] [6] (fun x7 => ((x7 = 0 → wb_X1_stateByReplay_100 κ K38 it38 Q X v3 v4 (some a1) v5 h6) ∧ (¬ x7 = 0 → (gh_CK h6 r5 [5] (gh_GR h6 r5 [(5, 0)] (fun x8 => ((x8 = v4 → wb_X1_stateByReplay_101 κ K38 it38 Q X v3 v4 (some a1) v5 (1 : Int32) h6) ∧ (¬ x8 = v4 → wb_X1_stateByReplay_100 κ K38 it38 Q X v3 v4 (some a1) v5 h6))))))))))))) X h3)))))) X h)))
def wl_X1_stateByReplay_38 (κ : Nat → Nat)  (Q : Int32 → gh_H → Prop) (X : String → gh_H → Prop) : Nat → Nat → Option Nat → Option Nat → Int32 → Option Nat → gh_H → Prop
  | 0 => fun _ _ _ _ _ _ => False
  | n + 1 => fun it38 v3 v4 v5 v6 h => it38 ≤ 65 ∧ wb_X1_stateByReplay_38 κ (wl_X1_stateByReplay_38 κ Q X n) it38 Q X v3 v4 v5 v6 h
def wp_X1_stateByReplay (κ : Nat → Nat) (v0 : Nat) (v1 : Int32) (v2 : Int32) (Q : Int32 → gh_H → Prop) (X : String → gh_H → Prop) (h : gh_H) : Prop := (gh_RC h (some v0) 0 (fun _ => (wp_X1_lotWithPage κ v0 v1 v2 (fun r2 h3 => (gh_GR h3 r2 [(6, 1)] (fun x4 => (gh_RC h3 x4 8 (fun a5 => (wp_J2_get κ a5 (v2 - (1 : Int32)) (fun r6 h7 => (gh_CK h7 r6 [4] (gh_GR h7 (some v0) [(0, 2)] (fun x8 => (gh_RC h7 x8 8 (fun a9 => (wp_J2_iterator κ a9 (fun r10 h11 => (∃ n : Nat, wl_X1_stateByReplay_38 κ Q X n 0 r2 r6 (0 : Int32) r10 h11)) X h7))))))) X h3)))))) X h)))
set_option maxHeartbeats 4000000 in
theorem wk_X1_stateByReplay_107 {D : gh_D} {p : Program} {l : Launch} {e : Env} {s : State} {m : MethodId} {args : Array Value} {below : List Frame} {meth : Method} {c : Code} {h0 : gh_H} (M : gh_M D p l s m args meth c RX1 cX1_stateByReplay 9 (gh_A h0 s.heap.size)) (hr : meth.sig.returnType = (some .int)) (hex : ∀ x ∈ c.exceptionTable.toList, False)   {Q : Int32 → gh_H → Prop} {X : String → gh_H → Prop}   (v5 : Int32) (H : Heap) (locs : List Loc) (ls : Array Slot) (h : gh_H) (G : gh_Inv D h0 (gh_A h0 s.heap.size) s.heap s H locs h) (hl : gh_L ls 9 [(5, 1, .int v5)]) (hw : wb_X1_stateByReplay_107 D.2.2 Q X v5 h) : W p l e rm_X1_stateByReplay s m args below meth c H locs 69 412 (vx_MQ below (gh_Qi Q D h0 s.heap.size) (gh_X X D h0 s.heap.size) args s 69 412 (gh_A h0 s.heap.size)) (F0 m 107 ls []) := by
  unfold wb_X1_stateByReplay_107 at hw
  have hx := M.1.1
  have hb := M.1.2.1
  refine lv_iload hx hb dX1_stateByReplay_107 (gh_at hl 0 rfl) ?_
  exact gh_iret M G hr rfl hw (by exact Nat.le_of_ble_eq_true rfl) (by exact Nat.le_of_ble_eq_true rfl) dX1_stateByReplay_109
set_option maxHeartbeats 4000000 in
theorem wk_X1_stateByReplay_101 {D : gh_D} {p : Program} {l : Launch} {e : Env} {s : State} {m : MethodId} {args : Array Value} {below : List Frame} {meth : Method} {c : Code} {h0 : gh_H} (M : gh_M D p l s m args meth c RX1 cX1_stateByReplay 9 (gh_A h0 s.heap.size)) (hr : meth.sig.returnType = (some .int)) (hex : ∀ x ∈ c.exceptionTable.toList, False) {K38 : Nat → Option Nat → Option Nat → Int32 → Option Nat → gh_H → Prop} {it38 : Nat} {Q : Int32 → gh_H → Prop} {X : String → gh_H → Prop} (k38 : ∀ (it38 : Nat) (v3 : Option Nat) (v4 : Option Nat) (v5 : Int32) (v6 : Option Nat) (H : Heap) (locs : List Loc) (ls : Array Slot) (h : gh_H) (_ : gh_Inv D h0 (gh_A h0 s.heap.size) s.heap s H locs h) (_ : gh_L ls 9 [(3, 1, va_rf v3), (4, 1, va_rf v4), (5, 1, .int v5), (6, 1, va_rf v6)]) (_ : K38 it38 v3 v4 v5 v6 h), W p l e rm_X1_stateByReplay s m args below meth c H locs (3 + it38 * 1) (16 + it38 * 6) (vx_MQ below (gh_Qi Q D h0 s.heap.size) (gh_X X D h0 s.heap.size) args s 69 412 (gh_A h0 s.heap.size)) (F0 m 38 ls [])) (hit38 : it38 ≤ 65) (v3 : Option Nat) (v4 : Option Nat) (v6 : Option Nat) (t0 : Int32) (t1 : Int32) (H : Heap) (locs : List Loc) (ls : Array Slot) (h : gh_H) (G : gh_Inv D h0 (gh_A h0 s.heap.size) s.heap s H locs h) (hl : gh_L ls 9 [(3, 1, va_rf v3), (4, 1, va_rf v4), (6, 1, va_rf v6)]) (hw : wb_X1_stateByReplay_101 D.2.2 K38 it38 Q X v3 v4 v6 t0 t1 h) : W p l e rm_X1_stateByReplay s m args below meth c H locs (4 + it38 * 1) (22 + it38 * 6) (vx_MQ below (gh_Qi Q D h0 s.heap.size) (gh_X X D h0 s.heap.size) args s 69 412 (gh_A h0 s.heap.size)) (F0 m 101 ls [.int t1, .int t0]) := by
  unfold wb_X1_stateByReplay_101 at hw
  have hx := M.1.1
  have hb := M.1.2.1
  refine lv_iadd hx hb dX1_stateByReplay_101 ?_
  refine gh_istore (lv' := [(5, 1, .int (t0 + t1)), (3, 1, va_rf v3), (4, 1, va_rf v4), (6, 1, va_rf v6)]) hx hb dX1_stateByReplay_102 hl (by decide) rfl (fun ls hl => ?_)
  refine lv_goto (tgt := 38) hx hb dX1_stateByReplay_104 (by decide) ?_
  refine W.widen (k := 3 + (it38 + 1) * 1) (n := 16 + (it38 + 1) * 6) (by omega) (by omega) ?_
  exact k38 (it38 + 1) v3 v4 (t0 + t1) v6 _ _ _ _ G (gh_sub hl [1, 2, 0, 3] rfl) hw
set_option maxHeartbeats 4000000 in
theorem wk_X1_stateByReplay_100 {D : gh_D} {p : Program} {l : Launch} {e : Env} {s : State} {m : MethodId} {args : Array Value} {below : List Frame} {meth : Method} {c : Code} {h0 : gh_H} (M : gh_M D p l s m args meth c RX1 cX1_stateByReplay 9 (gh_A h0 s.heap.size)) (hr : meth.sig.returnType = (some .int)) (hex : ∀ x ∈ c.exceptionTable.toList, False) {K38 : Nat → Option Nat → Option Nat → Int32 → Option Nat → gh_H → Prop} {it38 : Nat} {Q : Int32 → gh_H → Prop} {X : String → gh_H → Prop} (k38 : ∀ (it38 : Nat) (v3 : Option Nat) (v4 : Option Nat) (v5 : Int32) (v6 : Option Nat) (H : Heap) (locs : List Loc) (ls : Array Slot) (h : gh_H) (_ : gh_Inv D h0 (gh_A h0 s.heap.size) s.heap s H locs h) (_ : gh_L ls 9 [(3, 1, va_rf v3), (4, 1, va_rf v4), (5, 1, .int v5), (6, 1, va_rf v6)]) (_ : K38 it38 v3 v4 v5 v6 h), W p l e rm_X1_stateByReplay s m args below meth c H locs (3 + it38 * 1) (16 + it38 * 6) (vx_MQ below (gh_Qi Q D h0 s.heap.size) (gh_X X D h0 s.heap.size) args s 69 412 (gh_A h0 s.heap.size)) (F0 m 38 ls [])) (hit38 : it38 ≤ 65) (v3 : Option Nat) (v4 : Option Nat) (v6 : Option Nat) (t0 : Int32) (H : Heap) (locs : List Loc) (ls : Array Slot) (h : gh_H) (G : gh_Inv D h0 (gh_A h0 s.heap.size) s.heap s H locs h) (hl : gh_L ls 9 [(3, 1, va_rf v3), (4, 1, va_rf v4), (6, 1, va_rf v6)]) (hw : wb_X1_stateByReplay_100 D.2.2 K38 it38 Q X v3 v4 v6 t0 h) : W p l e rm_X1_stateByReplay s m args below meth c H locs (4 + it38 * 1) (22 + it38 * 6) (vx_MQ below (gh_Qi Q D h0 s.heap.size) (gh_X X D h0 s.heap.size) args s 69 412 (gh_A h0 s.heap.size)) (F0 m 100 ls [.int t0]) := by
  unfold wb_X1_stateByReplay_100 at hw
  have hx := M.1.1
  have hb := M.1.2.1
  refine lv_iconst (v := (0 : Int32)) hx hb dX1_stateByReplay_100 (by decide) ?_
  exact wk_X1_stateByReplay_101 M hr hex k38 hit38 v3 v4 v6 t0 (0 : Int32) _ _ _ _ G (gh_sub hl [0, 1, 2] rfl) hw
set_option maxHeartbeats 4000000 in
theorem wk1_X1_stateByReplay_38 {D : gh_D} {p : Program} {l : Launch} {e : Env} {s : State} {m : MethodId} {args : Array Value} {below : List Frame} {meth : Method} {c : Code} {h0 : gh_H} (M : gh_M D p l s m args meth c RX1 cX1_stateByReplay 9 (gh_A h0 s.heap.size)) (hr : meth.sig.returnType = (some .int)) (hex : ∀ x ∈ c.exceptionTable.toList, False) {K38 : Nat → Option Nat → Option Nat → Int32 → Option Nat → gh_H → Prop} {it38 : Nat} {Q : Int32 → gh_H → Prop} {X : String → gh_H → Prop} (k38 : ∀ (it38 : Nat) (v3 : Option Nat) (v4 : Option Nat) (v5 : Int32) (v6 : Option Nat) (H : Heap) (locs : List Loc) (ls : Array Slot) (h : gh_H) (_ : gh_Inv D h0 (gh_A h0 s.heap.size) s.heap s H locs h) (_ : gh_L ls 9 [(3, 1, va_rf v3), (4, 1, va_rf v4), (5, 1, .int v5), (6, 1, va_rf v6)]) (_ : K38 it38 v3 v4 v5 v6 h), W p l e rm_X1_stateByReplay s m args below meth c H locs (3 + it38 * 1) (16 + it38 * 6) (vx_MQ below (gh_Qi Q D h0 s.heap.size) (gh_X X D h0 s.heap.size) args s 69 412 (gh_A h0 s.heap.size)) (F0 m 38 ls [])) (hit38 : it38 ≤ 65) (v3 : Option Nat) (v4 : Option Nat) (v5 : Int32) (v6 : Option Nat) (H : Heap) (locs : List Loc) (ls : Array Slot) (h : gh_H) (G : gh_Inv D h0 (gh_A h0 s.heap.size) s.heap s H locs h) (hl : gh_L ls 9 [(3, 1, va_rf v3), (4, 1, va_rf v4), (5, 1, .int v5), (6, 1, va_rf v6)]) (hw : wb_X1_stateByReplay_38 D.2.2 K38 it38 Q X v3 v4 v5 v6 h) : W p l e rm_X1_stateByReplay s m args below meth c H locs (3 + it38 * 1) (16 + it38 * 6) (vx_MQ below (gh_Qi Q D h0 s.heap.size) (gh_X X D h0 s.heap.size) args s 69 412 (gh_A h0 s.heap.size)) (F0 m 38 ls []) := by
  unfold wb_X1_stateByReplay_38 at hw
  have hx := M.1.1
  have hb := M.1.2.1
  refine gh_aload hx hb dX1_stateByReplay_38 (gh_at hl 3 rfl) ?_
  obtain ⟨a1, lba1, fsa1, rfl, haa1, hw⟩ := hw
  refine gh_kFi G (vx_runF (C := "java/util/ArrayList$Itr") (M.2.1.1.1 9 _ rfl).2 M.1 (met_J19_hasNext l D _ _ _ _ _ hw M.2.2.2.2.2) (va_cwF 0 (gh_Mts M) (gh_gF q564 q568 q570 q66 q572) rfl rfl rfl (M.2.2.1.2.1 _ (List.mem_of_getElem? (i := 1) rfl)) ⟨by decide, by decide, rfl⟩ ⟨Nat.le_of_ble_eq_true rfl, Nat.le_of_ble_eq_true rfl⟩) (gh_preV (As := []) M G (gh_rec M G haa1 rfl)) rfl rfl hl.1.1 rfl (lv_room (Nat.le_of_ble_eq_true rfl)) dX1_stateByReplay_40 ⟨(by show _ ≤ 69; omega), (by show _ ≤ 412; omega)⟩) (gh_out M hex (by omega) (by omega)) (fun r2 h3 H locs hw G => ?_)
  refine W.widen (k := 3 + it38 * 1) (n := 16 + it38 * 6) (by omega) (by omega) ?_
  refine lv_if_eq (tgt := 107) hx hb dX1_stateByReplay_45 (by decide) (fun hc => ?_) (fun hc => ?_)
  · replace hw := hw.1 hc
    refine W.widen (k := 69) (n := 412) (by omega) (by omega) ?_
    exact wk_X1_stateByReplay_107 M hr hex  v5 _ _ _ _ G (gh_sub hl [2] rfl) hw
  · replace hw := hw.2 hc
    refine gh_aload hx hb dX1_stateByReplay_48 (gh_at hl 3 rfl) ?_
    obtain ⟨a4, lba4, fsa4, hra4, haa4, hw⟩ := hw
    rw [← Option.some.inj hra4] at haa4
    refine gh_kFq G (vx_runF (C := "java/util/ArrayList$Itr") (M.2.1.1.1 9 _ rfl).2 M.1 (met_J19_next l D _ _ _ _ _ hw M.2.2.2.2.2) (va_cwF 0 (gh_Mts M) (gh_gF q580 q583 q585 q66 q587) rfl rfl rfl (M.2.2.1.2.1 _ (List.mem_of_getElem? (i := 2) rfl)) ⟨by decide, by decide, rfl⟩ ⟨Nat.le_of_ble_eq_true rfl, Nat.le_of_ble_eq_true rfl⟩) (gh_preV (As := []) M G (gh_rec M G haa4 rfl)) rfl rfl hl.1.1 rfl (lv_room (Nat.le_of_ble_eq_true rfl)) dX1_stateByReplay_50 ⟨(by show _ ≤ 69; omega), (by show _ ≤ 412; omega)⟩) (gh_out M hex (by omega) (by omega)) (fun r5 h6 H locs hw G => ?_)
    refine W.widen (k := 4 + it38 * 1) (n := 22 + it38 * 6) (by omega) (by omega) ?_
    refine gh_cast (cis := [5, 6]) M G hw q1511 (List.forall_mem_cons.mpr ⟨⟨_, rfl, Or.inr (List.mem_of_getElem? (i := 153) rfl)⟩, List.forall_mem_cons.mpr ⟨⟨_, rfl, Or.inr (List.mem_of_getElem? (i := 131) rfl)⟩, fun _ h => absurd h List.not_mem_nil⟩⟩) dX1_stateByReplay_55 (fun hw => ?_)
    refine gh_astore (lv' := [(7, 1, va_rf r5), (3, 1, va_rf v3), (4, 1, va_rf v4), (5, 1, .int v5), (6, 1, va_rf (some a1))]) hx hb dX1_stateByReplay_58 hl (by decide) rfl (fun ls hl => ?_)
    refine gh_aload hx hb dX1_stateByReplay_60 (gh_at hl 0 rfl) ?_
    refine gh_aload_n hx hb dX1_stateByReplay_62 rfl (gh_at hl 1 rfl) ?_
    refine lv_acmp_ne (rx := r5) (ry := v3) (tgt := 69) hx hb dX1_stateByReplay_63 (by decide) (fun hc => ?_) (fun hc => ?_)
    · replace hw := hw.2 hc
      refine lv_iload hx hb dX1_stateByReplay_69 (gh_at hl 3 rfl) ?_
      refine gh_aload hx hb dX1_stateByReplay_71 (gh_at hl 0 rfl) ?_
      refine gh_inst (yes := [5]) (no := [6]) M G hw q524 (List.forall_mem_cons.mpr ⟨⟨_, rfl, Or.inl ⟨rfl, rfl⟩⟩, fun _ h => absurd h List.not_mem_nil⟩) (List.forall_mem_cons.mpr ⟨⟨_, rfl, List.mem_of_getElem? (i := 0) rfl⟩, fun _ h => absurd h List.not_mem_nil⟩) dX1_stateByReplay_73 (fun x7 hw => ?_)
      refine lv_if_eq (tgt := 100) hx hb dX1_stateByReplay_76 (by decide) (fun hc => ?_) (fun hc => ?_)
      · replace hw := hw.1 hc
        exact wk_X1_stateByReplay_100 M hr hex k38 hit38 v3 v4 (some a1) v5 _ _ _ _ G (gh_sub hl [1, 2, 4] rfl) hw
      · replace hw := hw.2 hc
        refine gh_aload hx hb dX1_stateByReplay_79 (gh_at hl 0 rfl) ?_
        refine gh_cast (cis := [5]) M G hw q524 (List.forall_mem_cons.mpr ⟨⟨_, rfl, Or.inl ⟨rfl, rfl⟩⟩, fun _ h => absurd h List.not_mem_nil⟩) dX1_stateByReplay_81 (fun hw => ?_)
        refine gh_astore (lv' := [(8, 1, va_rf r5), (7, 1, va_rf r5), (3, 1, va_rf v3), (4, 1, va_rf v4), (5, 1, .int v5), (6, 1, va_rf (some a1))]) hx hb dX1_stateByReplay_84 hl (by decide) rfl (fun ls hl => ?_)
        refine gh_aload hx hb dX1_stateByReplay_86 (gh_at hl 0 rfl) ?_
        refine gh_getR M G hw fl_X1_264 dX1_stateByReplay_88 (fun x8 hw => ?_)
        refine gh_aload hx hb dX1_stateByReplay_91 (gh_at hl 3 rfl) ?_
        refine lv_acmp_ne (rx := x8) (ry := v4) (tgt := 100) hx hb dX1_stateByReplay_93 (by decide) (fun hc => ?_) (fun hc => ?_)
        · replace hw := hw.2 hc
          exact wk_X1_stateByReplay_100 M hr hex k38 hit38 v3 v4 (some a1) v5 _ _ _ _ G (gh_sub hl [2, 3, 5] rfl) hw
        · replace hw := hw.1 hc
          refine lv_iconst (v := (1 : Int32)) hx hb dX1_stateByReplay_96 (by decide) ?_
          refine lv_goto (tgt := 101) hx hb dX1_stateByReplay_97 (by decide) ?_
          exact wk_X1_stateByReplay_101 M hr hex k38 hit38 v3 v4 (some a1) v5 (1 : Int32) _ _ _ _ G (gh_sub hl [2, 3, 5] rfl) hw
    · replace hw := hw.1 hc
      refine lv_goto (tgt := 107) hx hb dX1_stateByReplay_66 (by decide) ?_
      refine W.widen (k := 69) (n := 412) (by omega) (by omega) ?_
      exact wk_X1_stateByReplay_107 M hr hex  v5 _ _ _ _ G (gh_sub hl [3] rfl) hw
theorem wk_X1_stateByReplay_38 {D : gh_D} {p : Program} {l : Launch} {e : Env} {s : State} {m : MethodId} {args : Array Value} {below : List Frame} {meth : Method} {c : Code} {h0 : gh_H} (M : gh_M D p l s m args meth c RX1 cX1_stateByReplay 9 (gh_A h0 s.heap.size)) (hr : meth.sig.returnType = (some .int)) (hex : ∀ x ∈ c.exceptionTable.toList, False)   {Q : Int32 → gh_H → Prop} {X : String → gh_H → Prop}   : ∀ (n : Nat) (it38 : Nat) (v3 : Option Nat) (v4 : Option Nat) (v5 : Int32) (v6 : Option Nat) (H : Heap) (locs : List Loc) (ls : Array Slot) (h : gh_H) (_ : gh_Inv D h0 (gh_A h0 s.heap.size) s.heap s H locs h) (_ : gh_L ls 9 [(3, 1, va_rf v3), (4, 1, va_rf v4), (5, 1, .int v5), (6, 1, va_rf v6)]) (_ : wl_X1_stateByReplay_38 D.2.2 Q X n it38 v3 v4 v5 v6 h), W p l e rm_X1_stateByReplay s m args below meth c H locs (3 + it38 * 1) (16 + it38 * 6) (vx_MQ below (gh_Qi Q D h0 s.heap.size) (gh_X X D h0 s.heap.size) args s 69 412 (gh_A h0 s.heap.size)) (F0 m 38 ls []) := by
  intro fu
  induction fu with
  | zero => intro it38 v3 v4 v5 v6 H locs ls h G hl hw; exact False.elim hw
  | succ n1 ih =>
    intro it38 v3 v4 v5 v6 H locs ls h G hl hw
    obtain ⟨hi, hw⟩ := hw
    exact wk1_X1_stateByReplay_38 M hr hex ih hi v3 v4 v5 v6 _ _ _ _ G hl hw
set_option maxHeartbeats 4000000 in
theorem met_X1_stateByReplay (l : Launch) (D : gh_D) (v0 : Nat) (v1 : Int32) (v2 : Int32) (Q : Int32 → gh_H → Prop) (X : String → gh_H → Prop) (h : gh_H) (sz : Nat) (hw : wp_X1_stateByReplay D.2.2 v0 v1 v2 Q X h) (hst : l.stackTraces = false) : vx_Met l yX1_stateByReplay (ws_ yX1_stateByReplay cX1_stateByReplay 9 (some .int)) rm_X1_stateByReplay (gh_Pc D h sz [.ref v0, .int v1, .int v2]) (gh_Qi Q D h sz) (gh_X X D h sz) 69 412 (gh_A h sz) := by
  refine vx_ofW (by decide) rfl (fun p e s m args below meth c s₁ B hml hex hP => ?_)
  obtain ⟨rfl, rfl, hK, hT, hE, G⟩ := gh_start hP
  have M : gh_M D p l s m _ meth c RX1 cX1_stateByReplay 9 (gh_A h s.heap.size) := ⟨⟨B.exec, B.bytes, hml, findClass_of_methodNamed B.named, fun w hw => atoms_spec (ws := ws_ yX1_stateByReplay cX1_stateByReplay 9 (some .int)) B.pre w (List.mem_cons_of_mem _ hw)⟩, hK, hT, hE, B.notSynchronized, hst⟩
  have hr := B.returns
  have hx := M.1.1
  have hb := M.1.2.1
  refine gh_enter (vs := [(1, .ref v0), (1, .int v1), (1, .int v2)]) (gh_w1 rfl (gh_w1 rfl (gh_w1 rfl gh_wn))) (Nat.le_of_ble_eq_true rfl) (fun ls hl => ?_)
  replace hl : gh_L ls 9 [(0, 1, va_rf (some v0)), (1, 1, .int v1), (2, 1, .int v2)] := hl
  unfold wp_X1_stateByReplay at hw
  refine gh_aload_n hx hb dX1_stateByReplay_0 rfl (gh_at hl 0 rfl) ?_
  refine lv_iload_n hx hb dX1_stateByReplay_1 rfl (gh_at hl 1 rfl) ?_
  refine lv_iload_n hx hb dX1_stateByReplay_2 rfl (gh_at hl 2 rfl) ?_
  obtain ⟨a1, lba1, fsa1, hra1, haa1, hw⟩ := hw
  rw [← Option.some.inj hra1] at haa1
  refine gh_kq G (vx_runV M.1 (met_X1_lotWithPage l D _ _ _ _ _ _ _ hw M.2.2.2.2.2) (cwV 2 (gh_Mts M) (lw_V q1500 q1502 qs20 q41 q1503) rfl rfl rfl ⟨rfl, by decide, by decide, rfl⟩ ⟨Nat.le_of_ble_eq_true rfl, Nat.le_of_ble_eq_true rfl⟩) (gh_preV (As := [.int v1, .int v2]) M G (gh_rec M G haa1 rfl)) rfl rfl hl.1.1 rfl (lv_room (Nat.le_of_ble_eq_true rfl)) dX1_stateByReplay_3 ⟨(Nat.le_of_ble_eq_true rfl), (Nat.le_of_ble_eq_true rfl)⟩) (gh_out M hex (by exact Nat.le_of_ble_eq_true rfl) (by exact Nat.le_of_ble_eq_true rfl)) (fun r2 h3 H locs hw G => ?_)
  refine gh_astore_n (lv' := [(3, 1, va_rf r2), (0, 1, va_rf (some v0)), (1, 1, .int v1), (2, 1, .int v2)]) hx hb dX1_stateByReplay_6 rfl hl (by decide) rfl (fun ls hl => ?_)
  refine gh_aload_n hx hb dX1_stateByReplay_7 rfl (gh_at hl 0 rfl) ?_
  refine gh_getR M G hw fl_X1_261 dX1_stateByReplay_8 (fun x4 hw => ?_)
  refine lv_iload_n hx hb dX1_stateByReplay_11 rfl (gh_at hl 3 rfl) ?_
  refine lv_iconst (v := (1 : Int32)) hx hb dX1_stateByReplay_12 (by decide) ?_
  refine lv_isub hx hb dX1_stateByReplay_13 ?_
  obtain ⟨a5, lba5, fsa5, rfl, haa5, hw⟩ := hw
  refine gh_kFq G (vx_runF (C := "java/util/ArrayList") (M.2.1.1.1 8 _ rfl).2 M.1 (met_J2_get l D _ _ _ _ _ _ hw M.2.2.2.2.2) (va_cwF 1 (gh_Mts M) (gh_gF q499 q502 q504 q44 q506) rfl rfl rfl (M.2.2.1.2.1 _ (List.mem_of_getElem? (i := 6) rfl)) ⟨by decide, by decide, rfl⟩ ⟨Nat.le_of_ble_eq_true rfl, Nat.le_of_ble_eq_true rfl⟩) (gh_preV (As := [.int (v2 - (1 : Int32))]) M G (gh_rec M G haa5 rfl)) rfl rfl hl.1.1 rfl (lv_room (Nat.le_of_ble_eq_true rfl)) dX1_stateByReplay_14 ⟨(Nat.le_of_ble_eq_true rfl), (Nat.le_of_ble_eq_true rfl)⟩) (gh_out M hex (by exact Nat.le_of_ble_eq_true rfl) (by exact Nat.le_of_ble_eq_true rfl)) (fun r6 h7 H locs hw G => ?_)
  refine gh_cast (cis := [4]) M G hw q338 (List.forall_mem_cons.mpr ⟨⟨_, rfl, Or.inl ⟨rfl, rfl⟩⟩, fun _ h => absurd h List.not_mem_nil⟩) dX1_stateByReplay_19 (fun hw => ?_)
  refine gh_astore (lv' := [(4, 1, va_rf r6), (3, 1, va_rf r2), (0, 1, va_rf (some v0)), (1, 1, .int v1), (2, 1, .int v2)]) hx hb dX1_stateByReplay_22 hl (by decide) rfl (fun ls hl => ?_)
  refine lv_iconst (v := (0 : Int32)) hx hb dX1_stateByReplay_24 (by decide) ?_
  refine gh_istore (lv' := [(5, 1, .int (0 : Int32)), (4, 1, va_rf r6), (3, 1, va_rf r2), (0, 1, va_rf (some v0)), (1, 1, .int v1), (2, 1, .int v2)]) hx hb dX1_stateByReplay_25 hl (by decide) rfl (fun ls hl => ?_)
  refine gh_aload_n hx hb dX1_stateByReplay_27 rfl (gh_at hl 3 rfl) ?_
  refine gh_getR M G hw fl_X1_34 dX1_stateByReplay_28 (fun x8 hw => ?_)
  obtain ⟨a9, lba9, fsa9, rfl, haa9, hw⟩ := hw
  refine gh_kFq G (vx_runF (C := "java/util/ArrayList") (M.2.1.1.1 8 _ rfl).2 M.1 (met_J2_iterator l D _ _ _ _ _ hw M.2.2.2.2.2) (va_cwF 0 (gh_Mts M) (gh_gF q536 q539 q541 q44 q543) rfl rfl rfl (M.2.2.1.2.1 _ (List.mem_of_getElem? (i := 7) rfl)) ⟨by decide, by decide, rfl⟩ ⟨Nat.le_of_ble_eq_true rfl, Nat.le_of_ble_eq_true rfl⟩) (gh_preV (As := []) M G (gh_rec M G haa9 rfl)) rfl rfl hl.1.1 rfl (lv_room (Nat.le_of_ble_eq_true rfl)) dX1_stateByReplay_31 ⟨(Nat.le_of_ble_eq_true rfl), (Nat.le_of_ble_eq_true rfl)⟩) (gh_out M hex (by exact Nat.le_of_ble_eq_true rfl) (by exact Nat.le_of_ble_eq_true rfl)) (fun r10 h11 H locs hw G => ?_)
  refine gh_astore (lv' := [(6, 1, va_rf r10), (5, 1, .int (0 : Int32)), (4, 1, va_rf r6), (3, 1, va_rf r2), (0, 1, va_rf (some v0)), (1, 1, .int v1), (2, 1, .int v2)]) hx hb dX1_stateByReplay_36 hl (by decide) rfl (fun ls hl => ?_)
  obtain ⟨n, hw⟩ := hw
  refine W.widen (k := 3 + 0 * 1) (n := 16 + 0 * 6) (by omega) (by omega) ?_
  exact wk_X1_stateByReplay_38 M hr hex  n 0 r2 r6 (0 : Int32) r10 _ _ _ _ G (gh_sub hl [3, 2, 1, 0] rfl) hw
/-! BinderyDeskLaw.stateByReplay (LBinderyDesk;II[J)I -/
def rm_X0_stateByReplay : Room := { frames := 10, cells := 69, slots := 412, locals := 193 }
def wb_X0_stateByReplay_13 (κ : Nat → Nat)  (Q : Int32 → gh_H → Prop) (X : String → gh_H → Prop) (t0 : Option Nat) (h : gh_H) : Prop := (Q (1 : Int32) h)
def wb_X0_stateByReplay_17 (κ : Nat → Nat)  (Q : Int32 → gh_H → Prop) (X : String → gh_H → Prop) (t0 : Option Nat) (h : gh_H) : Prop := (Q (2 : Int32) h)
def wp_X0_stateByReplay (κ : Nat → Nat) (v0 : Option Nat) (v1 : Int32) (v2 : Int32) (v3 : Option Nat) (Q : Int32 → gh_H → Prop) (X : String → gh_H → Prop) (h : gh_H) : Prop := (gh_RC h v0 0 (fun a1 => (wp_X1_stateByReplay κ a1 v1 v2 (fun r2 h3 => (gh_SJ h3 v3 (0 : Int32) (r2.toInt64) (fun h4 => (Q (0 : Int32) h4)))) (fun E h9 => (E = "java/lang/IndexOutOfBoundsException" ∧ ∀ q9 : Nat, wb_X0_stateByReplay_13 κ Q X (some q9) h9) ∨ (E = "java/util/NoSuchElementException" ∧ ∀ q9 : Nat, wb_X0_stateByReplay_17 κ Q X (some q9) h9)) h)))
set_option maxHeartbeats 4000000 in
theorem wk_X0_stateByReplay_13 {D : gh_D} {p : Program} {l : Launch} {e : Env} {s : State} {m : MethodId} {args : Array Value} {below : List Frame} {meth : Method} {c : Code} {h0 : gh_H} (M : gh_M D p l s m args meth c RX0 cX0_stateByReplay 5 (gh_A h0 s.heap.size)) (hr : meth.sig.returnType = (some .int)) (htab : c.exceptionTable.toList = tableOf [(0, 10, 13, 19), (0, 10, 17, 48)])   {Q : Int32 → gh_H → Prop} {X : String → gh_H → Prop}   (t0 : Option Nat) (H : Heap) (locs : List Loc) (ls : Array Slot) (h : gh_H) (G : gh_Inv D h0 (gh_A h0 s.heap.size) s.heap s H locs h) (hl : gh_L ls 5 []) (hw : wb_X0_stateByReplay_13 D.2.2 Q X t0 h) : W p l e rm_X0_stateByReplay s m args below meth c H locs 69 412 (vx_MQ below (gh_Qi Q D h0 s.heap.size) (gh_X X D h0 s.heap.size) args s 69 412 (gh_A h0 s.heap.size)) (F0 m 13 ls [va_rf t0]) := by
  unfold wb_X0_stateByReplay_13 at hw
  have hx := M.1.1
  have hb := M.1.2.1
  refine gh_astore (lv' := [(4, 1, va_rf t0)]) hx hb dX0_stateByReplay_13 hl (by decide) rfl (fun ls hl => ?_)
  refine lv_iconst (v := (1 : Int32)) hx hb dX0_stateByReplay_15 (by decide) ?_
  exact gh_iret M G hr rfl hw (by exact Nat.le_of_ble_eq_true rfl) (by exact Nat.le_of_ble_eq_true rfl) dX0_stateByReplay_16
set_option maxHeartbeats 4000000 in
theorem wk_X0_stateByReplay_17 {D : gh_D} {p : Program} {l : Launch} {e : Env} {s : State} {m : MethodId} {args : Array Value} {below : List Frame} {meth : Method} {c : Code} {h0 : gh_H} (M : gh_M D p l s m args meth c RX0 cX0_stateByReplay 5 (gh_A h0 s.heap.size)) (hr : meth.sig.returnType = (some .int)) (htab : c.exceptionTable.toList = tableOf [(0, 10, 13, 19), (0, 10, 17, 48)])   {Q : Int32 → gh_H → Prop} {X : String → gh_H → Prop}   (t0 : Option Nat) (H : Heap) (locs : List Loc) (ls : Array Slot) (h : gh_H) (G : gh_Inv D h0 (gh_A h0 s.heap.size) s.heap s H locs h) (hl : gh_L ls 5 []) (hw : wb_X0_stateByReplay_17 D.2.2 Q X t0 h) : W p l e rm_X0_stateByReplay s m args below meth c H locs 69 412 (vx_MQ below (gh_Qi Q D h0 s.heap.size) (gh_X X D h0 s.heap.size) args s 69 412 (gh_A h0 s.heap.size)) (F0 m 17 ls [va_rf t0]) := by
  unfold wb_X0_stateByReplay_17 at hw
  have hx := M.1.1
  have hb := M.1.2.1
  refine gh_astore (lv' := [(4, 1, va_rf t0)]) hx hb dX0_stateByReplay_17 hl (by decide) rfl (fun ls hl => ?_)
  refine lv_iconst (v := (2 : Int32)) hx hb dX0_stateByReplay_19 (by decide) ?_
  exact gh_iret M G hr rfl hw (by exact Nat.le_of_ble_eq_true rfl) (by exact Nat.le_of_ble_eq_true rfl) dX0_stateByReplay_20
set_option maxHeartbeats 4000000 in
theorem met_X0_stateByReplay (l : Launch) (D : gh_D) (v0 : Option Nat) (v1 : Int32) (v2 : Int32) (v3 : Option Nat) (Q : Int32 → gh_H → Prop) (X : String → gh_H → Prop) (h : gh_H) (sz : Nat) (hw : wp_X0_stateByReplay D.2.2 v0 v1 v2 v3 Q X h) (hst : l.stackTraces = false) : vx_Met l yX0_stateByReplay (wsW_ yX0_stateByReplay cX0_stateByReplay 5 (some .int) [(0, 10, 13, 19), (0, 10, 17, 48)]) rm_X0_stateByReplay (gh_Pc D h sz [va_rf v0, .int v1, .int v2, va_rf v3]) (gh_Qi Q D h sz) (gh_X X D h sz) 69 412 (gh_A h sz) := by
  refine vx_ofWH (by decide) rfl (fun p e s m args below meth c s₁ B hml hP => ?_)
  have htab := vx_table (x := yX0_stateByReplay) B (atoms_spec (ws := wsW_ yX0_stateByReplay cX0_stateByReplay 5 (some .int) [(0, 10, 13, 19), (0, 10, 17, 48)]) B.pre _ List.mem_cons_self)
  obtain ⟨rfl, rfl, hK, hT, hE, G⟩ := gh_start hP
  have M : gh_M D p l s m _ meth c RX0 cX0_stateByReplay 5 (gh_A h s.heap.size) := ⟨⟨B.exec, B.bytes, hml, findClass_of_methodNamed B.named, fun w hw => atoms_spec (ws := wsW_ yX0_stateByReplay cX0_stateByReplay 5 (some .int) [(0, 10, 13, 19), (0, 10, 17, 48)]) B.pre w (List.mem_cons_of_mem _ hw)⟩, hK, hT, hE, B.notSynchronized, hst⟩
  have hr := B.returns
  have hx := M.1.1
  have hb := M.1.2.1
  refine gh_enter (vs := [(1, va_rf v0), (1, .int v1), (1, .int v2), (1, va_rf v3)]) (gh_w1 (gh_cat _) (gh_w1 rfl (gh_w1 rfl (gh_w1 (gh_cat _) gh_wn)))) (Nat.le_of_ble_eq_true rfl) (fun ls hl => ?_)
  replace hl : gh_L ls 5 [(0, 1, va_rf v0), (1, 1, .int v1), (2, 1, .int v2), (3, 1, va_rf v3)] := hl
  unfold wp_X0_stateByReplay at hw
  refine gh_aload_n hx hb dX0_stateByReplay_0 rfl (gh_at hl 3 rfl) ?_
  refine lv_iconst (v := (0 : Int32)) hx hb dX0_stateByReplay_1 (by decide) ?_
  refine gh_aload_n hx hb dX0_stateByReplay_2 rfl (gh_at hl 0 rfl) ?_
  refine lv_iload_n hx hb dX0_stateByReplay_3 rfl (gh_at hl 1 rfl) ?_
  refine lv_iload_n hx hb dX0_stateByReplay_4 rfl (gh_at hl 2 rfl) ?_
  obtain ⟨a1, lba1, fsa1, rfl, haa1, hw⟩ := hw
  refine gh_ki G (vx_runV M.1 (met_X1_stateByReplay l D _ _ _ _ _ _ _ hw M.2.2.2.2.2) (cwV 2 (gh_Mts M) (lw_V q1507 q1508 q1509 q41 q1510) rfl rfl rfl ⟨rfl, by decide, by decide, rfl⟩ ⟨Nat.le_of_ble_eq_true rfl, Nat.le_of_ble_eq_true rfl⟩) (gh_preV (As := [.int v1, .int v2]) M G (gh_rec M G haa1 rfl)) rfl rfl hl.1.1 rfl (lv_room (Nat.le_trans (gh_r1 rfl (gh_r1 (gh_cat _) gh_r0)) (Nat.le_of_ble_eq_true rfl : 2 ≤ 8))) dX0_stateByReplay_5 ⟨(Nat.le_of_ble_eq_true rfl), (Nat.le_of_ble_eq_true rfl)⟩) (fun E ce q9 h9 H locs hX G hce hcv hcl => ?_) (fun r2 h3 H locs hw G => ?_)
  · rcases hX with ⟨rfl, hX⟩ | ⟨rfl, hX⟩
    · replace hw := hX q9
      refine vx_catch (name := "java/lang/IndexOutOfBoundsException") M.1.2.2.2.1 (tableOf []) ⟨0, 10, 13, 19⟩ (tableOf [(0, 10, 17, 48)]) (htab.trans rfl) (fun _ h => absurd h List.not_mem_nil) (by decide) (by decide) (gh_Mts M _ q439) (va_Nw.use rfl (M.2.2.1.1 _ (List.mem_of_getElem? (i := 8) rfl))) hce hcv hcl ?_
      exact wk_X0_stateByReplay_13 M hr htab  (some q9) _ _ _ _ G (gh_sub hl [] rfl) hw
    · replace hw := hX q9
      refine vx_catch (name := "java/util/NoSuchElementException") M.1.2.2.2.1 (tableOf [(0, 10, 13, 19)]) ⟨0, 10, 17, 48⟩ (tableOf []) (htab.trans rfl) (List.forall_mem_cons.mpr ⟨Or.inr ⟨by decide, "java/lang/IndexOutOfBoundsException", gh_Mts M _ q439, M.2.2.1.2.2.1 _ (List.mem_of_getElem? (i := 11) rfl)⟩, fun _ h => absurd h List.not_mem_nil⟩) (by decide) (by decide) (gh_Mts M _ q818) (va_Nw.use rfl (M.2.2.1.1 _ (List.mem_of_getElem? (i := 46) rfl))) hce hcv hcl ?_
      exact wk_X0_stateByReplay_17 M hr htab  (some q9) _ _ _ _ G (gh_sub hl [] rfl) hw
  · refine lv_i2l (v := (r2.toInt64)) hx hb dX0_stateByReplay_8 rfl ?_
    refine gh_jas M G hw dX0_stateByReplay_9 (fun h4 H locs hw G => ?_)
    refine lv_goto (tgt := 21) hx hb dX0_stateByReplay_10 (by decide) ?_
    refine lv_iconst (v := (0 : Int32)) hx hb dX0_stateByReplay_21 (by decide) ?_
    exact gh_iret M G hr rfl hw (by exact Nat.le_of_ble_eq_true rfl) (by exact Nat.le_of_ble_eq_true rfl) dX0_stateByReplay_22
/-! BinderyDeskModel.stateByReplay (II)I -/
def rm_X3_stateByReplay : Room := { frames := 3, cells := 0, slots := 0, locals := 84 }
def wp_X3_stateByReplay (κ : Nat → Nat) (v0 : Nat) (v1 : Int32) (v2 : Int32) (Q : Int32 → gh_H → Prop) (X : String → gh_H → Prop) (h : gh_H) : Prop := (gh_RC h (some v0) 1 (fun _ => (wp_X3_stateIn κ v0 v1 v2 (fun r2 h3 => (Q r2 h3)) X h)))
set_option maxHeartbeats 4000000 in
theorem met_X3_stateByReplay (l : Launch) (D : gh_D) (v0 : Nat) (v1 : Int32) (v2 : Int32) (Q : Int32 → gh_H → Prop) (X : String → gh_H → Prop) (h : gh_H) (sz : Nat) (hw : wp_X3_stateByReplay D.2.2 v0 v1 v2 Q X h) (hst : l.stackTraces = false) : vx_Met l yX3_stateByReplay (ws_ yX3_stateByReplay cX3_stateByReplay 3 (some .int)) rm_X3_stateByReplay (gh_Pc D h sz [.ref v0, .int v1, .int v2]) (gh_Qi Q D h sz) (gh_X X D h sz) 0 0 (gh_A h sz) := by
  refine vx_ofW (by decide) rfl (fun p e s m args below meth c s₁ B hml hex hP => ?_)
  obtain ⟨rfl, rfl, hK, hT, hE, G⟩ := gh_start hP
  have M : gh_M D p l s m _ meth c RX3 cX3_stateByReplay 3 (gh_A h s.heap.size) := ⟨⟨B.exec, B.bytes, hml, findClass_of_methodNamed B.named, fun w hw => atoms_spec (ws := ws_ yX3_stateByReplay cX3_stateByReplay 3 (some .int)) B.pre w (List.mem_cons_of_mem _ hw)⟩, hK, hT, hE, B.notSynchronized, hst⟩
  have hr := B.returns
  have hx := M.1.1
  have hb := M.1.2.1
  refine gh_enter (vs := [(1, .ref v0), (1, .int v1), (1, .int v2)]) (gh_w1 rfl (gh_w1 rfl (gh_w1 rfl gh_wn))) (Nat.le_of_ble_eq_true rfl) (fun ls hl => ?_)
  replace hl : gh_L ls 3 [(0, 1, va_rf (some v0)), (1, 1, .int v1), (2, 1, .int v2)] := hl
  unfold wp_X3_stateByReplay at hw
  refine gh_aload_n hx hb dX3_stateByReplay_0 rfl (gh_at hl 0 rfl) ?_
  refine lv_iload_n hx hb dX3_stateByReplay_1 rfl (gh_at hl 1 rfl) ?_
  refine lv_iload_n hx hb dX3_stateByReplay_2 rfl (gh_at hl 2 rfl) ?_
  obtain ⟨a1, lba1, fsa1, hra1, haa1, hw⟩ := hw
  rw [← Option.some.inj hra1] at haa1
  refine gh_ki G (vx_runV M.1 (met_X3_stateIn l D _ _ _ _ _ _ _ hw M.2.2.2.2.2) (cwV 2 (gh_Mts M) (lw_V q1825 q1818 q1819 q50 q1820) rfl rfl rfl ⟨rfl, by decide, by decide, rfl⟩ ⟨Nat.le_of_ble_eq_true rfl, Nat.le_of_ble_eq_true rfl⟩) (gh_preV (As := [.int v1, .int v2]) M G (gh_rec M G haa1 rfl)) rfl rfl hl.1.1 rfl (lv_room (Nat.le_of_ble_eq_true rfl)) dX3_stateByReplay_3 ⟨(Nat.le_of_ble_eq_true rfl), (Nat.le_of_ble_eq_true rfl)⟩) (gh_out M hex (by exact Nat.le_of_ble_eq_true rfl) (by exact Nat.le_of_ble_eq_true rfl)) (fun r2 h3 H locs hw G => ?_)
  exact gh_iret M G hr rfl hw (by exact Nat.le_of_ble_eq_true rfl) (by exact Nat.le_of_ble_eq_true rfl) dX3_stateByReplay_6
/-! java/lang/Object.equals (Ljava/lang/Object;)Z -/
def rm_J32_equals : Room := { frames := 1, cells := 0, slots := 0, locals := 40 }
def wb_J32_equals_10 (κ : Nat → Nat)  (Q : Int32 → gh_H → Prop) (X : String → gh_H → Prop) (t0 : Int32) (h : gh_H) : Prop := (narrow .boolean (.int t0) = .int t0 ∧ Q t0 h)
def wp_J32_equals (κ : Nat → Nat) (v0 : Nat) (v1 : Option Nat) (Q : Int32 → gh_H → Prop) (X : String → gh_H → Prop) (h : gh_H) : Prop := (((some v0) = v1 → wb_J32_equals_10 κ Q X (1 : Int32) h) ∧ (¬ (some v0) = v1 → wb_J32_equals_10 κ Q X (0 : Int32) h))
set_option maxHeartbeats 4000000 in
theorem wk_J32_equals_10 {D : gh_D} {p : Program} {l : Launch} {e : Env} {s : State} {m : MethodId} {args : Array Value} {below : List Frame} {meth : Method} {c : Code} {h0 : gh_H} (M : gh_M D p l s m args meth c RJ32 cJ32_equals 2 (gh_A h0 s.heap.size)) (hr : meth.sig.returnType = (some .boolean)) (hex : ∀ x ∈ c.exceptionTable.toList, False)   {Q : Int32 → gh_H → Prop} {X : String → gh_H → Prop}   (t0 : Int32) (H : Heap) (locs : List Loc) (ls : Array Slot) (h : gh_H) (G : gh_Inv D h0 (gh_A h0 s.heap.size) s.heap s H locs h) (hl : gh_L ls 2 []) (hw : wb_J32_equals_10 D.2.2 Q X t0 h) : W p l e rm_J32_equals s m args below meth c H locs 0 0 (vx_MQ below (gh_Qi Q D h0 s.heap.size) (gh_X X D h0 s.heap.size) args s 0 0 (gh_A h0 s.heap.size)) (F0 m 10 ls [.int t0]) := by
  unfold wb_J32_equals_10 at hw
  have hx := M.1.1
  have hb := M.1.2.1
  exact gh_iret M G hr hw.1 hw.2 (by exact Nat.le_of_ble_eq_true rfl) (by exact Nat.le_of_ble_eq_true rfl) dJ32_equals_10
set_option maxHeartbeats 4000000 in
theorem met_J32_equals (l : Launch) (D : gh_D) (v0 : Nat) (v1 : Option Nat) (Q : Int32 → gh_H → Prop) (X : String → gh_H → Prop) (h : gh_H) (sz : Nat) (hw : wp_J32_equals D.2.2 v0 v1 Q X h) (hst : l.stackTraces = false) : vx_Met l yJ32_equals (ws_ yJ32_equals cJ32_equals 2 (some .boolean)) rm_J32_equals (gh_Pc D h sz [.ref v0, va_rf v1]) (gh_Qi Q D h sz) (gh_X X D h sz) 0 0 (gh_A h sz) := by
  refine gh_ofWF (by decide +kernel) rfl (fun p e s m args below meth c s₁ B hml hex hP => ?_)
  obtain ⟨rfl, rfl, hK, hT, hE, G⟩ := gh_start hP
  have M : gh_M D p l s m _ meth c RJ32 cJ32_equals 2 (gh_A h s.heap.size) := ⟨⟨B.exec, B.bytes, hml, findClass_of_methodNamed B.named, fun w hw => atoms_spec (ws := ws_ yJ32_equals cJ32_equals 2 (some .boolean)) B.pre w (List.mem_cons_of_mem _ hw)⟩, hK, hT, hE, B.notSynchronized, hst⟩
  have hr := B.returns
  have hx := M.1.1
  have hb := M.1.2.1
  refine gh_enter (vs := [(1, .ref v0), (1, va_rf v1)]) (gh_w1 rfl (gh_w1 (gh_cat _) gh_wn)) (Nat.le_of_ble_eq_true rfl) (fun ls hl => ?_)
  replace hl : gh_L ls 2 [(0, 1, va_rf (some v0)), (1, 1, va_rf v1)] := hl
  unfold wp_J32_equals at hw
  refine gh_aload_n hx hb dJ32_equals_0 rfl (gh_at hl 0 rfl) ?_
  refine gh_aload_n hx hb dJ32_equals_1 rfl (gh_at hl 1 rfl) ?_
  refine lv_acmp_ne (rx := (some v0)) (ry := v1) (tgt := 9) hx hb dJ32_equals_2 (by decide) (fun hc => ?_) (fun hc => ?_)
  · replace hw := hw.2 hc
    refine lv_iconst (v := (0 : Int32)) hx hb dJ32_equals_9 (by decide) ?_
    exact wk_J32_equals_10 M hr hex  (0 : Int32) _ _ _ _ G (gh_sub hl [] rfl) hw
  · replace hw := hw.1 hc
    refine lv_iconst (v := (1 : Int32)) hx hb dJ32_equals_5 (by decide) ?_
    refine lv_goto (tgt := 10) hx hb dJ32_equals_6 (by decide) ?_
    exact wk_J32_equals_10 M hr hex  (1 : Int32) _ _ _ _ G (gh_sub hl [] rfl) hw
/-! java/util/ArrayList.indexOfRange (Ljava/lang/Object;II)I -/
def rm_J2_indexOfRange : Room := { frames := 2, cells := 0, slots := 0, locals := 61 }
def wb_J2_indexOfRange_69 (κ : Nat → Nat)  (Q : Int32 → gh_H → Prop) (X : String → gh_H → Prop)  (h : gh_H) : Prop := (Q (-1 : Int32) h)
def wb_J2_indexOfRange_42 (κ : Nat → Nat) (K42 : Option Nat → Int32 → Option Nat → Int32 → gh_H → Prop) (Q : Int32 → gh_H → Prop) (X : String → gh_H → Prop) (v1 : Option Nat) (v3 : Int32) (v4 : Option Nat) (v5 : Int32) (h : gh_H) : Prop := ((v3 ≤ v5 → wb_J2_indexOfRange_69 κ Q X h) ∧ (¬ v3 ≤ v5 → (gh_LR h v4 v5 (fun x1 => (gh_RC h v1 4 (fun a2 => (wp_J32_equals κ a2 x1 (fun r3 h4 => ((r3 = 0 → K42 (some a2) v3 v4 (v5 + (1 : Int32)) h4) ∧ (¬ r3 = 0 → (Q v5 h4)))) X h)))))))
def wl_J2_indexOfRange_42 (κ : Nat → Nat)  (Q : Int32 → gh_H → Prop) (X : String → gh_H → Prop) : Nat → Option Nat → Int32 → Option Nat → Int32 → gh_H → Prop
  | 0 => fun _ _ _ _ _ => False
  | n + 1 => fun v1 v3 v4 v5 h => wb_J2_indexOfRange_42 κ (wl_J2_indexOfRange_42 κ Q X n) Q X v1 v3 v4 v5 h
def wb_J2_indexOfRange_13 (κ : Nat → Nat) (K13 : Int32 → Option Nat → Int32 → gh_H → Prop) (Q : Int32 → gh_H → Prop) (X : String → gh_H → Prop) (v3 : Int32) (v4 : Option Nat) (v5 : Int32) (h : gh_H) : Prop := ((v3 ≤ v5 → wb_J2_indexOfRange_69 κ Q X h) ∧ (¬ v3 ≤ v5 → (gh_LR h v4 v5 (fun x1 => ((x1 = none → (Q v5 h)) ∧ (¬ x1 = none → K13 v3 v4 (v5 + (1 : Int32)) h))))))
def wl_J2_indexOfRange_13 (κ : Nat → Nat)  (Q : Int32 → gh_H → Prop) (X : String → gh_H → Prop) : Nat → Int32 → Option Nat → Int32 → gh_H → Prop
  | 0 => fun _ _ _ _ => False
  | n + 1 => fun v3 v4 v5 h => wb_J2_indexOfRange_13 κ (wl_J2_indexOfRange_13 κ Q X n) Q X v3 v4 v5 h
def wp_J2_indexOfRange (κ : Nat → Nat) (v0 : Nat) (v1 : Option Nat) (v2 : Int32) (v3 : Int32) (Q : Int32 → gh_H → Prop) (X : String → gh_H → Prop) (h : gh_H) : Prop := (gh_GR h (some v0) [(8, 1)] (fun x1 => ((v1 = none → (∃ n : Nat, wl_J2_indexOfRange_13 κ Q X n v3 x1 v2 h)) ∧ (¬ v1 = none → (∃ n : Nat, wl_J2_indexOfRange_42 κ Q X n v1 v3 x1 v2 h)))))
set_option maxHeartbeats 4000000 in
theorem wk_J2_indexOfRange_69 {D : gh_D} {p : Program} {l : Launch} {e : Env} {s : State} {m : MethodId} {args : Array Value} {below : List Frame} {meth : Method} {c : Code} {h0 : gh_H} (M : gh_M D p l s m args meth c RJ2 cJ2_indexOfRange 6 (gh_A h0 s.heap.size)) (hr : meth.sig.returnType = (some .int)) (hex : ∀ x ∈ c.exceptionTable.toList, False)   {Q : Int32 → gh_H → Prop} {X : String → gh_H → Prop}    (H : Heap) (locs : List Loc) (ls : Array Slot) (h : gh_H) (G : gh_Inv D h0 (gh_A h0 s.heap.size) s.heap s H locs h) (hl : gh_L ls 6 []) (hw : wb_J2_indexOfRange_69 D.2.2 Q X h) : W p l e rm_J2_indexOfRange s m args below meth c H locs 0 0 (vx_MQ below (gh_Qi Q D h0 s.heap.size) (gh_X X D h0 s.heap.size) args s 0 0 (gh_A h0 s.heap.size)) (F0 m 69 ls []) := by
  unfold wb_J2_indexOfRange_69 at hw
  have hx := M.1.1
  have hb := M.1.2.1
  refine lv_iconst (v := (-1 : Int32)) hx hb dJ2_indexOfRange_69 (by decide) ?_
  exact gh_iret M G hr rfl hw (by exact Nat.le_of_ble_eq_true rfl) (by exact Nat.le_of_ble_eq_true rfl) dJ2_indexOfRange_70
set_option maxHeartbeats 4000000 in
theorem wk1_J2_indexOfRange_42 {D : gh_D} {p : Program} {l : Launch} {e : Env} {s : State} {m : MethodId} {args : Array Value} {below : List Frame} {meth : Method} {c : Code} {h0 : gh_H} (M : gh_M D p l s m args meth c RJ2 cJ2_indexOfRange 6 (gh_A h0 s.heap.size)) (hr : meth.sig.returnType = (some .int)) (hex : ∀ x ∈ c.exceptionTable.toList, False) {K42 : Option Nat → Int32 → Option Nat → Int32 → gh_H → Prop}  {Q : Int32 → gh_H → Prop} {X : String → gh_H → Prop} (k42 : ∀ (v1 : Option Nat) (v3 : Int32) (v4 : Option Nat) (v5 : Int32) (H : Heap) (locs : List Loc) (ls : Array Slot) (h : gh_H) (_ : gh_Inv D h0 (gh_A h0 s.heap.size) s.heap s H locs h) (_ : gh_L ls 6 [(1, 1, va_rf v1), (3, 1, .int v3), (4, 1, va_rf v4), (5, 1, .int v5)]) (_ : K42 v1 v3 v4 v5 h), W p l e rm_J2_indexOfRange s m args below meth c H locs 0 0 (vx_MQ below (gh_Qi Q D h0 s.heap.size) (gh_X X D h0 s.heap.size) args s 0 0 (gh_A h0 s.heap.size)) (F0 m 42 ls []))  (v1 : Option Nat) (v3 : Int32) (v4 : Option Nat) (v5 : Int32) (H : Heap) (locs : List Loc) (ls : Array Slot) (h : gh_H) (G : gh_Inv D h0 (gh_A h0 s.heap.size) s.heap s H locs h) (hl : gh_L ls 6 [(1, 1, va_rf v1), (3, 1, .int v3), (4, 1, va_rf v4), (5, 1, .int v5)]) (hw : wb_J2_indexOfRange_42 D.2.2 K42 Q X v1 v3 v4 v5 h) : W p l e rm_J2_indexOfRange s m args below meth c H locs 0 0 (vx_MQ below (gh_Qi Q D h0 s.heap.size) (gh_X X D h0 s.heap.size) args s 0 0 (gh_A h0 s.heap.size)) (F0 m 42 ls []) := by
  unfold wb_J2_indexOfRange_42 at hw
  have hx := M.1.1
  have hb := M.1.2.1
  refine lv_iload hx hb dJ2_indexOfRange_42 (gh_at hl 3 rfl) ?_
  refine lv_iload_n hx hb dJ2_indexOfRange_44 rfl (gh_at hl 1 rfl) ?_
  refine lv_icmp_ge (tgt := 69) hx hb dJ2_indexOfRange_45 (by decide) (fun hc => ?_) (fun hc => ?_)
  · replace hw := hw.1 hc
    exact wk_J2_indexOfRange_69 M hr hex   _ _ _ _ G (gh_sub hl [] rfl) hw
  · replace hw := hw.2 hc
    refine gh_aload_n hx hb dJ2_indexOfRange_48 rfl (gh_at hl 0 rfl) ?_
    refine gh_aload hx hb dJ2_indexOfRange_49 (gh_at hl 2 rfl) ?_
    refine lv_iload hx hb dJ2_indexOfRange_51 (gh_at hl 3 rfl) ?_
    refine gh_ral M G hw dJ2_indexOfRange_53 (fun x1 hw => ?_)
    obtain ⟨a2, lba2, fsa2, rfl, haa2, hw⟩ := hw
    refine gh_ki G (vx_runU (C := "BinderyDesk$Content") M.1 (met_J32_equals l D _ _ _ _ _ _ hw M.2.2.2.2.2) (va_cwU 1 (gh_Mts M) (gh_gU q1375 q1323 q1330 q1322 q1854 q1353) rfl rfl rfl rfl ⟨by decide, by decide, rfl⟩ ⟨Nat.le_of_ble_eq_true rfl, Nat.le_of_ble_eq_true rfl⟩) (gh_preV (As := [va_rf x1]) M G (gh_rec M G haa2 rfl)) rfl rfl hl.1.1 rfl (lv_room (Nat.le_of_ble_eq_true rfl)) dJ2_indexOfRange_54 ⟨(Nat.le_of_ble_eq_true rfl), (Nat.le_of_ble_eq_true rfl)⟩) (gh_out M hex (by exact Nat.le_of_ble_eq_true rfl) (by exact Nat.le_of_ble_eq_true rfl)) (fun r3 h4 H locs hw G => ?_)
    refine lv_if_eq (tgt := 63) hx hb dJ2_indexOfRange_57 (by decide) (fun hc => ?_) (fun hc => ?_)
    · replace hw := hw.1 hc
      refine gh_iinc (k := 3) (v := (v5 + (1 : Int32))) (lv' := [(5, 1, .int (v5 + (1 : Int32))), (1, 1, va_rf (some a2)), (3, 1, .int v3), (4, 1, va_rf v4)]) hx hb dJ2_indexOfRange_63 hl rfl rfl (by decide) rfl (fun ls hl => ?_)
      refine lv_goto (tgt := 42) hx hb dJ2_indexOfRange_66 (by decide) ?_
      exact k42 (some a2) v3 v4 (v5 + (1 : Int32)) _ _ _ _ G (gh_sub hl [1, 2, 3, 0] rfl) hw
    · replace hw := hw.2 hc
      refine lv_iload hx hb dJ2_indexOfRange_60 (gh_at hl 3 rfl) ?_
      exact gh_iret M G hr rfl hw (by exact Nat.le_of_ble_eq_true rfl) (by exact Nat.le_of_ble_eq_true rfl) dJ2_indexOfRange_62
theorem wk_J2_indexOfRange_42 {D : gh_D} {p : Program} {l : Launch} {e : Env} {s : State} {m : MethodId} {args : Array Value} {below : List Frame} {meth : Method} {c : Code} {h0 : gh_H} (M : gh_M D p l s m args meth c RJ2 cJ2_indexOfRange 6 (gh_A h0 s.heap.size)) (hr : meth.sig.returnType = (some .int)) (hex : ∀ x ∈ c.exceptionTable.toList, False)   {Q : Int32 → gh_H → Prop} {X : String → gh_H → Prop}   : ∀ (n : Nat) (v1 : Option Nat) (v3 : Int32) (v4 : Option Nat) (v5 : Int32) (H : Heap) (locs : List Loc) (ls : Array Slot) (h : gh_H) (_ : gh_Inv D h0 (gh_A h0 s.heap.size) s.heap s H locs h) (_ : gh_L ls 6 [(1, 1, va_rf v1), (3, 1, .int v3), (4, 1, va_rf v4), (5, 1, .int v5)]) (_ : wl_J2_indexOfRange_42 D.2.2 Q X n v1 v3 v4 v5 h), W p l e rm_J2_indexOfRange s m args below meth c H locs 0 0 (vx_MQ below (gh_Qi Q D h0 s.heap.size) (gh_X X D h0 s.heap.size) args s 0 0 (gh_A h0 s.heap.size)) (F0 m 42 ls []) := by
  intro fu
  induction fu with
  | zero => intro v1 v3 v4 v5 H locs ls h G hl hw; exact False.elim hw
  | succ n1 ih =>
    intro v1 v3 v4 v5 H locs ls h G hl hw
    exact wk1_J2_indexOfRange_42 M hr hex ih  v1 v3 v4 v5 _ _ _ _ G hl hw
set_option maxHeartbeats 4000000 in
theorem wk1_J2_indexOfRange_13 {D : gh_D} {p : Program} {l : Launch} {e : Env} {s : State} {m : MethodId} {args : Array Value} {below : List Frame} {meth : Method} {c : Code} {h0 : gh_H} (M : gh_M D p l s m args meth c RJ2 cJ2_indexOfRange 6 (gh_A h0 s.heap.size)) (hr : meth.sig.returnType = (some .int)) (hex : ∀ x ∈ c.exceptionTable.toList, False) {K13 : Int32 → Option Nat → Int32 → gh_H → Prop}  {Q : Int32 → gh_H → Prop} {X : String → gh_H → Prop} (k13 : ∀ (v3 : Int32) (v4 : Option Nat) (v5 : Int32) (H : Heap) (locs : List Loc) (ls : Array Slot) (h : gh_H) (_ : gh_Inv D h0 (gh_A h0 s.heap.size) s.heap s H locs h) (_ : gh_L ls 6 [(3, 1, .int v3), (4, 1, va_rf v4), (5, 1, .int v5)]) (_ : K13 v3 v4 v5 h), W p l e rm_J2_indexOfRange s m args below meth c H locs 0 0 (vx_MQ below (gh_Qi Q D h0 s.heap.size) (gh_X X D h0 s.heap.size) args s 0 0 (gh_A h0 s.heap.size)) (F0 m 13 ls []))  (v3 : Int32) (v4 : Option Nat) (v5 : Int32) (H : Heap) (locs : List Loc) (ls : Array Slot) (h : gh_H) (G : gh_Inv D h0 (gh_A h0 s.heap.size) s.heap s H locs h) (hl : gh_L ls 6 [(3, 1, .int v3), (4, 1, va_rf v4), (5, 1, .int v5)]) (hw : wb_J2_indexOfRange_13 D.2.2 K13 Q X v3 v4 v5 h) : W p l e rm_J2_indexOfRange s m args below meth c H locs 0 0 (vx_MQ below (gh_Qi Q D h0 s.heap.size) (gh_X X D h0 s.heap.size) args s 0 0 (gh_A h0 s.heap.size)) (F0 m 13 ls []) := by
  unfold wb_J2_indexOfRange_13 at hw
  have hx := M.1.1
  have hb := M.1.2.1
  refine lv_iload hx hb dJ2_indexOfRange_13 (gh_at hl 2 rfl) ?_
  refine lv_iload_n hx hb dJ2_indexOfRange_15 rfl (gh_at hl 0 rfl) ?_
  refine lv_icmp_ge (tgt := 36) hx hb dJ2_indexOfRange_16 (by decide) (fun hc => ?_) (fun hc => ?_)
  · replace hw := hw.1 hc
    refine lv_goto (tgt := 69) hx hb dJ2_indexOfRange_36 (by decide) ?_
    exact wk_J2_indexOfRange_69 M hr hex   _ _ _ _ G (gh_sub hl [] rfl) hw
  · replace hw := hw.2 hc
    refine gh_aload hx hb dJ2_indexOfRange_19 (gh_at hl 1 rfl) ?_
    refine lv_iload hx hb dJ2_indexOfRange_21 (gh_at hl 2 rfl) ?_
    refine gh_ral M G hw dJ2_indexOfRange_23 (fun x1 hw => ?_)
    refine gh_ifnonnull (tgt := 30) hx hb dJ2_indexOfRange_24 (by decide) (fun hc => ?_) (fun hc => ?_)
    · replace hw := hw.2 hc
      refine gh_iinc (k := 2) (v := (v5 + (1 : Int32))) (lv' := [(5, 1, .int (v5 + (1 : Int32))), (3, 1, .int v3), (4, 1, va_rf v4)]) hx hb dJ2_indexOfRange_30 hl rfl rfl (by decide) rfl (fun ls hl => ?_)
      refine lv_goto (tgt := 13) hx hb dJ2_indexOfRange_33 (by decide) ?_
      exact k13 v3 v4 (v5 + (1 : Int32)) _ _ _ _ G (gh_sub hl [1, 2, 0] rfl) hw
    · replace hw := hw.1 hc
      refine lv_iload hx hb dJ2_indexOfRange_27 (gh_at hl 2 rfl) ?_
      exact gh_iret M G hr rfl hw (by exact Nat.le_of_ble_eq_true rfl) (by exact Nat.le_of_ble_eq_true rfl) dJ2_indexOfRange_29
theorem wk_J2_indexOfRange_13 {D : gh_D} {p : Program} {l : Launch} {e : Env} {s : State} {m : MethodId} {args : Array Value} {below : List Frame} {meth : Method} {c : Code} {h0 : gh_H} (M : gh_M D p l s m args meth c RJ2 cJ2_indexOfRange 6 (gh_A h0 s.heap.size)) (hr : meth.sig.returnType = (some .int)) (hex : ∀ x ∈ c.exceptionTable.toList, False)   {Q : Int32 → gh_H → Prop} {X : String → gh_H → Prop}   : ∀ (n : Nat) (v3 : Int32) (v4 : Option Nat) (v5 : Int32) (H : Heap) (locs : List Loc) (ls : Array Slot) (h : gh_H) (_ : gh_Inv D h0 (gh_A h0 s.heap.size) s.heap s H locs h) (_ : gh_L ls 6 [(3, 1, .int v3), (4, 1, va_rf v4), (5, 1, .int v5)]) (_ : wl_J2_indexOfRange_13 D.2.2 Q X n v3 v4 v5 h), W p l e rm_J2_indexOfRange s m args below meth c H locs 0 0 (vx_MQ below (gh_Qi Q D h0 s.heap.size) (gh_X X D h0 s.heap.size) args s 0 0 (gh_A h0 s.heap.size)) (F0 m 13 ls []) := by
  intro fu
  induction fu with
  | zero => intro v3 v4 v5 H locs ls h G hl hw; exact False.elim hw
  | succ n1 ih =>
    intro v3 v4 v5 H locs ls h G hl hw
    exact wk1_J2_indexOfRange_13 M hr hex ih  v3 v4 v5 _ _ _ _ G hl hw
set_option maxHeartbeats 4000000 in
theorem met_J2_indexOfRange (l : Launch) (D : gh_D) (v0 : Nat) (v1 : Option Nat) (v2 : Int32) (v3 : Int32) (Q : Int32 → gh_H → Prop) (X : String → gh_H → Prop) (h : gh_H) (sz : Nat) (hw : wp_J2_indexOfRange D.2.2 v0 v1 v2 v3 Q X h) (hst : l.stackTraces = false) : vx_Met l yJ2_indexOfRange (ws_ yJ2_indexOfRange cJ2_indexOfRange 6 (some .int)) rm_J2_indexOfRange (gh_Pc D h sz [.ref v0, va_rf v1, .int v2, .int v3]) (gh_Qi Q D h sz) (gh_X X D h sz) 0 0 (gh_A h sz) := by
  refine vx_ofW (by decide) rfl (fun p e s m args below meth c s₁ B hml hex hP => ?_)
  obtain ⟨rfl, rfl, hK, hT, hE, G⟩ := gh_start hP
  have M : gh_M D p l s m _ meth c RJ2 cJ2_indexOfRange 6 (gh_A h s.heap.size) := ⟨⟨B.exec, B.bytes, hml, findClass_of_methodNamed B.named, fun w hw => atoms_spec (ws := ws_ yJ2_indexOfRange cJ2_indexOfRange 6 (some .int)) B.pre w (List.mem_cons_of_mem _ hw)⟩, hK, hT, hE, B.notSynchronized, hst⟩
  have hr := B.returns
  have hx := M.1.1
  have hb := M.1.2.1
  refine gh_enter (vs := [(1, .ref v0), (1, va_rf v1), (1, .int v2), (1, .int v3)]) (gh_w1 rfl (gh_w1 (gh_cat _) (gh_w1 rfl (gh_w1 rfl gh_wn)))) (Nat.le_of_ble_eq_true rfl) (fun ls hl => ?_)
  replace hl : gh_L ls 6 [(0, 1, va_rf (some v0)), (1, 1, va_rf v1), (2, 1, .int v2), (3, 1, .int v3)] := hl
  unfold wp_J2_indexOfRange at hw
  refine gh_aload_n hx hb dJ2_indexOfRange_0 rfl (gh_at hl 0 rfl) ?_
  refine gh_getR M G hw fl_J2_9 dJ2_indexOfRange_1 (fun x1 hw => ?_)
  refine gh_astore (lv' := [(4, 1, va_rf x1), (0, 1, va_rf (some v0)), (1, 1, va_rf v1), (2, 1, .int v2), (3, 1, .int v3)]) hx hb dJ2_indexOfRange_4 hl (by decide) rfl (fun ls hl => ?_)
  refine gh_aload_n hx hb dJ2_indexOfRange_6 rfl (gh_at hl 2 rfl) ?_
  refine gh_ifnonnull (tgt := 39) hx hb dJ2_indexOfRange_7 (by decide) (fun hc => ?_) (fun hc => ?_)
  · replace hw := hw.2 hc
    refine lv_iload_n hx hb dJ2_indexOfRange_39 rfl (gh_at hl 3 rfl) ?_
    refine gh_istore (lv' := [(5, 1, .int v2), (4, 1, va_rf x1), (0, 1, va_rf (some v0)), (1, 1, va_rf v1), (2, 1, .int v2), (3, 1, .int v3)]) hx hb dJ2_indexOfRange_40 hl (by decide) rfl (fun ls hl => ?_)
    obtain ⟨n, hw⟩ := hw
    exact wk_J2_indexOfRange_42 M hr hex  n v1 v3 x1 v2 _ _ _ _ G (gh_sub hl [3, 5, 1, 0] rfl) hw
  · replace hw := hw.1 hc
    refine lv_iload_n hx hb dJ2_indexOfRange_10 rfl (gh_at hl 3 rfl) ?_
    refine gh_istore (lv' := [(5, 1, .int v2), (4, 1, va_rf x1), (0, 1, va_rf (some v0)), (1, 1, va_rf v1), (2, 1, .int v2), (3, 1, .int v3)]) hx hb dJ2_indexOfRange_11 hl (by decide) rfl (fun ls hl => ?_)
    obtain ⟨n, hw⟩ := hw
    exact wk_J2_indexOfRange_13 M hr hex  n v3 x1 v2 _ _ _ _ G (gh_sub hl [5, 1, 0] rfl) hw
/-! java/util/ArrayList.indexOf (Ljava/lang/Object;)I -/
def rm_J2_indexOf : Room := { frames := 3, cells := 0, slots := 0, locals := 86 }
def wp_J2_indexOf (κ : Nat → Nat) (v0 : Nat) (v1 : Option Nat) (Q : Int32 → gh_H → Prop) (X : String → gh_H → Prop) (h : gh_H) : Prop := (gh_GI h (some v0) [(8, 2)] (fun x1 => (gh_RC h (some v0) 8 (fun _ => (wp_J2_indexOfRange κ v0 v1 (0 : Int32) x1 (fun r3 h4 => (Q r3 h4)) X h)))))
set_option maxHeartbeats 4000000 in
theorem met_J2_indexOf (l : Launch) (D : gh_D) (v0 : Nat) (v1 : Option Nat) (Q : Int32 → gh_H → Prop) (X : String → gh_H → Prop) (h : gh_H) (sz : Nat) (hw : wp_J2_indexOf D.2.2 v0 v1 Q X h) (hst : l.stackTraces = false) : vx_Met l yJ2_indexOf (ws_ yJ2_indexOf cJ2_indexOf 2 (some .int)) rm_J2_indexOf (gh_Pc D h sz [.ref v0, va_rf v1]) (gh_Qi Q D h sz) (gh_X X D h sz) 0 0 (gh_A h sz) := by
  refine vx_ofW (by decide) rfl (fun p e s m args below meth c s₁ B hml hex hP => ?_)
  obtain ⟨rfl, rfl, hK, hT, hE, G⟩ := gh_start hP
  have M : gh_M D p l s m _ meth c RJ2 cJ2_indexOf 2 (gh_A h s.heap.size) := ⟨⟨B.exec, B.bytes, hml, findClass_of_methodNamed B.named, fun w hw => atoms_spec (ws := ws_ yJ2_indexOf cJ2_indexOf 2 (some .int)) B.pre w (List.mem_cons_of_mem _ hw)⟩, hK, hT, hE, B.notSynchronized, hst⟩
  have hr := B.returns
  have hx := M.1.1
  have hb := M.1.2.1
  refine gh_enter (vs := [(1, .ref v0), (1, va_rf v1)]) (gh_w1 rfl (gh_w1 (gh_cat _) gh_wn)) (Nat.le_of_ble_eq_true rfl) (fun ls hl => ?_)
  replace hl : gh_L ls 2 [(0, 1, va_rf (some v0)), (1, 1, va_rf v1)] := hl
  unfold wp_J2_indexOf at hw
  refine gh_aload_n hx hb dJ2_indexOf_0 rfl (gh_at hl 0 rfl) ?_
  refine gh_aload_n hx hb dJ2_indexOf_1 rfl (gh_at hl 1 rfl) ?_
  refine lv_iconst (v := (0 : Int32)) hx hb dJ2_indexOf_2 (by decide) ?_
  refine gh_aload_n hx hb dJ2_indexOf_3 rfl (gh_at hl 0 rfl) ?_
  refine gh_getI M G hw fl_J2_48 dJ2_indexOf_4 (fun x1 hw => ?_)
  obtain ⟨a2, lba2, fsa2, hra2, haa2, hw⟩ := hw
  rw [← Option.some.inj hra2] at haa2
  refine gh_ki G (vx_runV M.1 (met_J2_indexOfRange l D _ _ _ _ _ _ _ _ hw M.2.2.2.2.2) (cwV 3 (gh_Mts M) (lw_V q1371 q1372 q1373 q44 q1374) rfl rfl rfl ⟨rfl, by decide, by decide, rfl⟩ ⟨Nat.le_of_ble_eq_true rfl, Nat.le_of_ble_eq_true rfl⟩) (gh_preV (As := [va_rf v1, .int (0 : Int32), .int x1]) M G (gh_rec M G haa2 rfl)) rfl rfl hl.1.1 rfl (lv_room (Nat.le_of_ble_eq_true rfl)) dJ2_indexOf_7 ⟨(Nat.le_of_ble_eq_true rfl), (Nat.le_of_ble_eq_true rfl)⟩) (gh_out M hex (by exact Nat.le_of_ble_eq_true rfl) (by exact Nat.le_of_ble_eq_true rfl)) (fun r3 h4 H locs hw G => ?_)
  exact gh_iret M G hr rfl hw (by exact Nat.le_of_ble_eq_true rfl) (by exact Nat.le_of_ble_eq_true rfl) dJ2_indexOf_10
/-! BinderyDesk$Lot.isOutdated (LBinderyDesk$Content;)Z -/
def rm_X10_isOutdated : Room := { frames := 4, cells := 0, slots := 0, locals := 107 }
def wb_X10_isOutdated_33 (κ : Nat → Nat)  (Q : Int32 → gh_H → Prop) (X : String → gh_H → Prop) (t0 : Int32) (h : gh_H) : Prop := (narrow .boolean (.int t0) = .int t0 ∧ Q t0 h)
def wb_X10_isOutdated_32 (κ : Nat → Nat)  (Q : Int32 → gh_H → Prop) (X : String → gh_H → Prop)  (h : gh_H) : Prop := wb_X10_isOutdated_33 κ Q X (0 : Int32) h
def wp_X10_isOutdated (κ : Nat → Nat) (v0 : Nat) (v1 : Option Nat) (Q : Int32 → gh_H → Prop) (X : String → gh_H → Prop) (h : gh_H) : Prop := (gh_GR h (some v0) [(6, 1)] (fun x1 => (gh_RC h x1 8 (fun a2 => (wp_J2_indexOf κ a2 v1 (fun r3 h4 => ((r3 < 0 → wb_X10_isOutdated_32 κ Q X h4) ∧ (¬ r3 < 0 → (gh_GR h4 (some v0) [(6, 2)] (fun x5 => (gh_LI h4 x5 r3 (fun x6 => (gh_GI h4 v1 [(4, 1)] (fun x7 => ((x6 = x7 → wb_X10_isOutdated_32 κ Q X h4) ∧ (¬ x6 = x7 → wb_X10_isOutdated_33 κ Q X (1 : Int32) h4))))))))))) X h)))))
set_option maxHeartbeats 4000000 in
theorem wk_X10_isOutdated_33 {D : gh_D} {p : Program} {l : Launch} {e : Env} {s : State} {m : MethodId} {args : Array Value} {below : List Frame} {meth : Method} {c : Code} {h0 : gh_H} (M : gh_M D p l s m args meth c RX10 cX10_isOutdated 3 (gh_A h0 s.heap.size)) (hr : meth.sig.returnType = (some .boolean)) (hex : ∀ x ∈ c.exceptionTable.toList, False)   {Q : Int32 → gh_H → Prop} {X : String → gh_H → Prop}   (t0 : Int32) (H : Heap) (locs : List Loc) (ls : Array Slot) (h : gh_H) (G : gh_Inv D h0 (gh_A h0 s.heap.size) s.heap s H locs h) (hl : gh_L ls 3 []) (hw : wb_X10_isOutdated_33 D.2.2 Q X t0 h) : W p l e rm_X10_isOutdated s m args below meth c H locs 0 0 (vx_MQ below (gh_Qi Q D h0 s.heap.size) (gh_X X D h0 s.heap.size) args s 0 0 (gh_A h0 s.heap.size)) (F0 m 33 ls [.int t0]) := by
  unfold wb_X10_isOutdated_33 at hw
  have hx := M.1.1
  have hb := M.1.2.1
  exact gh_iret M G hr hw.1 hw.2 (by exact Nat.le_of_ble_eq_true rfl) (by exact Nat.le_of_ble_eq_true rfl) dX10_isOutdated_33
set_option maxHeartbeats 4000000 in
theorem wk_X10_isOutdated_32 {D : gh_D} {p : Program} {l : Launch} {e : Env} {s : State} {m : MethodId} {args : Array Value} {below : List Frame} {meth : Method} {c : Code} {h0 : gh_H} (M : gh_M D p l s m args meth c RX10 cX10_isOutdated 3 (gh_A h0 s.heap.size)) (hr : meth.sig.returnType = (some .boolean)) (hex : ∀ x ∈ c.exceptionTable.toList, False)   {Q : Int32 → gh_H → Prop} {X : String → gh_H → Prop}    (H : Heap) (locs : List Loc) (ls : Array Slot) (h : gh_H) (G : gh_Inv D h0 (gh_A h0 s.heap.size) s.heap s H locs h) (hl : gh_L ls 3 []) (hw : wb_X10_isOutdated_32 D.2.2 Q X h) : W p l e rm_X10_isOutdated s m args below meth c H locs 0 0 (vx_MQ below (gh_Qi Q D h0 s.heap.size) (gh_X X D h0 s.heap.size) args s 0 0 (gh_A h0 s.heap.size)) (F0 m 32 ls []) := by
  unfold wb_X10_isOutdated_32 at hw
  have hx := M.1.1
  have hb := M.1.2.1
  refine lv_iconst (v := (0 : Int32)) hx hb dX10_isOutdated_32 (by decide) ?_
  exact wk_X10_isOutdated_33 M hr hex  (0 : Int32) _ _ _ _ G (gh_sub hl [] rfl) hw
set_option maxHeartbeats 4000000 in
theorem met_X10_isOutdated (l : Launch) (D : gh_D) (v0 : Nat) (v1 : Option Nat) (Q : Int32 → gh_H → Prop) (X : String → gh_H → Prop) (h : gh_H) (sz : Nat) (hw : wp_X10_isOutdated D.2.2 v0 v1 Q X h) (hst : l.stackTraces = false) : vx_Met l yX10_isOutdated (ws_ yX10_isOutdated cX10_isOutdated 3 (some .boolean)) rm_X10_isOutdated (gh_Pc D h sz [.ref v0, va_rf v1]) (gh_Qi Q D h sz) (gh_X X D h sz) 0 0 (gh_A h sz) := by
  refine vx_ofW (by decide) rfl (fun p e s m args below meth c s₁ B hml hex hP => ?_)
  obtain ⟨rfl, rfl, hK, hT, hE, G⟩ := gh_start hP
  have M : gh_M D p l s m _ meth c RX10 cX10_isOutdated 3 (gh_A h s.heap.size) := ⟨⟨B.exec, B.bytes, hml, findClass_of_methodNamed B.named, fun w hw => atoms_spec (ws := ws_ yX10_isOutdated cX10_isOutdated 3 (some .boolean)) B.pre w (List.mem_cons_of_mem _ hw)⟩, hK, hT, hE, B.notSynchronized, hst⟩
  have hr := B.returns
  have hx := M.1.1
  have hb := M.1.2.1
  refine gh_enter (vs := [(1, .ref v0), (1, va_rf v1)]) (gh_w1 rfl (gh_w1 (gh_cat _) gh_wn)) (Nat.le_of_ble_eq_true rfl) (fun ls hl => ?_)
  replace hl : gh_L ls 3 [(0, 1, va_rf (some v0)), (1, 1, va_rf v1)] := hl
  unfold wp_X10_isOutdated at hw
  refine gh_aload_n hx hb dX10_isOutdated_0 rfl (gh_at hl 0 rfl) ?_
  refine gh_getR M G hw fl_X10_18 dX10_isOutdated_1 (fun x1 hw => ?_)
  refine gh_aload_n hx hb dX10_isOutdated_4 rfl (gh_at hl 1 rfl) ?_
  obtain ⟨a2, lba2, fsa2, rfl, haa2, hw⟩ := hw
  refine gh_kFi G (vx_runF (C := "java/util/ArrayList") (M.2.1.1.1 8 _ rfl).2 M.1 (met_J2_indexOf l D _ _ _ _ _ _ hw M.2.2.2.2.2) (va_cwF 1 (gh_Mts M) (gh_gF q1524 q1527 q1368 q44 q1370) rfl rfl rfl (M.2.2.1.2.1 _ (List.mem_of_getElem? (i := 13) rfl)) ⟨by decide, by decide, rfl⟩ ⟨Nat.le_of_ble_eq_true rfl, Nat.le_of_ble_eq_true rfl⟩) (gh_preV (As := [va_rf v1]) M G (gh_rec M G haa2 rfl)) rfl rfl hl.1.1 rfl (lv_room (Nat.le_of_ble_eq_true rfl)) dX10_isOutdated_5 ⟨(Nat.le_of_ble_eq_true rfl), (Nat.le_of_ble_eq_true rfl)⟩) (gh_out M hex (by exact Nat.le_of_ble_eq_true rfl) (by exact Nat.le_of_ble_eq_true rfl)) (fun r3 h4 H locs hw G => ?_)
  refine gh_istore_n (lv' := [(2, 1, .int r3), (0, 1, va_rf (some v0)), (1, 1, va_rf v1)]) hx hb dX10_isOutdated_10 rfl hl (by decide) rfl (fun ls hl => ?_)
  refine lv_iload_n hx hb dX10_isOutdated_11 rfl (gh_at hl 0 rfl) ?_
  refine lv_if_lt (tgt := 32) hx hb dX10_isOutdated_12 (by decide) (fun hc => ?_) (fun hc => ?_)
  · replace hw := hw.1 hc
    exact wk_X10_isOutdated_32 M hr hex   _ _ _ _ G (gh_sub hl [] rfl) hw
  · replace hw := hw.2 hc
    refine gh_aload_n hx hb dX10_isOutdated_15 rfl (gh_at hl 1 rfl) ?_
    refine gh_getR M G hw fl_X10_28 dX10_isOutdated_16 (fun x5 hw => ?_)
    refine lv_iload_n hx hb dX10_isOutdated_19 rfl (gh_at hl 0 rfl) ?_
    refine gh_ial M G hw dX10_isOutdated_20 (fun x6 hw => ?_)
    refine gh_aload_n hx hb dX10_isOutdated_21 rfl (gh_at hl 2 rfl) ?_
    refine gh_getI M G hw fl_X10_38 dX10_isOutdated_22 (fun x7 hw => ?_)
    refine lv_icmp_eq (tgt := 32) hx hb dX10_isOutdated_25 (by decide) (fun hc => ?_) (fun hc => ?_)
    · replace hw := hw.1 hc
      exact wk_X10_isOutdated_32 M hr hex   _ _ _ _ G (gh_sub hl [] rfl) hw
    · replace hw := hw.2 hc
      refine lv_iconst (v := (1 : Int32)) hx hb dX10_isOutdated_28 (by decide) ?_
      refine lv_goto (tgt := 33) hx hb dX10_isOutdated_29 (by decide) ?_
      exact wk_X10_isOutdated_33 M hr hex  (1 : Int32) _ _ _ _ G (gh_sub hl [] rfl) hw
/-! BinderyDesk.outdated (I)I -/
def rm_X1_outdated : Room := { frames := 8, cells := 68, slots := 406, locals := 142 }
def wb_X1_outdated_60 (κ : Nat → Nat) (K19 : Nat → Option Nat → Int32 → Option Nat → gh_H → Prop) (it19 : Nat) (Q : Int32 → gh_H → Prop) (X : String → gh_H → Prop) (v2 : Option Nat) (v4 : Option Nat) (t0 : Int32) (t1 : Int32) (h : gh_H) : Prop := K19 (it19 + 1) v2 (t0 + t1) v4 h
def wb_X1_outdated_19 (κ : Nat → Nat) (K19 : Nat → Option Nat → Int32 → Option Nat → gh_H → Prop) (it19 : Nat) (Q : Int32 → gh_H → Prop) (X : String → gh_H → Prop) (v2 : Option Nat) (v3 : Int32) (v4 : Option Nat) (h : gh_H) : Prop := (gh_RC h v4 9 (fun a1 => (wp_J19_hasNext κ a1 (fun r2 h3 => ((r2 = 0 → (Q v3 h3)) ∧ (¬ r2 = 0 → (gh_RC h3 (some a1) 9 (fun _ => (wp_J19_next κ a1 (fun r5 h6 => (gh_CK h6 r5 [6] (gh_RC h6 r5 6 (fun a7 => (wp_X10_isOutdated κ a7 v2 (fun r8 h9 => ((r8 = 0 → wb_X1_outdated_60 κ K19 it19 Q X v2 (some a1) v3 (0 : Int32) h9) ∧ (¬ r8 = 0 → (gh_GI h9 (some a7) [(6, 0)] (fun x10 => wb_X1_outdated_60 κ K19 it19 Q X v2 (some a1) v3 x10 h9))))) X h6))))) X h3)))))) X h)))
def wl_X1_outdated_19 (κ : Nat → Nat)  (Q : Int32 → gh_H → Prop) (X : String → gh_H → Prop) : Nat → Nat → Option Nat → Int32 → Option Nat → gh_H → Prop
  | 0 => fun _ _ _ _ _ => False
  | n + 1 => fun it19 v2 v3 v4 h => it19 ≤ 65 ∧ wb_X1_outdated_19 κ (wl_X1_outdated_19 κ Q X n) it19 Q X v2 v3 v4 h
def wp_X1_outdated (κ : Nat → Nat) (v0 : Nat) (v1 : Int32) (Q : Int32 → gh_H → Prop) (X : String → gh_H → Prop) (h : gh_H) : Prop := (gh_RC h (some v0) 0 (fun _ => (wp_X1_contentNumbered κ v0 v1 (fun r2 h3 => (gh_GR h3 (some v0) [(0, 3)] (fun x4 => (gh_RC h3 x4 8 (fun a5 => (wp_J2_iterator κ a5 (fun r6 h7 => (∃ n : Nat, wl_X1_outdated_19 κ Q X n 0 r2 (0 : Int32) r6 h7)) X h3)))))) X h)))
set_option maxHeartbeats 4000000 in
theorem wk_X1_outdated_60 {D : gh_D} {p : Program} {l : Launch} {e : Env} {s : State} {m : MethodId} {args : Array Value} {below : List Frame} {meth : Method} {c : Code} {h0 : gh_H} (M : gh_M D p l s m args meth c RX1 cX1_outdated 6 (gh_A h0 s.heap.size)) (hr : meth.sig.returnType = (some .int)) (hex : ∀ x ∈ c.exceptionTable.toList, False) {K19 : Nat → Option Nat → Int32 → Option Nat → gh_H → Prop} {it19 : Nat} {Q : Int32 → gh_H → Prop} {X : String → gh_H → Prop} (k19 : ∀ (it19 : Nat) (v2 : Option Nat) (v3 : Int32) (v4 : Option Nat) (H : Heap) (locs : List Loc) (ls : Array Slot) (h : gh_H) (_ : gh_Inv D h0 (gh_A h0 s.heap.size) s.heap s H locs h) (_ : gh_L ls 6 [(2, 1, va_rf v2), (3, 1, .int v3), (4, 1, va_rf v4)]) (_ : K19 it19 v2 v3 v4 h), W p l e rm_X1_outdated s m args below meth c H locs (2 + it19 * 1) (10 + it19 * 6) (vx_MQ below (gh_Qi Q D h0 s.heap.size) (gh_X X D h0 s.heap.size) args s 68 406 (gh_A h0 s.heap.size)) (F0 m 19 ls [])) (hit19 : it19 ≤ 65) (v2 : Option Nat) (v4 : Option Nat) (t0 : Int32) (t1 : Int32) (H : Heap) (locs : List Loc) (ls : Array Slot) (h : gh_H) (G : gh_Inv D h0 (gh_A h0 s.heap.size) s.heap s H locs h) (hl : gh_L ls 6 [(2, 1, va_rf v2), (4, 1, va_rf v4)]) (hw : wb_X1_outdated_60 D.2.2 K19 it19 Q X v2 v4 t0 t1 h) : W p l e rm_X1_outdated s m args below meth c H locs (3 + it19 * 1) (16 + it19 * 6) (vx_MQ below (gh_Qi Q D h0 s.heap.size) (gh_X X D h0 s.heap.size) args s 68 406 (gh_A h0 s.heap.size)) (F0 m 60 ls [.int t1, .int t0]) := by
  unfold wb_X1_outdated_60 at hw
  have hx := M.1.1
  have hb := M.1.2.1
  refine lv_iadd hx hb dX1_outdated_60 ?_
  refine gh_istore_n (lv' := [(3, 1, .int (t0 + t1)), (2, 1, va_rf v2), (4, 1, va_rf v4)]) hx hb dX1_outdated_61 rfl hl (by decide) rfl (fun ls hl => ?_)
  refine lv_goto (tgt := 19) hx hb dX1_outdated_62 (by decide) ?_
  refine W.widen (k := 2 + (it19 + 1) * 1) (n := 10 + (it19 + 1) * 6) (by omega) (by omega) ?_
  exact k19 (it19 + 1) v2 (t0 + t1) v4 _ _ _ _ G (gh_sub hl [1, 0, 2] rfl) hw
set_option maxHeartbeats 4000000 in
theorem wk1_X1_outdated_19 {D : gh_D} {p : Program} {l : Launch} {e : Env} {s : State} {m : MethodId} {args : Array Value} {below : List Frame} {meth : Method} {c : Code} {h0 : gh_H} (M : gh_M D p l s m args meth c RX1 cX1_outdated 6 (gh_A h0 s.heap.size)) (hr : meth.sig.returnType = (some .int)) (hex : ∀ x ∈ c.exceptionTable.toList, False) {K19 : Nat → Option Nat → Int32 → Option Nat → gh_H → Prop} {it19 : Nat} {Q : Int32 → gh_H → Prop} {X : String → gh_H → Prop} (k19 : ∀ (it19 : Nat) (v2 : Option Nat) (v3 : Int32) (v4 : Option Nat) (H : Heap) (locs : List Loc) (ls : Array Slot) (h : gh_H) (_ : gh_Inv D h0 (gh_A h0 s.heap.size) s.heap s H locs h) (_ : gh_L ls 6 [(2, 1, va_rf v2), (3, 1, .int v3), (4, 1, va_rf v4)]) (_ : K19 it19 v2 v3 v4 h), W p l e rm_X1_outdated s m args below meth c H locs (2 + it19 * 1) (10 + it19 * 6) (vx_MQ below (gh_Qi Q D h0 s.heap.size) (gh_X X D h0 s.heap.size) args s 68 406 (gh_A h0 s.heap.size)) (F0 m 19 ls [])) (hit19 : it19 ≤ 65) (v2 : Option Nat) (v3 : Int32) (v4 : Option Nat) (H : Heap) (locs : List Loc) (ls : Array Slot) (h : gh_H) (G : gh_Inv D h0 (gh_A h0 s.heap.size) s.heap s H locs h) (hl : gh_L ls 6 [(2, 1, va_rf v2), (3, 1, .int v3), (4, 1, va_rf v4)]) (hw : wb_X1_outdated_19 D.2.2 K19 it19 Q X v2 v3 v4 h) : W p l e rm_X1_outdated s m args below meth c H locs (2 + it19 * 1) (10 + it19 * 6) (vx_MQ below (gh_Qi Q D h0 s.heap.size) (gh_X X D h0 s.heap.size) args s 68 406 (gh_A h0 s.heap.size)) (F0 m 19 ls []) := by
  unfold wb_X1_outdated_19 at hw
  have hx := M.1.1
  have hb := M.1.2.1
  refine gh_aload hx hb dX1_outdated_19 (gh_at hl 2 rfl) ?_
  obtain ⟨a1, lba1, fsa1, rfl, haa1, hw⟩ := hw
  refine gh_kFi G (vx_runF (C := "java/util/ArrayList$Itr") (M.2.1.1.1 9 _ rfl).2 M.1 (met_J19_hasNext l D _ _ _ _ _ hw M.2.2.2.2.2) (va_cwF 0 (gh_Mts M) (gh_gF q564 q568 q570 q66 q572) rfl rfl rfl (M.2.2.1.2.1 _ (List.mem_of_getElem? (i := 1) rfl)) ⟨by decide, by decide, rfl⟩ ⟨Nat.le_of_ble_eq_true rfl, Nat.le_of_ble_eq_true rfl⟩) (gh_preV (As := []) M G (gh_rec M G haa1 rfl)) rfl rfl hl.1.1 rfl (lv_room (Nat.le_of_ble_eq_true rfl)) dX1_outdated_21 ⟨(by show _ ≤ 68; omega), (by show _ ≤ 406; omega)⟩) (gh_out M hex (by omega) (by omega)) (fun r2 h3 H locs hw G => ?_)
  refine W.widen (k := 2 + it19 * 1) (n := 10 + it19 * 6) (by omega) (by omega) ?_
  refine lv_if_eq (tgt := 65) hx hb dX1_outdated_26 (by decide) (fun hc => ?_) (fun hc => ?_)
  · replace hw := hw.1 hc
    refine lv_iload_n hx hb dX1_outdated_65 rfl (gh_at hl 1 rfl) ?_
    exact gh_iret M G hr rfl hw (by omega) (by omega) dX1_outdated_66
  · replace hw := hw.2 hc
    refine gh_aload hx hb dX1_outdated_29 (gh_at hl 2 rfl) ?_
    obtain ⟨a4, lba4, fsa4, hra4, haa4, hw⟩ := hw
    rw [← Option.some.inj hra4] at haa4
    refine gh_kFq G (vx_runF (C := "java/util/ArrayList$Itr") (M.2.1.1.1 9 _ rfl).2 M.1 (met_J19_next l D _ _ _ _ _ hw M.2.2.2.2.2) (va_cwF 0 (gh_Mts M) (gh_gF q580 q583 q585 q66 q587) rfl rfl rfl (M.2.2.1.2.1 _ (List.mem_of_getElem? (i := 2) rfl)) ⟨by decide, by decide, rfl⟩ ⟨Nat.le_of_ble_eq_true rfl, Nat.le_of_ble_eq_true rfl⟩) (gh_preV (As := []) M G (gh_rec M G haa4 rfl)) rfl rfl hl.1.1 rfl (lv_room (Nat.le_of_ble_eq_true rfl)) dX1_outdated_31 ⟨(by show _ ≤ 68; omega), (by show _ ≤ 406; omega)⟩) (gh_out M hex (by omega) (by omega)) (fun r5 h6 H locs hw G => ?_)
    refine W.widen (k := 3 + it19 * 1) (n := 16 + it19 * 6) (by omega) (by omega) ?_
    refine gh_cast (cis := [6]) M G hw q1411 (List.forall_mem_cons.mpr ⟨⟨_, rfl, Or.inl ⟨rfl, rfl⟩⟩, fun _ h => absurd h List.not_mem_nil⟩) dX1_outdated_36 (fun hw => ?_)
    refine gh_astore (lv' := [(5, 1, va_rf r5), (2, 1, va_rf v2), (3, 1, .int v3), (4, 1, va_rf (some a1))]) hx hb dX1_outdated_39 hl (by decide) rfl (fun ls hl => ?_)
    refine lv_iload_n hx hb dX1_outdated_41 rfl (gh_at hl 2 rfl) ?_
    refine gh_aload hx hb dX1_outdated_42 (gh_at hl 0 rfl) ?_
    refine gh_aload_n hx hb dX1_outdated_44 rfl (gh_at hl 1 rfl) ?_
    obtain ⟨a7, lba7, fsa7, rfl, haa7, hw⟩ := hw
    refine gh_ki G (vx_runV M.1 (met_X10_isOutdated l D _ _ _ _ _ _ hw M.2.2.2.2.2) (cwV 1 (gh_Mts M) (lw_V q1519 q1520 q1521 q83 q1522) rfl rfl rfl ⟨rfl, by decide, by decide, rfl⟩ ⟨Nat.le_of_ble_eq_true rfl, Nat.le_of_ble_eq_true rfl⟩) (gh_preV (As := [va_rf v2]) M G (gh_rec M G haa7 rfl)) rfl rfl hl.1.1 rfl (lv_room (Nat.le_of_ble_eq_true rfl)) dX1_outdated_45 ⟨(by show _ ≤ 68; omega), (by show _ ≤ 406; omega)⟩) (gh_out M hex (by omega) (by omega)) (fun r8 h9 H locs hw G => ?_)
    refine W.widen (k := 3 + it19 * 1) (n := 16 + it19 * 6) (by omega) (by omega) ?_
    refine lv_if_eq (tgt := 59) hx hb dX1_outdated_48 (by decide) (fun hc => ?_) (fun hc => ?_)
    · replace hw := hw.1 hc
      refine lv_iconst (v := (0 : Int32)) hx hb dX1_outdated_59 (by decide) ?_
      exact wk_X1_outdated_60 M hr hex k19 hit19 v2 (some a1) v3 (0 : Int32) _ _ _ _ G (gh_sub hl [1, 3] rfl) hw
    · replace hw := hw.2 hc
      refine gh_aload hx hb dX1_outdated_51 (gh_at hl 0 rfl) ?_
      refine gh_getI M G hw fl_X1_254 dX1_outdated_53 (fun x10 hw => ?_)
      refine lv_goto (tgt := 60) hx hb dX1_outdated_56 (by decide) ?_
      exact wk_X1_outdated_60 M hr hex k19 hit19 v2 (some a1) v3 x10 _ _ _ _ G (gh_sub hl [1, 3] rfl) hw
theorem wk_X1_outdated_19 {D : gh_D} {p : Program} {l : Launch} {e : Env} {s : State} {m : MethodId} {args : Array Value} {below : List Frame} {meth : Method} {c : Code} {h0 : gh_H} (M : gh_M D p l s m args meth c RX1 cX1_outdated 6 (gh_A h0 s.heap.size)) (hr : meth.sig.returnType = (some .int)) (hex : ∀ x ∈ c.exceptionTable.toList, False)   {Q : Int32 → gh_H → Prop} {X : String → gh_H → Prop}   : ∀ (n : Nat) (it19 : Nat) (v2 : Option Nat) (v3 : Int32) (v4 : Option Nat) (H : Heap) (locs : List Loc) (ls : Array Slot) (h : gh_H) (_ : gh_Inv D h0 (gh_A h0 s.heap.size) s.heap s H locs h) (_ : gh_L ls 6 [(2, 1, va_rf v2), (3, 1, .int v3), (4, 1, va_rf v4)]) (_ : wl_X1_outdated_19 D.2.2 Q X n it19 v2 v3 v4 h), W p l e rm_X1_outdated s m args below meth c H locs (2 + it19 * 1) (10 + it19 * 6) (vx_MQ below (gh_Qi Q D h0 s.heap.size) (gh_X X D h0 s.heap.size) args s 68 406 (gh_A h0 s.heap.size)) (F0 m 19 ls []) := by
  intro fu
  induction fu with
  | zero => intro it19 v2 v3 v4 H locs ls h G hl hw; exact False.elim hw
  | succ n1 ih =>
    intro it19 v2 v3 v4 H locs ls h G hl hw
    obtain ⟨hi, hw⟩ := hw
    exact wk1_X1_outdated_19 M hr hex ih hi v2 v3 v4 _ _ _ _ G hl hw
set_option maxHeartbeats 4000000 in
theorem met_X1_outdated (l : Launch) (D : gh_D) (v0 : Nat) (v1 : Int32) (Q : Int32 → gh_H → Prop) (X : String → gh_H → Prop) (h : gh_H) (sz : Nat) (hw : wp_X1_outdated D.2.2 v0 v1 Q X h) (hst : l.stackTraces = false) : vx_Met l yX1_outdated (ws_ yX1_outdated cX1_outdated 6 (some .int)) rm_X1_outdated (gh_Pc D h sz [.ref v0, .int v1]) (gh_Qi Q D h sz) (gh_X X D h sz) 68 406 (gh_A h sz) := by
  refine vx_ofW (by decide) rfl (fun p e s m args below meth c s₁ B hml hex hP => ?_)
  obtain ⟨rfl, rfl, hK, hT, hE, G⟩ := gh_start hP
  have M : gh_M D p l s m _ meth c RX1 cX1_outdated 6 (gh_A h s.heap.size) := ⟨⟨B.exec, B.bytes, hml, findClass_of_methodNamed B.named, fun w hw => atoms_spec (ws := ws_ yX1_outdated cX1_outdated 6 (some .int)) B.pre w (List.mem_cons_of_mem _ hw)⟩, hK, hT, hE, B.notSynchronized, hst⟩
  have hr := B.returns
  have hx := M.1.1
  have hb := M.1.2.1
  refine gh_enter (vs := [(1, .ref v0), (1, .int v1)]) (gh_w1 rfl (gh_w1 rfl gh_wn)) (Nat.le_of_ble_eq_true rfl) (fun ls hl => ?_)
  replace hl : gh_L ls 6 [(0, 1, va_rf (some v0)), (1, 1, .int v1)] := hl
  unfold wp_X1_outdated at hw
  refine gh_aload_n hx hb dX1_outdated_0 rfl (gh_at hl 0 rfl) ?_
  refine lv_iload_n hx hb dX1_outdated_1 rfl (gh_at hl 1 rfl) ?_
  obtain ⟨a1, lba1, fsa1, hra1, haa1, hw⟩ := hw
  rw [← Option.some.inj hra1] at haa1
  refine gh_kq G (vx_runV M.1 (met_X1_contentNumbered l D _ _ _ _ _ _ hw M.2.2.2.2.2) (cwV 1 (gh_Mts M) (lw_V q476 q478 qs4 q41 q479) rfl rfl rfl ⟨rfl, by decide, by decide, rfl⟩ ⟨Nat.le_of_ble_eq_true rfl, Nat.le_of_ble_eq_true rfl⟩) (gh_preV (As := [.int v1]) M G (gh_rec M G haa1 rfl)) rfl rfl hl.1.1 rfl (lv_room (Nat.le_of_ble_eq_true rfl)) dX1_outdated_2 ⟨(Nat.le_of_ble_eq_true rfl), (Nat.le_of_ble_eq_true rfl)⟩) (gh_out M hex (by exact Nat.le_of_ble_eq_true rfl) (by exact Nat.le_of_ble_eq_true rfl)) (fun r2 h3 H locs hw G => ?_)
  refine gh_astore_n (lv' := [(2, 1, va_rf r2), (0, 1, va_rf (some v0)), (1, 1, .int v1)]) hx hb dX1_outdated_5 rfl hl (by decide) rfl (fun ls hl => ?_)
  refine lv_iconst (v := (0 : Int32)) hx hb dX1_outdated_6 (by decide) ?_
  refine gh_istore_n (lv' := [(3, 1, .int (0 : Int32)), (2, 1, va_rf r2), (0, 1, va_rf (some v0)), (1, 1, .int v1)]) hx hb dX1_outdated_7 rfl hl (by decide) rfl (fun ls hl => ?_)
  refine gh_aload_n hx hb dX1_outdated_8 rfl (gh_at hl 2 rfl) ?_
  refine gh_getR M G hw fl_X1_37 dX1_outdated_9 (fun x4 hw => ?_)
  obtain ⟨a5, lba5, fsa5, rfl, haa5, hw⟩ := hw
  refine gh_kFq G (vx_runF (C := "java/util/ArrayList") (M.2.1.1.1 8 _ rfl).2 M.1 (met_J2_iterator l D _ _ _ _ _ hw M.2.2.2.2.2) (va_cwF 0 (gh_Mts M) (gh_gF q536 q539 q541 q44 q543) rfl rfl rfl (M.2.2.1.2.1 _ (List.mem_of_getElem? (i := 7) rfl)) ⟨by decide, by decide, rfl⟩ ⟨Nat.le_of_ble_eq_true rfl, Nat.le_of_ble_eq_true rfl⟩) (gh_preV (As := []) M G (gh_rec M G haa5 rfl)) rfl rfl hl.1.1 rfl (lv_room (Nat.le_of_ble_eq_true rfl)) dX1_outdated_12 ⟨(Nat.le_of_ble_eq_true rfl), (Nat.le_of_ble_eq_true rfl)⟩) (gh_out M hex (by exact Nat.le_of_ble_eq_true rfl) (by exact Nat.le_of_ble_eq_true rfl)) (fun r6 h7 H locs hw G => ?_)
  refine gh_astore (lv' := [(4, 1, va_rf r6), (3, 1, .int (0 : Int32)), (2, 1, va_rf r2), (0, 1, va_rf (some v0)), (1, 1, .int v1)]) hx hb dX1_outdated_17 hl (by decide) rfl (fun ls hl => ?_)
  obtain ⟨n, hw⟩ := hw
  refine W.widen (k := 2 + 0 * 1) (n := 10 + 0 * 6) (by omega) (by omega) ?_
  exact wk_X1_outdated_19 M hr hex  n 0 r2 (0 : Int32) r6 _ _ _ _ G (gh_sub hl [2, 1, 0] rfl) hw
/-! BinderyDeskLaw.outdated (LBinderyDesk;I[J)I -/
def rm_X0_outdated : Room := { frames := 9, cells := 68, slots := 406, locals := 167 }
def wb_X0_outdated_12 (κ : Nat → Nat)  (Q : Int32 → gh_H → Prop) (X : String → gh_H → Prop) (t0 : Option Nat) (h : gh_H) : Prop := (Q (1 : Int32) h)
def wp_X0_outdated (κ : Nat → Nat) (v0 : Option Nat) (v1 : Int32) (v2 : Option Nat) (Q : Int32 → gh_H → Prop) (X : String → gh_H → Prop) (h : gh_H) : Prop := (gh_RC h v0 0 (fun a1 => (wp_X1_outdated κ a1 v1 (fun r2 h3 => (gh_SJ h3 v2 (0 : Int32) (r2.toInt64) (fun h4 => (Q (0 : Int32) h4)))) (fun E h9 => (E = "java/lang/IndexOutOfBoundsException" ∧ ∀ q9 : Nat, wb_X0_outdated_12 κ Q X (some q9) h9)) h)))
set_option maxHeartbeats 4000000 in
theorem wk_X0_outdated_12 {D : gh_D} {p : Program} {l : Launch} {e : Env} {s : State} {m : MethodId} {args : Array Value} {below : List Frame} {meth : Method} {c : Code} {h0 : gh_H} (M : gh_M D p l s m args meth c RX0 cX0_outdated 4 (gh_A h0 s.heap.size)) (hr : meth.sig.returnType = (some .int)) (htab : c.exceptionTable.toList = tableOf [(0, 9, 12, 19)])   {Q : Int32 → gh_H → Prop} {X : String → gh_H → Prop}   (t0 : Option Nat) (H : Heap) (locs : List Loc) (ls : Array Slot) (h : gh_H) (G : gh_Inv D h0 (gh_A h0 s.heap.size) s.heap s H locs h) (hl : gh_L ls 4 []) (hw : wb_X0_outdated_12 D.2.2 Q X t0 h) : W p l e rm_X0_outdated s m args below meth c H locs 68 406 (vx_MQ below (gh_Qi Q D h0 s.heap.size) (gh_X X D h0 s.heap.size) args s 68 406 (gh_A h0 s.heap.size)) (F0 m 12 ls [va_rf t0]) := by
  unfold wb_X0_outdated_12 at hw
  have hx := M.1.1
  have hb := M.1.2.1
  refine gh_astore_n (lv' := [(3, 1, va_rf t0)]) hx hb dX0_outdated_12 rfl hl (by decide) rfl (fun ls hl => ?_)
  refine lv_iconst (v := (1 : Int32)) hx hb dX0_outdated_13 (by decide) ?_
  exact gh_iret M G hr rfl hw (by exact Nat.le_of_ble_eq_true rfl) (by exact Nat.le_of_ble_eq_true rfl) dX0_outdated_14
set_option maxHeartbeats 4000000 in
theorem met_X0_outdated (l : Launch) (D : gh_D) (v0 : Option Nat) (v1 : Int32) (v2 : Option Nat) (Q : Int32 → gh_H → Prop) (X : String → gh_H → Prop) (h : gh_H) (sz : Nat) (hw : wp_X0_outdated D.2.2 v0 v1 v2 Q X h) (hst : l.stackTraces = false) : vx_Met l yX0_outdated (wsW_ yX0_outdated cX0_outdated 4 (some .int) [(0, 9, 12, 19)]) rm_X0_outdated (gh_Pc D h sz [va_rf v0, .int v1, va_rf v2]) (gh_Qi Q D h sz) (gh_X X D h sz) 68 406 (gh_A h sz) := by
  refine vx_ofWH (by decide) rfl (fun p e s m args below meth c s₁ B hml hP => ?_)
  have htab := vx_table (x := yX0_outdated) B (atoms_spec (ws := wsW_ yX0_outdated cX0_outdated 4 (some .int) [(0, 9, 12, 19)]) B.pre _ List.mem_cons_self)
  obtain ⟨rfl, rfl, hK, hT, hE, G⟩ := gh_start hP
  have M : gh_M D p l s m _ meth c RX0 cX0_outdated 4 (gh_A h s.heap.size) := ⟨⟨B.exec, B.bytes, hml, findClass_of_methodNamed B.named, fun w hw => atoms_spec (ws := wsW_ yX0_outdated cX0_outdated 4 (some .int) [(0, 9, 12, 19)]) B.pre w (List.mem_cons_of_mem _ hw)⟩, hK, hT, hE, B.notSynchronized, hst⟩
  have hr := B.returns
  have hx := M.1.1
  have hb := M.1.2.1
  refine gh_enter (vs := [(1, va_rf v0), (1, .int v1), (1, va_rf v2)]) (gh_w1 (gh_cat _) (gh_w1 rfl (gh_w1 (gh_cat _) gh_wn))) (Nat.le_of_ble_eq_true rfl) (fun ls hl => ?_)
  replace hl : gh_L ls 4 [(0, 1, va_rf v0), (1, 1, .int v1), (2, 1, va_rf v2)] := hl
  unfold wp_X0_outdated at hw
  refine gh_aload_n hx hb dX0_outdated_0 rfl (gh_at hl 2 rfl) ?_
  refine lv_iconst (v := (0 : Int32)) hx hb dX0_outdated_1 (by decide) ?_
  refine gh_aload_n hx hb dX0_outdated_2 rfl (gh_at hl 0 rfl) ?_
  refine lv_iload_n hx hb dX0_outdated_3 rfl (gh_at hl 1 rfl) ?_
  obtain ⟨a1, lba1, fsa1, rfl, haa1, hw⟩ := hw
  refine gh_ki G (vx_runV M.1 (met_X1_outdated l D _ _ _ _ _ _ hw M.2.2.2.2.2) (cwV 1 (gh_Mts M) (lw_V q1515 q1516 q1517 q41 q1518) rfl rfl rfl ⟨rfl, by decide, by decide, rfl⟩ ⟨Nat.le_of_ble_eq_true rfl, Nat.le_of_ble_eq_true rfl⟩) (gh_preV (As := [.int v1]) M G (gh_rec M G haa1 rfl)) rfl rfl hl.1.1 rfl (lv_room (Nat.le_trans (gh_r1 rfl (gh_r1 (gh_cat _) gh_r0)) (Nat.le_of_ble_eq_true rfl : 2 ≤ 8))) dX0_outdated_4 ⟨(Nat.le_of_ble_eq_true rfl), (Nat.le_of_ble_eq_true rfl)⟩) (fun E ce q9 h9 H locs hX G hce hcv hcl => ?_) (fun r2 h3 H locs hw G => ?_)
  · obtain ⟨rfl, hX⟩ := hX
    · replace hw := hX q9
      refine vx_catch (name := "java/lang/IndexOutOfBoundsException") M.1.2.2.2.1 (tableOf []) ⟨0, 9, 12, 19⟩ (tableOf []) (htab.trans rfl) (fun _ h => absurd h List.not_mem_nil) (by decide) (by decide) (gh_Mts M _ q439) (va_Nw.use rfl (M.2.2.1.1 _ (List.mem_of_getElem? (i := 8) rfl))) hce hcv hcl ?_
      exact wk_X0_outdated_12 M hr htab  (some q9) _ _ _ _ G (gh_sub hl [] rfl) hw
  · refine lv_i2l (v := (r2.toInt64)) hx hb dX0_outdated_7 rfl ?_
    refine gh_jas M G hw dX0_outdated_8 (fun h4 H locs hw G => ?_)
    refine lv_goto (tgt := 15) hx hb dX0_outdated_9 (by decide) ?_
    refine lv_iconst (v := (0 : Int32)) hx hb dX0_outdated_15 (by decide) ?_
    exact gh_iret M G hr rfl hw (by exact Nat.le_of_ble_eq_true rfl) (by exact Nat.le_of_ble_eq_true rfl) dX0_outdated_16
/-! BinderyDeskModel.outdated (I)I -/
def rm_X3_outdated : Room := { frames := 3, cells := 0, slots := 0, locals := 83 }
def wb_X3_outdated_115 (κ : Nat → Nat) (K14 : Nat → Int32 → Int32 → Int32 → gh_H → Prop) (Q : Int32 → gh_H → Prop) (X : String → gh_H → Prop) (v0 : Nat) (v1 : Int32) (v3 : Int32) (t0 : Int32) (t1 : Int32) (h : gh_H) : Prop := K14 v0 v1 (t0 + t1) (v3 + (1 : Int32)) h
def wb_X3_outdated_91 (κ : Nat → Nat) (K14 : Nat → Int32 → Int32 → Int32 → gh_H → Prop) (K28 : Nat → Int32 → Int32 → Int32 → Int32 → Int32 → gh_H → Prop) (Q : Int32 → gh_H → Prop) (X : String → gh_H → Prop) (v0 : Nat) (v1 : Int32) (v2 : Int32) (v3 : Int32) (v5 : Int32) (t0 : Int32) (h : gh_H) : Prop := K28 v0 v1 v2 v3 t0 (v5 + (1 : Int32)) h
def wb_X3_outdated_86 (κ : Nat → Nat) (K14 : Nat → Int32 → Int32 → Int32 → gh_H → Prop) (K28 : Nat → Int32 → Int32 → Int32 → Int32 → Int32 → gh_H → Prop) (Q : Int32 → gh_H → Prop) (X : String → gh_H → Prop) (v0 : Nat) (v1 : Int32) (v2 : Int32) (v3 : Int32) (v5 : Int32) (h : gh_H) : Prop := wb_X3_outdated_91 κ K14 K28 Q X v0 v1 v2 v3 v5 (1 : Int32) h
def wb_X3_outdated_90 (κ : Nat → Nat) (K14 : Nat → Int32 → Int32 → Int32 → gh_H → Prop) (K28 : Nat → Int32 → Int32 → Int32 → Int32 → Int32 → gh_H → Prop) (Q : Int32 → gh_H → Prop) (X : String → gh_H → Prop) (v0 : Nat) (v1 : Int32) (v2 : Int32) (v3 : Int32) (v5 : Int32) (h : gh_H) : Prop := wb_X3_outdated_91 κ K14 K28 Q X v0 v1 v2 v3 v5 (0 : Int32) h
def wb_X3_outdated_28 (κ : Nat → Nat) (K14 : Nat → Int32 → Int32 → Int32 → gh_H → Prop) (K28 : Nat → Int32 → Int32 → Int32 → Int32 → Int32 → gh_H → Prop) (Q : Int32 → gh_H → Prop) (X : String → gh_H → Prop) (v0 : Nat) (v1 : Int32) (v2 : Int32) (v3 : Int32) (v4 : Int32) (v5 : Int32) (h : gh_H) : Prop := (gh_GR h (some v0) [(1, 24)] (fun x1 => (gh_LI h x1 v3 (fun x2 => ((x2 ≤ v5 → ((v4 = 0 → wb_X3_outdated_115 κ K14 Q X v0 v1 v3 v2 (0 : Int32) h) ∧ (¬ v4 = 0 → (gh_GR h (some v0) [(1, 23)] (fun x3 => (gh_LI h x3 v3 (fun x4 => wb_X3_outdated_115 κ K14 Q X v0 v1 v3 v2 x4 h))))))) ∧ (¬ x2 ≤ v5 → ((v4 = 0 → (gh_GR h (some v0) [(1, 15)] (fun x5 => (gh_GR h (some v0) [(1, 22)] (fun x6 => (gh_LI h x6 v3 (fun x7 => (gh_LI h x5 (((16 : Int32) * x7) + v5) (fun x8 => ((x8 = v1 → (gh_GR h (some v0) [(1, 25)] (fun x9 => (gh_LI h x9 (((16 : Int32) * v3) + v5) (fun x10 => (gh_GR h (some v0) [(1, 12)] (fun x11 => (gh_LI h x11 v1 (fun x12 => ((x10 = x12 → wb_X3_outdated_90 κ K14 K28 Q X v0 v1 v2 v3 v5 h) ∧ (¬ x10 = x12 → wb_X3_outdated_86 κ K14 K28 Q X v0 v1 v2 v3 v5 h))))))))))) ∧ (¬ x8 = v1 → wb_X3_outdated_90 κ K14 K28 Q X v0 v1 v2 v3 v5 h))))))))))) ∧ (¬ v4 = 0 → wb_X3_outdated_86 κ K14 K28 Q X v0 v1 v2 v3 v5 h))))))))
def wl_X3_outdated_28 (κ : Nat → Nat) (K14 : Nat → Int32 → Int32 → Int32 → gh_H → Prop) (Q : Int32 → gh_H → Prop) (X : String → gh_H → Prop) : Nat → Nat → Int32 → Int32 → Int32 → Int32 → Int32 → gh_H → Prop
  | 0 => fun _ _ _ _ _ _ _ => False
  | n + 1 => fun v0 v1 v2 v3 v4 v5 h => wb_X3_outdated_28 κ K14 (wl_X3_outdated_28 κ K14 Q X n) Q X v0 v1 v2 v3 v4 v5 h
def wb_X3_outdated_14 (κ : Nat → Nat) (K14 : Nat → Int32 → Int32 → Int32 → gh_H → Prop) (Q : Int32 → gh_H → Prop) (X : String → gh_H → Prop) (v0 : Nat) (v1 : Int32) (v2 : Int32) (v3 : Int32) (h : gh_H) : Prop := (gh_GI h (some v0) [(1, 3)] (fun x1 => ((x1 ≤ v3 → (Q v2 h)) ∧ (¬ x1 ≤ v3 → (∃ n : Nat, wl_X3_outdated_28 κ K14 Q X n v0 v1 v2 v3 (0 : Int32) (0 : Int32) h)))))
def wl_X3_outdated_14 (κ : Nat → Nat)  (Q : Int32 → gh_H → Prop) (X : String → gh_H → Prop) : Nat → Nat → Int32 → Int32 → Int32 → gh_H → Prop
  | 0 => fun _ _ _ _ _ => False
  | n + 1 => fun v0 v1 v2 v3 h => wb_X3_outdated_14 κ (wl_X3_outdated_14 κ Q X n) Q X v0 v1 v2 v3 h
def wp_X3_outdated (κ : Nat → Nat) (v0 : Nat) (v1 : Int32) (Q : Int32 → gh_H → Prop) (X : String → gh_H → Prop) (h : gh_H) : Prop := (gh_RC h (some v0) 1 (fun _ => (wp_X3_isContent κ v0 v1 (fun r2 h3 => ((r2 = 0 → (Q (0 : Int32) h3)) ∧ (¬ r2 = 0 → (∃ n : Nat, wl_X3_outdated_14 κ Q X n v0 v1 (0 : Int32) (0 : Int32) h3)))) X h)))
set_option maxHeartbeats 4000000 in
theorem wk_X3_outdated_115 {D : gh_D} {p : Program} {l : Launch} {e : Env} {s : State} {m : MethodId} {args : Array Value} {below : List Frame} {meth : Method} {c : Code} {h0 : gh_H} (M : gh_M D p l s m args meth c RX3 cX3_outdated 6 (gh_A h0 s.heap.size)) (hr : meth.sig.returnType = (some .int)) (hex : ∀ x ∈ c.exceptionTable.toList, False) {K14 : Nat → Int32 → Int32 → Int32 → gh_H → Prop}  {Q : Int32 → gh_H → Prop} {X : String → gh_H → Prop} (k14 : ∀ (v0 : Nat) (v1 : Int32) (v2 : Int32) (v3 : Int32) (H : Heap) (locs : List Loc) (ls : Array Slot) (h : gh_H) (_ : gh_Inv D h0 (gh_A h0 s.heap.size) s.heap s H locs h) (_ : gh_L ls 6 [(0, 1, va_rf (some v0)), (1, 1, .int v1), (2, 1, .int v2), (3, 1, .int v3)]) (_ : K14 v0 v1 v2 v3 h), W p l e rm_X3_outdated s m args below meth c H locs 0 0 (vx_MQ below (gh_Qi Q D h0 s.heap.size) (gh_X X D h0 s.heap.size) args s 0 0 (gh_A h0 s.heap.size)) (F0 m 14 ls []))  (v0 : Nat) (v1 : Int32) (v3 : Int32) (t0 : Int32) (t1 : Int32) (H : Heap) (locs : List Loc) (ls : Array Slot) (h : gh_H) (G : gh_Inv D h0 (gh_A h0 s.heap.size) s.heap s H locs h) (hl : gh_L ls 6 [(0, 1, va_rf (some v0)), (1, 1, .int v1), (3, 1, .int v3)]) (hw : wb_X3_outdated_115 D.2.2 K14 Q X v0 v1 v3 t0 t1 h) : W p l e rm_X3_outdated s m args below meth c H locs 0 0 (vx_MQ below (gh_Qi Q D h0 s.heap.size) (gh_X X D h0 s.heap.size) args s 0 0 (gh_A h0 s.heap.size)) (F0 m 115 ls [.int t1, .int t0]) := by
  unfold wb_X3_outdated_115 at hw
  have hx := M.1.1
  have hb := M.1.2.1
  refine lv_iadd hx hb dX3_outdated_115 ?_
  refine gh_istore_n (lv' := [(2, 1, .int (t0 + t1)), (0, 1, va_rf (some v0)), (1, 1, .int v1), (3, 1, .int v3)]) hx hb dX3_outdated_116 rfl hl (by decide) rfl (fun ls hl => ?_)
  refine gh_iinc (k := 3) (v := (v3 + (1 : Int32))) (lv' := [(3, 1, .int (v3 + (1 : Int32))), (2, 1, .int (t0 + t1)), (0, 1, va_rf (some v0)), (1, 1, .int v1)]) hx hb dX3_outdated_117 hl rfl rfl (by decide) rfl (fun ls hl => ?_)
  refine lv_goto (tgt := 14) hx hb dX3_outdated_120 (by decide) ?_
  exact k14 v0 v1 (t0 + t1) (v3 + (1 : Int32)) _ _ _ _ G (gh_sub hl [2, 3, 1, 0] rfl) hw
set_option maxHeartbeats 4000000 in
theorem wk_X3_outdated_91 {D : gh_D} {p : Program} {l : Launch} {e : Env} {s : State} {m : MethodId} {args : Array Value} {below : List Frame} {meth : Method} {c : Code} {h0 : gh_H} (M : gh_M D p l s m args meth c RX3 cX3_outdated 6 (gh_A h0 s.heap.size)) (hr : meth.sig.returnType = (some .int)) (hex : ∀ x ∈ c.exceptionTable.toList, False) {K14 : Nat → Int32 → Int32 → Int32 → gh_H → Prop} {K28 : Nat → Int32 → Int32 → Int32 → Int32 → Int32 → gh_H → Prop}  {Q : Int32 → gh_H → Prop} {X : String → gh_H → Prop} (k14 : ∀ (v0 : Nat) (v1 : Int32) (v2 : Int32) (v3 : Int32) (H : Heap) (locs : List Loc) (ls : Array Slot) (h : gh_H) (_ : gh_Inv D h0 (gh_A h0 s.heap.size) s.heap s H locs h) (_ : gh_L ls 6 [(0, 1, va_rf (some v0)), (1, 1, .int v1), (2, 1, .int v2), (3, 1, .int v3)]) (_ : K14 v0 v1 v2 v3 h), W p l e rm_X3_outdated s m args below meth c H locs 0 0 (vx_MQ below (gh_Qi Q D h0 s.heap.size) (gh_X X D h0 s.heap.size) args s 0 0 (gh_A h0 s.heap.size)) (F0 m 14 ls [])) (k28 : ∀ (v0 : Nat) (v1 : Int32) (v2 : Int32) (v3 : Int32) (v4 : Int32) (v5 : Int32) (H : Heap) (locs : List Loc) (ls : Array Slot) (h : gh_H) (_ : gh_Inv D h0 (gh_A h0 s.heap.size) s.heap s H locs h) (_ : gh_L ls 6 [(0, 1, va_rf (some v0)), (1, 1, .int v1), (2, 1, .int v2), (3, 1, .int v3), (4, 1, .int v4), (5, 1, .int v5)]) (_ : K28 v0 v1 v2 v3 v4 v5 h), W p l e rm_X3_outdated s m args below meth c H locs 0 0 (vx_MQ below (gh_Qi Q D h0 s.heap.size) (gh_X X D h0 s.heap.size) args s 0 0 (gh_A h0 s.heap.size)) (F0 m 28 ls []))  (v0 : Nat) (v1 : Int32) (v2 : Int32) (v3 : Int32) (v5 : Int32) (t0 : Int32) (H : Heap) (locs : List Loc) (ls : Array Slot) (h : gh_H) (G : gh_Inv D h0 (gh_A h0 s.heap.size) s.heap s H locs h) (hl : gh_L ls 6 [(0, 1, va_rf (some v0)), (1, 1, .int v1), (2, 1, .int v2), (3, 1, .int v3), (5, 1, .int v5)]) (hw : wb_X3_outdated_91 D.2.2 K14 K28 Q X v0 v1 v2 v3 v5 t0 h) : W p l e rm_X3_outdated s m args below meth c H locs 0 0 (vx_MQ below (gh_Qi Q D h0 s.heap.size) (gh_X X D h0 s.heap.size) args s 0 0 (gh_A h0 s.heap.size)) (F0 m 91 ls [.int t0]) := by
  unfold wb_X3_outdated_91 at hw
  have hx := M.1.1
  have hb := M.1.2.1
  refine gh_istore (lv' := [(4, 1, .int t0), (0, 1, va_rf (some v0)), (1, 1, .int v1), (2, 1, .int v2), (3, 1, .int v3), (5, 1, .int v5)]) hx hb dX3_outdated_91 hl (by decide) rfl (fun ls hl => ?_)
  refine gh_iinc (k := 5) (v := (v5 + (1 : Int32))) (lv' := [(5, 1, .int (v5 + (1 : Int32))), (4, 1, .int t0), (0, 1, va_rf (some v0)), (1, 1, .int v1), (2, 1, .int v2), (3, 1, .int v3)]) hx hb dX3_outdated_93 hl rfl rfl (by decide) rfl (fun ls hl => ?_)
  refine lv_goto (tgt := 28) hx hb dX3_outdated_96 (by decide) ?_
  exact k28 v0 v1 v2 v3 t0 (v5 + (1 : Int32)) _ _ _ _ G (gh_sub hl [2, 3, 4, 5, 1, 0] rfl) hw
set_option maxHeartbeats 4000000 in
theorem wk_X3_outdated_86 {D : gh_D} {p : Program} {l : Launch} {e : Env} {s : State} {m : MethodId} {args : Array Value} {below : List Frame} {meth : Method} {c : Code} {h0 : gh_H} (M : gh_M D p l s m args meth c RX3 cX3_outdated 6 (gh_A h0 s.heap.size)) (hr : meth.sig.returnType = (some .int)) (hex : ∀ x ∈ c.exceptionTable.toList, False) {K14 : Nat → Int32 → Int32 → Int32 → gh_H → Prop} {K28 : Nat → Int32 → Int32 → Int32 → Int32 → Int32 → gh_H → Prop}  {Q : Int32 → gh_H → Prop} {X : String → gh_H → Prop} (k14 : ∀ (v0 : Nat) (v1 : Int32) (v2 : Int32) (v3 : Int32) (H : Heap) (locs : List Loc) (ls : Array Slot) (h : gh_H) (_ : gh_Inv D h0 (gh_A h0 s.heap.size) s.heap s H locs h) (_ : gh_L ls 6 [(0, 1, va_rf (some v0)), (1, 1, .int v1), (2, 1, .int v2), (3, 1, .int v3)]) (_ : K14 v0 v1 v2 v3 h), W p l e rm_X3_outdated s m args below meth c H locs 0 0 (vx_MQ below (gh_Qi Q D h0 s.heap.size) (gh_X X D h0 s.heap.size) args s 0 0 (gh_A h0 s.heap.size)) (F0 m 14 ls [])) (k28 : ∀ (v0 : Nat) (v1 : Int32) (v2 : Int32) (v3 : Int32) (v4 : Int32) (v5 : Int32) (H : Heap) (locs : List Loc) (ls : Array Slot) (h : gh_H) (_ : gh_Inv D h0 (gh_A h0 s.heap.size) s.heap s H locs h) (_ : gh_L ls 6 [(0, 1, va_rf (some v0)), (1, 1, .int v1), (2, 1, .int v2), (3, 1, .int v3), (4, 1, .int v4), (5, 1, .int v5)]) (_ : K28 v0 v1 v2 v3 v4 v5 h), W p l e rm_X3_outdated s m args below meth c H locs 0 0 (vx_MQ below (gh_Qi Q D h0 s.heap.size) (gh_X X D h0 s.heap.size) args s 0 0 (gh_A h0 s.heap.size)) (F0 m 28 ls []))  (v0 : Nat) (v1 : Int32) (v2 : Int32) (v3 : Int32) (v5 : Int32) (H : Heap) (locs : List Loc) (ls : Array Slot) (h : gh_H) (G : gh_Inv D h0 (gh_A h0 s.heap.size) s.heap s H locs h) (hl : gh_L ls 6 [(0, 1, va_rf (some v0)), (1, 1, .int v1), (2, 1, .int v2), (3, 1, .int v3), (5, 1, .int v5)]) (hw : wb_X3_outdated_86 D.2.2 K14 K28 Q X v0 v1 v2 v3 v5 h) : W p l e rm_X3_outdated s m args below meth c H locs 0 0 (vx_MQ below (gh_Qi Q D h0 s.heap.size) (gh_X X D h0 s.heap.size) args s 0 0 (gh_A h0 s.heap.size)) (F0 m 86 ls []) := by
  unfold wb_X3_outdated_86 at hw
  have hx := M.1.1
  have hb := M.1.2.1
  refine lv_iconst (v := (1 : Int32)) hx hb dX3_outdated_86 (by decide) ?_
  refine lv_goto (tgt := 91) hx hb dX3_outdated_87 (by decide) ?_
  exact wk_X3_outdated_91 M hr hex k14 k28 v0 v1 v2 v3 v5 (1 : Int32) _ _ _ _ G (gh_sub hl [0, 1, 2, 3, 4] rfl) hw
set_option maxHeartbeats 4000000 in
theorem wk_X3_outdated_90 {D : gh_D} {p : Program} {l : Launch} {e : Env} {s : State} {m : MethodId} {args : Array Value} {below : List Frame} {meth : Method} {c : Code} {h0 : gh_H} (M : gh_M D p l s m args meth c RX3 cX3_outdated 6 (gh_A h0 s.heap.size)) (hr : meth.sig.returnType = (some .int)) (hex : ∀ x ∈ c.exceptionTable.toList, False) {K14 : Nat → Int32 → Int32 → Int32 → gh_H → Prop} {K28 : Nat → Int32 → Int32 → Int32 → Int32 → Int32 → gh_H → Prop}  {Q : Int32 → gh_H → Prop} {X : String → gh_H → Prop} (k14 : ∀ (v0 : Nat) (v1 : Int32) (v2 : Int32) (v3 : Int32) (H : Heap) (locs : List Loc) (ls : Array Slot) (h : gh_H) (_ : gh_Inv D h0 (gh_A h0 s.heap.size) s.heap s H locs h) (_ : gh_L ls 6 [(0, 1, va_rf (some v0)), (1, 1, .int v1), (2, 1, .int v2), (3, 1, .int v3)]) (_ : K14 v0 v1 v2 v3 h), W p l e rm_X3_outdated s m args below meth c H locs 0 0 (vx_MQ below (gh_Qi Q D h0 s.heap.size) (gh_X X D h0 s.heap.size) args s 0 0 (gh_A h0 s.heap.size)) (F0 m 14 ls [])) (k28 : ∀ (v0 : Nat) (v1 : Int32) (v2 : Int32) (v3 : Int32) (v4 : Int32) (v5 : Int32) (H : Heap) (locs : List Loc) (ls : Array Slot) (h : gh_H) (_ : gh_Inv D h0 (gh_A h0 s.heap.size) s.heap s H locs h) (_ : gh_L ls 6 [(0, 1, va_rf (some v0)), (1, 1, .int v1), (2, 1, .int v2), (3, 1, .int v3), (4, 1, .int v4), (5, 1, .int v5)]) (_ : K28 v0 v1 v2 v3 v4 v5 h), W p l e rm_X3_outdated s m args below meth c H locs 0 0 (vx_MQ below (gh_Qi Q D h0 s.heap.size) (gh_X X D h0 s.heap.size) args s 0 0 (gh_A h0 s.heap.size)) (F0 m 28 ls []))  (v0 : Nat) (v1 : Int32) (v2 : Int32) (v3 : Int32) (v5 : Int32) (H : Heap) (locs : List Loc) (ls : Array Slot) (h : gh_H) (G : gh_Inv D h0 (gh_A h0 s.heap.size) s.heap s H locs h) (hl : gh_L ls 6 [(0, 1, va_rf (some v0)), (1, 1, .int v1), (2, 1, .int v2), (3, 1, .int v3), (5, 1, .int v5)]) (hw : wb_X3_outdated_90 D.2.2 K14 K28 Q X v0 v1 v2 v3 v5 h) : W p l e rm_X3_outdated s m args below meth c H locs 0 0 (vx_MQ below (gh_Qi Q D h0 s.heap.size) (gh_X X D h0 s.heap.size) args s 0 0 (gh_A h0 s.heap.size)) (F0 m 90 ls []) := by
  unfold wb_X3_outdated_90 at hw
  have hx := M.1.1
  have hb := M.1.2.1
  refine lv_iconst (v := (0 : Int32)) hx hb dX3_outdated_90 (by decide) ?_
  exact wk_X3_outdated_91 M hr hex k14 k28 v0 v1 v2 v3 v5 (0 : Int32) _ _ _ _ G (gh_sub hl [0, 1, 2, 3, 4] rfl) hw
set_option maxHeartbeats 4000000 in
theorem wk1_X3_outdated_28 {D : gh_D} {p : Program} {l : Launch} {e : Env} {s : State} {m : MethodId} {args : Array Value} {below : List Frame} {meth : Method} {c : Code} {h0 : gh_H} (M : gh_M D p l s m args meth c RX3 cX3_outdated 6 (gh_A h0 s.heap.size)) (hr : meth.sig.returnType = (some .int)) (hex : ∀ x ∈ c.exceptionTable.toList, False) {K14 : Nat → Int32 → Int32 → Int32 → gh_H → Prop} {K28 : Nat → Int32 → Int32 → Int32 → Int32 → Int32 → gh_H → Prop}  {Q : Int32 → gh_H → Prop} {X : String → gh_H → Prop} (k14 : ∀ (v0 : Nat) (v1 : Int32) (v2 : Int32) (v3 : Int32) (H : Heap) (locs : List Loc) (ls : Array Slot) (h : gh_H) (_ : gh_Inv D h0 (gh_A h0 s.heap.size) s.heap s H locs h) (_ : gh_L ls 6 [(0, 1, va_rf (some v0)), (1, 1, .int v1), (2, 1, .int v2), (3, 1, .int v3)]) (_ : K14 v0 v1 v2 v3 h), W p l e rm_X3_outdated s m args below meth c H locs 0 0 (vx_MQ below (gh_Qi Q D h0 s.heap.size) (gh_X X D h0 s.heap.size) args s 0 0 (gh_A h0 s.heap.size)) (F0 m 14 ls [])) (k28 : ∀ (v0 : Nat) (v1 : Int32) (v2 : Int32) (v3 : Int32) (v4 : Int32) (v5 : Int32) (H : Heap) (locs : List Loc) (ls : Array Slot) (h : gh_H) (_ : gh_Inv D h0 (gh_A h0 s.heap.size) s.heap s H locs h) (_ : gh_L ls 6 [(0, 1, va_rf (some v0)), (1, 1, .int v1), (2, 1, .int v2), (3, 1, .int v3), (4, 1, .int v4), (5, 1, .int v5)]) (_ : K28 v0 v1 v2 v3 v4 v5 h), W p l e rm_X3_outdated s m args below meth c H locs 0 0 (vx_MQ below (gh_Qi Q D h0 s.heap.size) (gh_X X D h0 s.heap.size) args s 0 0 (gh_A h0 s.heap.size)) (F0 m 28 ls []))  (v0 : Nat) (v1 : Int32) (v2 : Int32) (v3 : Int32) (v4 : Int32) (v5 : Int32) (H : Heap) (locs : List Loc) (ls : Array Slot) (h : gh_H) (G : gh_Inv D h0 (gh_A h0 s.heap.size) s.heap s H locs h) (hl : gh_L ls 6 [(0, 1, va_rf (some v0)), (1, 1, .int v1), (2, 1, .int v2), (3, 1, .int v3), (4, 1, .int v4), (5, 1, .int v5)]) (hw : wb_X3_outdated_28 D.2.2 K14 K28 Q X v0 v1 v2 v3 v4 v5 h) : W p l e rm_X3_outdated s m args below meth c H locs 0 0 (vx_MQ below (gh_Qi Q D h0 s.heap.size) (gh_X X D h0 s.heap.size) args s 0 0 (gh_A h0 s.heap.size)) (F0 m 28 ls []) := by
  unfold wb_X3_outdated_28 at hw
  have hx := M.1.1
  have hb := M.1.2.1
  refine lv_iload hx hb dX3_outdated_28 (gh_at hl 5 rfl) ?_
  refine gh_aload_n hx hb dX3_outdated_30 rfl (gh_at hl 0 rfl) ?_
  refine gh_getR M G hw fl_X3_47 dX3_outdated_31 (fun x1 hw => ?_)
  refine lv_iload_n hx hb dX3_outdated_34 rfl (gh_at hl 3 rfl) ?_
  refine gh_ial M G hw dX3_outdated_35 (fun x2 hw => ?_)
  refine lv_icmp_ge (tgt := 99) hx hb dX3_outdated_36 (by decide) (fun hc => ?_) (fun hc => ?_)
  · replace hw := hw.1 hc
    refine lv_iload_n hx hb dX3_outdated_99 rfl (gh_at hl 2 rfl) ?_
    refine lv_iload hx hb dX3_outdated_100 (gh_at hl 4 rfl) ?_
    refine lv_if_eq (tgt := 114) hx hb dX3_outdated_102 (by decide) (fun hc => ?_) (fun hc => ?_)
    · replace hw := hw.1 hc
      refine lv_iconst (v := (0 : Int32)) hx hb dX3_outdated_114 (by decide) ?_
      exact wk_X3_outdated_115 M hr hex k14 v0 v1 v3 v2 (0 : Int32) _ _ _ _ G (gh_sub hl [0, 1, 3] rfl) hw
    · replace hw := hw.2 hc
      refine gh_aload_n hx hb dX3_outdated_105 rfl (gh_at hl 0 rfl) ?_
      refine gh_getR M G hw fl_X3_44 dX3_outdated_106 (fun x3 hw => ?_)
      refine lv_iload_n hx hb dX3_outdated_109 rfl (gh_at hl 3 rfl) ?_
      refine gh_ial M G hw dX3_outdated_110 (fun x4 hw => ?_)
      refine lv_goto (tgt := 115) hx hb dX3_outdated_111 (by decide) ?_
      exact wk_X3_outdated_115 M hr hex k14 v0 v1 v3 v2 x4 _ _ _ _ G (gh_sub hl [0, 1, 3] rfl) hw
  · replace hw := hw.2 hc
    refine lv_iload hx hb dX3_outdated_39 (gh_at hl 4 rfl) ?_
    refine lv_if_ne (tgt := 86) hx hb dX3_outdated_41 (by decide) (fun hc => ?_) (fun hc => ?_)
    · replace hw := hw.2 hc
      exact wk_X3_outdated_86 M hr hex k14 k28 v0 v1 v2 v3 v5 _ _ _ _ G (gh_sub hl [0, 1, 2, 3, 5] rfl) hw
    · replace hw := hw.1 hc
      refine gh_aload_n hx hb dX3_outdated_44 rfl (gh_at hl 0 rfl) ?_
      refine gh_getR M G hw fl_X3_19 dX3_outdated_45 (fun x5 hw => ?_)
      refine lv_bipush (v := (16 : Int32)) hx hb dX3_outdated_48 (by decide) ?_
      refine gh_aload_n hx hb dX3_outdated_50 rfl (gh_at hl 0 rfl) ?_
      refine gh_getR M G hw fl_X3_41 dX3_outdated_51 (fun x6 hw => ?_)
      refine lv_iload_n hx hb dX3_outdated_54 rfl (gh_at hl 3 rfl) ?_
      refine gh_ial M G hw dX3_outdated_55 (fun x7 hw => ?_)
      refine lv_imul hx hb dX3_outdated_56 ?_
      refine lv_iload hx hb dX3_outdated_57 (gh_at hl 5 rfl) ?_
      refine lv_iadd hx hb dX3_outdated_59 ?_
      refine gh_ial M G hw dX3_outdated_60 (fun x8 hw => ?_)
      refine lv_iload_n hx hb dX3_outdated_61 rfl (gh_at hl 1 rfl) ?_
      refine lv_icmp_ne (tgt := 90) hx hb dX3_outdated_62 (by decide) (fun hc => ?_) (fun hc => ?_)
      · replace hw := hw.2 hc
        exact wk_X3_outdated_90 M hr hex k14 k28 v0 v1 v2 v3 v5 _ _ _ _ G (gh_sub hl [0, 1, 2, 3, 5] rfl) hw
      · replace hw := hw.1 hc
        refine gh_aload_n hx hb dX3_outdated_65 rfl (gh_at hl 0 rfl) ?_
        refine gh_getR M G hw fl_X3_50 dX3_outdated_66 (fun x9 hw => ?_)
        refine lv_bipush (v := (16 : Int32)) hx hb dX3_outdated_69 (by decide) ?_
        refine lv_iload_n hx hb dX3_outdated_71 rfl (gh_at hl 3 rfl) ?_
        refine lv_imul hx hb dX3_outdated_72 ?_
        refine lv_iload hx hb dX3_outdated_73 (gh_at hl 5 rfl) ?_
        refine lv_iadd hx hb dX3_outdated_75 ?_
        refine gh_ial M G hw dX3_outdated_76 (fun x10 hw => ?_)
        refine gh_aload_n hx hb dX3_outdated_77 rfl (gh_at hl 0 rfl) ?_
        refine gh_getR M G hw fl_X3_7 dX3_outdated_78 (fun x11 hw => ?_)
        refine lv_iload_n hx hb dX3_outdated_81 rfl (gh_at hl 1 rfl) ?_
        refine gh_ial M G hw dX3_outdated_82 (fun x12 hw => ?_)
        refine lv_icmp_eq (tgt := 90) hx hb dX3_outdated_83 (by decide) (fun hc => ?_) (fun hc => ?_)
        · replace hw := hw.1 hc
          exact wk_X3_outdated_90 M hr hex k14 k28 v0 v1 v2 v3 v5 _ _ _ _ G (gh_sub hl [0, 1, 2, 3, 5] rfl) hw
        · replace hw := hw.2 hc
          exact wk_X3_outdated_86 M hr hex k14 k28 v0 v1 v2 v3 v5 _ _ _ _ G (gh_sub hl [0, 1, 2, 3, 5] rfl) hw
theorem wk_X3_outdated_28 {D : gh_D} {p : Program} {l : Launch} {e : Env} {s : State} {m : MethodId} {args : Array Value} {below : List Frame} {meth : Method} {c : Code} {h0 : gh_H} (M : gh_M D p l s m args meth c RX3 cX3_outdated 6 (gh_A h0 s.heap.size)) (hr : meth.sig.returnType = (some .int)) (hex : ∀ x ∈ c.exceptionTable.toList, False) {K14 : Nat → Int32 → Int32 → Int32 → gh_H → Prop}  {Q : Int32 → gh_H → Prop} {X : String → gh_H → Prop} (k14 : ∀ (v0 : Nat) (v1 : Int32) (v2 : Int32) (v3 : Int32) (H : Heap) (locs : List Loc) (ls : Array Slot) (h : gh_H) (_ : gh_Inv D h0 (gh_A h0 s.heap.size) s.heap s H locs h) (_ : gh_L ls 6 [(0, 1, va_rf (some v0)), (1, 1, .int v1), (2, 1, .int v2), (3, 1, .int v3)]) (_ : K14 v0 v1 v2 v3 h), W p l e rm_X3_outdated s m args below meth c H locs 0 0 (vx_MQ below (gh_Qi Q D h0 s.heap.size) (gh_X X D h0 s.heap.size) args s 0 0 (gh_A h0 s.heap.size)) (F0 m 14 ls []))  : ∀ (n : Nat) (v0 : Nat) (v1 : Int32) (v2 : Int32) (v3 : Int32) (v4 : Int32) (v5 : Int32) (H : Heap) (locs : List Loc) (ls : Array Slot) (h : gh_H) (_ : gh_Inv D h0 (gh_A h0 s.heap.size) s.heap s H locs h) (_ : gh_L ls 6 [(0, 1, va_rf (some v0)), (1, 1, .int v1), (2, 1, .int v2), (3, 1, .int v3), (4, 1, .int v4), (5, 1, .int v5)]) (_ : wl_X3_outdated_28 D.2.2 K14 Q X n v0 v1 v2 v3 v4 v5 h), W p l e rm_X3_outdated s m args below meth c H locs 0 0 (vx_MQ below (gh_Qi Q D h0 s.heap.size) (gh_X X D h0 s.heap.size) args s 0 0 (gh_A h0 s.heap.size)) (F0 m 28 ls []) := by
  intro fu
  induction fu with
  | zero => intro v0 v1 v2 v3 v4 v5 H locs ls h G hl hw; exact False.elim hw
  | succ n1 ih =>
    intro v0 v1 v2 v3 v4 v5 H locs ls h G hl hw
    exact wk1_X3_outdated_28 M hr hex k14 ih  v0 v1 v2 v3 v4 v5 _ _ _ _ G hl hw
set_option maxHeartbeats 4000000 in
theorem wk1_X3_outdated_14 {D : gh_D} {p : Program} {l : Launch} {e : Env} {s : State} {m : MethodId} {args : Array Value} {below : List Frame} {meth : Method} {c : Code} {h0 : gh_H} (M : gh_M D p l s m args meth c RX3 cX3_outdated 6 (gh_A h0 s.heap.size)) (hr : meth.sig.returnType = (some .int)) (hex : ∀ x ∈ c.exceptionTable.toList, False) {K14 : Nat → Int32 → Int32 → Int32 → gh_H → Prop}  {Q : Int32 → gh_H → Prop} {X : String → gh_H → Prop} (k14 : ∀ (v0 : Nat) (v1 : Int32) (v2 : Int32) (v3 : Int32) (H : Heap) (locs : List Loc) (ls : Array Slot) (h : gh_H) (_ : gh_Inv D h0 (gh_A h0 s.heap.size) s.heap s H locs h) (_ : gh_L ls 6 [(0, 1, va_rf (some v0)), (1, 1, .int v1), (2, 1, .int v2), (3, 1, .int v3)]) (_ : K14 v0 v1 v2 v3 h), W p l e rm_X3_outdated s m args below meth c H locs 0 0 (vx_MQ below (gh_Qi Q D h0 s.heap.size) (gh_X X D h0 s.heap.size) args s 0 0 (gh_A h0 s.heap.size)) (F0 m 14 ls []))  (v0 : Nat) (v1 : Int32) (v2 : Int32) (v3 : Int32) (H : Heap) (locs : List Loc) (ls : Array Slot) (h : gh_H) (G : gh_Inv D h0 (gh_A h0 s.heap.size) s.heap s H locs h) (hl : gh_L ls 6 [(0, 1, va_rf (some v0)), (1, 1, .int v1), (2, 1, .int v2), (3, 1, .int v3)]) (hw : wb_X3_outdated_14 D.2.2 K14 Q X v0 v1 v2 v3 h) : W p l e rm_X3_outdated s m args below meth c H locs 0 0 (vx_MQ below (gh_Qi Q D h0 s.heap.size) (gh_X X D h0 s.heap.size) args s 0 0 (gh_A h0 s.heap.size)) (F0 m 14 ls []) := by
  unfold wb_X3_outdated_14 at hw
  have hx := M.1.1
  have hb := M.1.2.1
  refine lv_iload_n hx hb dX3_outdated_14 rfl (gh_at hl 3 rfl) ?_
  refine gh_aload_n hx hb dX3_outdated_15 rfl (gh_at hl 0 rfl) ?_
  refine gh_getI M G hw fl_X3_156 dX3_outdated_16 (fun x1 hw => ?_)
  refine lv_icmp_ge (tgt := 123) hx hb dX3_outdated_19 (by decide) (fun hc => ?_) (fun hc => ?_)
  · replace hw := hw.1 hc
    refine lv_iload_n hx hb dX3_outdated_123 rfl (gh_at hl 2 rfl) ?_
    exact gh_iret M G hr rfl hw (by exact Nat.le_of_ble_eq_true rfl) (by exact Nat.le_of_ble_eq_true rfl) dX3_outdated_124
  · replace hw := hw.2 hc
    refine lv_iconst (v := (0 : Int32)) hx hb dX3_outdated_22 (by decide) ?_
    refine gh_istore (lv' := [(4, 1, .int (0 : Int32)), (0, 1, va_rf (some v0)), (1, 1, .int v1), (2, 1, .int v2), (3, 1, .int v3)]) hx hb dX3_outdated_23 hl (by decide) rfl (fun ls hl => ?_)
    refine lv_iconst (v := (0 : Int32)) hx hb dX3_outdated_25 (by decide) ?_
    refine gh_istore (lv' := [(5, 1, .int (0 : Int32)), (4, 1, .int (0 : Int32)), (0, 1, va_rf (some v0)), (1, 1, .int v1), (2, 1, .int v2), (3, 1, .int v3)]) hx hb dX3_outdated_26 hl (by decide) rfl (fun ls hl => ?_)
    obtain ⟨n, hw⟩ := hw
    exact wk_X3_outdated_28 M hr hex k14 n v0 v1 v2 v3 (0 : Int32) (0 : Int32) _ _ _ _ G (gh_sub hl [2, 3, 4, 5, 1, 0] rfl) hw
theorem wk_X3_outdated_14 {D : gh_D} {p : Program} {l : Launch} {e : Env} {s : State} {m : MethodId} {args : Array Value} {below : List Frame} {meth : Method} {c : Code} {h0 : gh_H} (M : gh_M D p l s m args meth c RX3 cX3_outdated 6 (gh_A h0 s.heap.size)) (hr : meth.sig.returnType = (some .int)) (hex : ∀ x ∈ c.exceptionTable.toList, False)   {Q : Int32 → gh_H → Prop} {X : String → gh_H → Prop}   : ∀ (n : Nat) (v0 : Nat) (v1 : Int32) (v2 : Int32) (v3 : Int32) (H : Heap) (locs : List Loc) (ls : Array Slot) (h : gh_H) (_ : gh_Inv D h0 (gh_A h0 s.heap.size) s.heap s H locs h) (_ : gh_L ls 6 [(0, 1, va_rf (some v0)), (1, 1, .int v1), (2, 1, .int v2), (3, 1, .int v3)]) (_ : wl_X3_outdated_14 D.2.2 Q X n v0 v1 v2 v3 h), W p l e rm_X3_outdated s m args below meth c H locs 0 0 (vx_MQ below (gh_Qi Q D h0 s.heap.size) (gh_X X D h0 s.heap.size) args s 0 0 (gh_A h0 s.heap.size)) (F0 m 14 ls []) := by
  intro fu
  induction fu with
  | zero => intro v0 v1 v2 v3 H locs ls h G hl hw; exact False.elim hw
  | succ n1 ih =>
    intro v0 v1 v2 v3 H locs ls h G hl hw
    exact wk1_X3_outdated_14 M hr hex ih  v0 v1 v2 v3 _ _ _ _ G hl hw
set_option maxHeartbeats 4000000 in
theorem met_X3_outdated (l : Launch) (D : gh_D) (v0 : Nat) (v1 : Int32) (Q : Int32 → gh_H → Prop) (X : String → gh_H → Prop) (h : gh_H) (sz : Nat) (hw : wp_X3_outdated D.2.2 v0 v1 Q X h) (hst : l.stackTraces = false) : vx_Met l yX3_outdated (ws_ yX3_outdated cX3_outdated 6 (some .int)) rm_X3_outdated (gh_Pc D h sz [.ref v0, .int v1]) (gh_Qi Q D h sz) (gh_X X D h sz) 0 0 (gh_A h sz) := by
  refine vx_ofW (by decide) rfl (fun p e s m args below meth c s₁ B hml hex hP => ?_)
  obtain ⟨rfl, rfl, hK, hT, hE, G⟩ := gh_start hP
  have M : gh_M D p l s m _ meth c RX3 cX3_outdated 6 (gh_A h s.heap.size) := ⟨⟨B.exec, B.bytes, hml, findClass_of_methodNamed B.named, fun w hw => atoms_spec (ws := ws_ yX3_outdated cX3_outdated 6 (some .int)) B.pre w (List.mem_cons_of_mem _ hw)⟩, hK, hT, hE, B.notSynchronized, hst⟩
  have hr := B.returns
  have hx := M.1.1
  have hb := M.1.2.1
  refine gh_enter (vs := [(1, .ref v0), (1, .int v1)]) (gh_w1 rfl (gh_w1 rfl gh_wn)) (Nat.le_of_ble_eq_true rfl) (fun ls hl => ?_)
  replace hl : gh_L ls 6 [(0, 1, va_rf (some v0)), (1, 1, .int v1)] := hl
  unfold wp_X3_outdated at hw
  refine gh_aload_n hx hb dX3_outdated_0 rfl (gh_at hl 0 rfl) ?_
  refine lv_iload_n hx hb dX3_outdated_1 rfl (gh_at hl 1 rfl) ?_
  obtain ⟨a1, lba1, fsa1, hra1, haa1, hw⟩ := hw
  rw [← Option.some.inj hra1] at haa1
  refine gh_ki G (vx_runV M.1 (met_X3_isContent l D _ _ _ _ _ _ hw M.2.2.2.2.2) (cwV 1 (gh_Mts M) (lw_V q1665 q1667 qs22 q50 q1668) rfl rfl rfl ⟨rfl, by decide, by decide, rfl⟩ ⟨Nat.le_of_ble_eq_true rfl, Nat.le_of_ble_eq_true rfl⟩) (gh_preV (As := [.int v1]) M G (gh_rec M G haa1 rfl)) rfl rfl hl.1.1 rfl (lv_room (Nat.le_of_ble_eq_true rfl)) dX3_outdated_2 ⟨(Nat.le_of_ble_eq_true rfl), (Nat.le_of_ble_eq_true rfl)⟩) (gh_out M hex (by exact Nat.le_of_ble_eq_true rfl) (by exact Nat.le_of_ble_eq_true rfl)) (fun r2 h3 H locs hw G => ?_)
  refine lv_if_ne (tgt := 10) hx hb dX3_outdated_5 (by decide) (fun hc => ?_) (fun hc => ?_)
  · replace hw := hw.2 hc
    refine lv_iconst (v := (0 : Int32)) hx hb dX3_outdated_10 (by decide) ?_
    refine gh_istore_n (lv' := [(2, 1, .int (0 : Int32)), (0, 1, va_rf (some v0)), (1, 1, .int v1)]) hx hb dX3_outdated_11 rfl hl (by decide) rfl (fun ls hl => ?_)
    refine lv_iconst (v := (0 : Int32)) hx hb dX3_outdated_12 (by decide) ?_
    refine gh_istore_n (lv' := [(3, 1, .int (0 : Int32)), (2, 1, .int (0 : Int32)), (0, 1, va_rf (some v0)), (1, 1, .int v1)]) hx hb dX3_outdated_13 rfl hl (by decide) rfl (fun ls hl => ?_)
    obtain ⟨n, hw⟩ := hw
    exact wk_X3_outdated_14 M hr hex  n v0 v1 (0 : Int32) (0 : Int32) _ _ _ _ G (gh_sub hl [2, 3, 1, 0] rfl) hw
  · replace hw := hw.1 hc
    refine lv_iconst (v := (0 : Int32)) hx hb dX3_outdated_8 (by decide) ?_
    exact gh_iret M G hr rfl hw (by exact Nat.le_of_ble_eq_true rfl) (by exact Nat.le_of_ble_eq_true rfl) dX3_outdated_9
/-! BinderyDesk.waste ()J -/
def rm_X1_waste : Room := { frames := 2, cells := 0, slots := 0, locals := 60 }
def wp_X1_waste (κ : Nat → Nat) (v0 : Nat) (Q : Int64 → gh_H → Prop) (X : String → gh_H → Prop) (h : gh_H) : Prop := (gh_GR h (some v0) [(0, 6)] (fun x1 => (gh_RC h x1 2 (fun a2 => (wp_X2_count κ a2 (fun r3 h4 => (Q r3 h4)) X h)))))
set_option maxHeartbeats 4000000 in
theorem met_X1_waste (l : Launch) (D : gh_D) (v0 : Nat) (Q : Int64 → gh_H → Prop) (X : String → gh_H → Prop) (h : gh_H) (sz : Nat) (hw : wp_X1_waste D.2.2 v0 Q X h) (hst : l.stackTraces = false) : vx_Met l yX1_waste (ws_ yX1_waste cX1_waste 1 (some .long)) rm_X1_waste (gh_Pc D h sz [.ref v0]) (gh_Ql Q D h sz) (gh_X X D h sz) 0 0 (gh_A h sz) := by
  refine vx_ofW (by decide) rfl (fun p e s m args below meth c s₁ B hml hex hP => ?_)
  obtain ⟨rfl, rfl, hK, hT, hE, G⟩ := gh_start hP
  have M : gh_M D p l s m _ meth c RX1 cX1_waste 1 (gh_A h s.heap.size) := ⟨⟨B.exec, B.bytes, hml, findClass_of_methodNamed B.named, fun w hw => atoms_spec (ws := ws_ yX1_waste cX1_waste 1 (some .long)) B.pre w (List.mem_cons_of_mem _ hw)⟩, hK, hT, hE, B.notSynchronized, hst⟩
  have hr := B.returns
  have hx := M.1.1
  have hb := M.1.2.1
  refine gh_enter (vs := [(1, .ref v0)]) (gh_w1 rfl gh_wn) (Nat.le_of_ble_eq_true rfl) (fun ls hl => ?_)
  replace hl : gh_L ls 1 [(0, 1, va_rf (some v0))] := hl
  unfold wp_X1_waste at hw
  refine gh_aload_n hx hb dX1_waste_0 rfl (gh_at hl 0 rfl) ?_
  refine gh_getR M G hw fl_X1_54 dX1_waste_1 (fun x1 hw => ?_)
  obtain ⟨a2, lba2, fsa2, rfl, haa2, hw⟩ := hw
  refine gh_kl G (vx_runV M.1 (met_X2_count l D _ _ _ _ _ hw M.2.2.2.2.2) (cwV 0 (gh_Mts M) (lw_V q252 q253 q254 q49 q257) rfl rfl rfl ⟨rfl, by decide, by decide, rfl⟩ ⟨Nat.le_of_ble_eq_true rfl, Nat.le_of_ble_eq_true rfl⟩) (gh_preV (As := []) M G (gh_rec M G haa2 rfl)) rfl rfl hl.1.1 rfl (lv_room (Nat.le_of_ble_eq_true rfl)) dX1_waste_4 ⟨(Nat.le_of_ble_eq_true rfl), (Nat.le_of_ble_eq_true rfl)⟩) (gh_out M hex (by exact Nat.le_of_ble_eq_true rfl) (by exact Nat.le_of_ble_eq_true rfl)) (fun r3 h4 H locs hw G => ?_)
  exact gh_lret M G hr hw (by exact Nat.le_of_ble_eq_true rfl) (by exact Nat.le_of_ble_eq_true rfl) dX1_waste_7
/-! BinderyDeskModel.waste ()J -/
def rm_X3_waste : Room := { frames := 1, cells := 0, slots := 0, locals := 40 }
def wp_X3_waste (κ : Nat → Nat) (v0 : Nat) (Q : Int64 → gh_H → Prop) (X : String → gh_H → Prop) (h : gh_H) : Prop := (gh_PV h (some v0) [(1, 0)] (.int (0 : Int32)) (fun h1 => (gh_GJ h1 (some v0) [(1, 10)] (fun x2 => (Q x2 h1)))))
set_option maxHeartbeats 4000000 in
theorem met_X3_waste (l : Launch) (D : gh_D) (v0 : Nat) (Q : Int64 → gh_H → Prop) (X : String → gh_H → Prop) (h : gh_H) (sz : Nat) (hw : wp_X3_waste D.2.2 v0 Q X h) (hst : l.stackTraces = false) : vx_Met l yX3_waste (ws_ yX3_waste cX3_waste 1 (some .long)) rm_X3_waste (gh_Pc D h sz [.ref v0]) (gh_Ql Q D h sz) (gh_X X D h sz) 0 0 (gh_A h sz) := by
  refine vx_ofW (by decide) rfl (fun p e s m args below meth c s₁ B hml hex hP => ?_)
  obtain ⟨rfl, rfl, hK, hT, hE, G⟩ := gh_start hP
  have M : gh_M D p l s m _ meth c RX3 cX3_waste 1 (gh_A h s.heap.size) := ⟨⟨B.exec, B.bytes, hml, findClass_of_methodNamed B.named, fun w hw => atoms_spec (ws := ws_ yX3_waste cX3_waste 1 (some .long)) B.pre w (List.mem_cons_of_mem _ hw)⟩, hK, hT, hE, B.notSynchronized, hst⟩
  have hr := B.returns
  have hx := M.1.1
  have hb := M.1.2.1
  refine gh_enter (vs := [(1, .ref v0)]) (gh_w1 rfl gh_wn) (Nat.le_of_ble_eq_true rfl) (fun ls hl => ?_)
  replace hl : gh_L ls 1 [(0, 1, va_rf (some v0))] := hl
  unfold wp_X3_waste at hw
  refine gh_aload_n hx hb dX3_waste_0 rfl (gh_at hl 0 rfl) ?_
  refine lv_iconst (v := (0 : Int32)) hx hb dX3_waste_1 (by decide) ?_
  refine gh_put M G hw fp_X3_53 rfl rfl dX3_waste_2 (fun h1 H locs hw G => ?_)
  refine gh_aload_n hx hb dX3_waste_5 rfl (gh_at hl 0 rfl) ?_
  refine gh_getJ M G hw fl_X3_97 dX3_waste_6 (fun x2 hw => ?_)
  exact gh_lret M G hr hw (by exact Nat.le_of_ble_eq_true rfl) (by exact Nat.le_of_ble_eq_true rfl) dX3_waste_9
/-! BinderyDesk.wasteShare ()F -/
theorem at_X1_278 {args : Array Value} {s : State} (hts : ∀ w ∈ lw_all, w.before args s = true) (tb : gh_Tb s) : ∀ w ∈ (vx_at0 RX1 278 "java/lang/ArithmeticException" ["java/lang/RuntimeException", "java/lang/Exception"]), w.before args s = true := by
  refine vx_hat (B := [Cond.declares ({ cls := "java/lang/RuntimeException", name := "<init>", desc := "()V" } : MethodName), Cond.declares ({ cls := "java/lang/Exception", name := "<init>", desc := "()V" } : MethodName), Cond.declares ({ cls := "java/lang/Throwable", name := "<init>", desc := "()V" } : MethodName), Cond.castable "java/lang/ArithmeticException" "java/lang/ArithmeticException"]) (fun w hw => hts w (lw_in _ [51, 291, 300, 309, 312, 314, 292, 293, 91, 92, 294, 299, 310, 327, 281, 328, 283, 329, 285, 295, 297, 287, 1553, 1554, 1555, 319, 319, 320, 321, 322, 322, 323, 324, 292, 1552, 1534, 1546, 302, 1540, 1541, 1543, 1539, 290, 289, 1538] (by decide +kernel) (by decide +kernel) w hw)) (by decide +kernel) ?_
  exact vx_c (va_Nw.use rfl (tb.1 _ (List.mem_of_getElem? (i := 116) rfl))) (vx_c (va_Nw.use rfl (tb.1 _ (List.mem_of_getElem? (i := 114) rfl))) (vx_c (va_Nw.use rfl (tb.1 _ (List.mem_of_getElem? (i := 111) rfl))) (vx_c (va_Nw.use rfl (tb.1 _ (List.mem_of_getElem? (i := 83) rfl))) (vx_n))))
theorem at_X1_278_g : ∀ w ∈ Cond.classLink RX1 276 "java/lang/ArithmeticException" :: Cond.initialized "java/lang/ArithmeticException" :: (vx_at0 RX1 278 "java/lang/ArithmeticException" ["java/lang/RuntimeException", "java/lang/Exception"]), vx_ot w = true := by decide +kernel
def rm_X1_wasteShare : Room := { frames := 6, cells := 1, slots := 6, locals := 100 }
def wp_X1_wasteShare (κ : Nat → Nat) (v0 : Nat) (Q : UInt32 → gh_H → Prop) (X : String → gh_H → Prop) (h : gh_H) : Prop := (gh_GR h (some v0) [(0, 5)] (fun x1 => (gh_RC h x1 2 (fun a2 => (wp_X2_count κ a2 (fun r3 h4 => (((lg_cmp r3 (0 : Int64)) = 0 → (X "java/lang/ArithmeticException" h4)) ∧ (¬ (lg_cmp r3 (0 : Int64)) = 0 → (gh_GR h4 (some v0) [(0, 6)] (fun x5 => (gh_RC h4 x5 2 (fun a6 => (wp_X2_count κ a6 (fun r7 h8 => (gh_GR h8 (some v0) [(0, 5)] (fun x9 => (gh_RC h8 x9 2 (fun a10 => (wp_X2_count κ a10 (fun r11 h12 => (vf_n32 (FP.fdiv (FP.l2f r7) (FP.l2f r11)) ∧ (Q (FP.fdiv (FP.l2f r7) (FP.l2f r11)) h12))) X h8)))))) X h4)))))))) X h)))))
set_option maxHeartbeats 4000000 in
theorem met_X1_wasteShare (l : Launch) (D : gh_D) (v0 : Nat) (Q : UInt32 → gh_H → Prop) (X : String → gh_H → Prop) (h : gh_H) (sz : Nat) (hw : wp_X1_wasteShare D.2.2 v0 Q X h) (hst : l.stackTraces = false) : vx_Met l yX1_wasteShare (ws_ yX1_wasteShare cX1_wasteShare 1 (some .float)) rm_X1_wasteShare (gh_Pc D h sz [.ref v0]) (gh_Qf Q D h sz) (gh_X X D h sz) 1 6 (gh_A h sz) := by
  refine vx_ofW (by decide) rfl (fun p e s m args below meth c s₁ B hml hex hP => ?_)
  obtain ⟨rfl, rfl, hK, hT, hE, G⟩ := gh_start hP
  have M : gh_M D p l s m _ meth c RX1 cX1_wasteShare 1 (gh_A h s.heap.size) := ⟨⟨B.exec, B.bytes, hml, findClass_of_methodNamed B.named, fun w hw => atoms_spec (ws := ws_ yX1_wasteShare cX1_wasteShare 1 (some .float)) B.pre w (List.mem_cons_of_mem _ hw)⟩, hK, hT, hE, B.notSynchronized, hst⟩
  have hr := B.returns
  have hx := M.1.1
  have hb := M.1.2.1
  refine gh_enter (vs := [(1, .ref v0)]) (gh_w1 rfl gh_wn) (Nat.le_of_ble_eq_true rfl) (fun ls hl => ?_)
  replace hl : gh_L ls 1 [(0, 1, va_rf (some v0))] := hl
  unfold wp_X1_wasteShare at hw
  refine gh_aload_n hx hb dX1_wasteShare_0 rfl (gh_at hl 0 rfl) ?_
  refine gh_getR M G hw fl_X1_50 dX1_wasteShare_1 (fun x1 hw => ?_)
  obtain ⟨a2, lba2, fsa2, rfl, haa2, hw⟩ := hw
  refine gh_kl G (vx_runV M.1 (met_X2_count l D _ _ _ _ _ hw M.2.2.2.2.2) (cwV 0 (gh_Mts M) (lw_V q252 q253 q254 q49 q257) rfl rfl rfl ⟨rfl, by decide, by decide, rfl⟩ ⟨Nat.le_of_ble_eq_true rfl, Nat.le_of_ble_eq_true rfl⟩) (gh_preV (As := []) M G (gh_rec M G haa2 rfl)) rfl rfl hl.1.1 rfl (lv_room (Nat.le_of_ble_eq_true rfl)) dX1_wasteShare_4 ⟨(Nat.le_of_ble_eq_true rfl), (Nat.le_of_ble_eq_true rfl)⟩) (gh_out M hex (by exact Nat.le_of_ble_eq_true rfl) (by exact Nat.le_of_ble_eq_true rfl)) (fun r3 h4 H locs hw G => ?_)
  refine lv_lconst (v := (0 : Int64)) hx hb dX1_wasteShare_7 (by decide) ?_
  refine W.lcmp hx hb dX1_wasteShare_8 ?_
  refine lv_if_ne (tgt := 20) hx hb dX1_wasteShare_9 (by decide) (fun hc => ?_) (fun hc => ?_)
  · replace hw := hw.2 hc
    refine gh_aload_n hx hb dX1_wasteShare_20 rfl (gh_at hl 0 rfl) ?_
    refine gh_getR M G hw fl_X1_54 dX1_wasteShare_21 (fun x5 hw => ?_)
    obtain ⟨a6, lba6, fsa6, rfl, haa6, hw⟩ := hw
    refine gh_kl G (vx_runV M.1 (met_X2_count l D _ _ _ _ _ hw M.2.2.2.2.2) (cwV 0 (gh_Mts M) (lw_V q252 q253 q254 q49 q257) rfl rfl rfl ⟨rfl, by decide, by decide, rfl⟩ ⟨Nat.le_of_ble_eq_true rfl, Nat.le_of_ble_eq_true rfl⟩) (gh_preV (As := []) M G (gh_rec M G haa6 rfl)) rfl rfl hl.1.1 rfl (lv_room (Nat.le_of_ble_eq_true rfl)) dX1_wasteShare_24 ⟨(Nat.le_of_ble_eq_true rfl), (Nat.le_of_ble_eq_true rfl)⟩) (gh_out M hex (by exact Nat.le_of_ble_eq_true rfl) (by exact Nat.le_of_ble_eq_true rfl)) (fun r7 h8 H locs hw G => ?_)
    refine lv_l2f hx hb dX1_wasteShare_27 ?_
    refine gh_aload_n hx hb dX1_wasteShare_28 rfl (gh_at hl 0 rfl) ?_
    refine gh_getR M G hw fl_X1_50 dX1_wasteShare_29 (fun x9 hw => ?_)
    obtain ⟨a10, lba10, fsa10, rfl, haa10, hw⟩ := hw
    refine gh_kl G (vx_runV M.1 (met_X2_count l D _ _ _ _ _ hw M.2.2.2.2.2) (cwV 0 (gh_Mts M) (lw_V q252 q253 q254 q49 q257) rfl rfl rfl ⟨rfl, by decide, by decide, rfl⟩ ⟨Nat.le_of_ble_eq_true rfl, Nat.le_of_ble_eq_true rfl⟩) (gh_preV (As := []) M G (gh_rec M G haa10 rfl)) rfl rfl hl.1.1 rfl (lv_room (Nat.le_of_ble_eq_true rfl)) dX1_wasteShare_32 ⟨(Nat.le_of_ble_eq_true rfl), (Nat.le_of_ble_eq_true rfl)⟩) (gh_out M hex (by exact Nat.le_of_ble_eq_true rfl) (by exact Nat.le_of_ble_eq_true rfl)) (fun r11 h12 H locs hw G => ?_)
    refine lv_l2f hx hb dX1_wasteShare_35 ?_
    refine lv_fdiv hx hb dX1_wasteShare_36 hw.1 ?_
    replace hw := hw.2
    exact gh_fret M G hr hw (by exact Nat.le_of_ble_eq_true rfl) (by exact Nat.le_of_ble_eq_true rfl) dX1_wasteShare_37
  · replace hw := hw.1 hc
    exact gh_throw (names := ["java/lang/RuntimeException", "java/lang/Exception"]) M G hex hw (by decide +kernel) (by decide +kernel) q1551 q84 (at_X1_278 (gh_Mts M) M.2.2.1) at_X1_278_g hl.1.1 dX1_wasteShare_12 dX1_wasteShare_15 dX1_wasteShare_16 dX1_wasteShare_19 (Nat.le_of_ble_eq_true rfl) (Nat.le_trans (Nat.add_le_add_right gh_r0 _) (Nat.le_of_ble_eq_true rfl)) (Nat.le_of_ble_eq_true rfl) (Nat.le_of_ble_eq_true rfl) (Nat.le_of_ble_eq_true rfl) (Nat.le_of_ble_eq_true rfl)
