set_option maxRecDepth 100000
/-! BinderyDesk.pageAt (III)I -/
theorem fl_X1_159 : gh_FL RX1 159 [(7, 0)] := by
  intro args s hts tb q hq
  simp only [List.mem_cons, List.not_mem_nil, or_false] at hq
  subst hq
  exact ⟨_, "BinderyDesk$Job", rfl, by decide, Or.inr ⟨"BinderyDesk", va_Nw.use rfl (tb.1 _ (List.mem_of_getElem? (i := 122) rfl))⟩, (fun x h => h)⟩
theorem fl_X1_163 : gh_FL RX1 163 [(16, 1), (17, 1), (18, 1)] := by
  intro args s hts tb q hq
  simp only [List.mem_cons, List.not_mem_nil, or_false] at hq
  rcases hq with rfl | rfl | rfl
  · exact ⟨_, "BinderyDesk$Binding", rfl, by decide, Or.inr ⟨"BinderyDesk", va_Nw.use rfl (tb.1 _ (List.mem_of_getElem? (i := 129) rfl))⟩, (fun x h => h)⟩
  · exact ⟨_, "BinderyDesk$Binding", rfl, by decide, Or.inr ⟨"BinderyDesk", va_Nw.use rfl (tb.1 _ (List.mem_of_getElem? (i := 129) rfl))⟩, (fun x h => h)⟩
  · exact ⟨_, "BinderyDesk$Binding", rfl, by decide, Or.inr ⟨"BinderyDesk", va_Nw.use rfl (tb.1 _ (List.mem_of_getElem? (i := 129) rfl))⟩, (fun x h => h)⟩
def rm_X1_pageAt : Room := { frames := 10, cells := 4, slots := 24, locals := 187 }
def wb_X1_pageAt_29 (κ : Nat → Nat)  (Q : Int32 → gh_H → Prop) (X : String → gh_H → Prop) (v2 : Int32) (v3 : Int32) (v4 : Option Nat) (t0 : Int32) (h : gh_H) : Prop := (wp_X1_requireElement κ t0 (fun h1 => (gh_RC h1 v4 7 (fun a2 => (wp_X7_pageAt κ a2 v2 v3 (fun r3 h4 => (Q r3 h4)) X h1)))) X h)
def wb_X1_pageAt_28 (κ : Nat → Nat)  (Q : Int32 → gh_H → Prop) (X : String → gh_H → Prop) (v2 : Int32) (v3 : Int32) (v4 : Option Nat) (h : gh_H) : Prop := wb_X1_pageAt_29 κ Q X v2 v3 v4 (0 : Int32) h
def wp_X1_pageAt (κ : Nat → Nat) (v0 : Nat) (v1 : Int32) (v2 : Int32) (v3 : Int32) (Q : Int32 → gh_H → Prop) (X : String → gh_H → Prop) (h : gh_H) : Prop := (gh_RC h (some v0) 0 (fun _ => (wp_X1_jobWithSheet κ v0 v1 v2 (fun r2 h3 => ((v3 < 0 → wb_X1_pageAt_28 κ Q X v2 v3 r2 h3) ∧ (¬ v3 < 0 → (gh_GR h3 r2 [(7, 0)] (fun x4 => (gh_GI h3 x4 [(16, 1), (17, 1), (18, 1)] (fun x5 => ((x5 ≤ v3 → wb_X1_pageAt_28 κ Q X v2 v3 r2 h3) ∧ (¬ x5 ≤ v3 → wb_X1_pageAt_29 κ Q X v2 v3 r2 (1 : Int32) h3))))))))) X h)))
set_option maxHeartbeats 4000000 in
theorem wk_X1_pageAt_29 {D : gh_D} {p : Program} {l : Launch} {e : Env} {s : State} {m : MethodId} {args : Array Value} {below : List Frame} {meth : Method} {c : Code} {h0 : gh_H} (M : gh_M D p l s m args meth c RX1 cX1_pageAt 5 (gh_A h0 s.heap.size)) (hr : meth.sig.returnType = (some .int)) (hex : ∀ x ∈ c.exceptionTable.toList, False)   {Q : Int32 → gh_H → Prop} {X : String → gh_H → Prop}   (v2 : Int32) (v3 : Int32) (v4 : Option Nat) (t0 : Int32) (H : Heap) (locs : List Loc) (ls : Array Slot) (h : gh_H) (G : gh_Inv D h0 (gh_A h0 s.heap.size) s.heap s H locs h) (hl : gh_L ls 5 [(2, 1, .int v2), (3, 1, .int v3), (4, 1, va_rf v4)]) (hw : wb_X1_pageAt_29 D.2.2 Q X v2 v3 v4 t0 h) : W p l e rm_X1_pageAt s m args below meth c H locs 3 18 (vx_MQ below (gh_Qi Q D h0 s.heap.size) (gh_X X D h0 s.heap.size) args s 4 24 (gh_A h0 s.heap.size)) (F0 m 29 ls [.int t0]) := by
  unfold wb_X1_pageAt_29 at hw
  have hx := M.1.1
  have hb := M.1.2.1
  refine gh_kv G (vx_runS M.1 (met_X1_requireElement l D _ _ _ _ _ hw M.2.2.2.2.2) (va_cwS 1 (gh_Mts M) (lw_S q827 q828 q41 q829) rfl rfl rfl ⟨by decide, by decide, rfl⟩ ⟨Nat.le_of_ble_eq_true rfl, Nat.le_of_ble_eq_true rfl⟩) (gh_pre M G (As := [.int t0])) rfl rfl hl.1.1 rfl (lv_room (Nat.le_of_ble_eq_true rfl)) dX1_pageAt_29 ⟨(Nat.le_of_ble_eq_true rfl), (Nat.le_of_ble_eq_true rfl)⟩) (gh_out M hex (by exact Nat.le_of_ble_eq_true rfl) (by exact Nat.le_of_ble_eq_true rfl)) (fun h1 H locs hw G => ?_)
  refine gh_aload hx hb dX1_pageAt_32 (gh_at hl 2 rfl) ?_
  refine lv_iload_n hx hb dX1_pageAt_34 rfl (gh_at hl 0 rfl) ?_
  refine lv_iload_n hx hb dX1_pageAt_35 rfl (gh_at hl 1 rfl) ?_
  obtain ⟨a2, lba2, fsa2, rfl, haa2, hw⟩ := hw
  refine gh_ki G (vx_runV M.1 (met_X7_pageAt l D _ _ _ _ _ _ _ hw M.2.2.2.2.2) (cwV 2 (gh_Mts M) (lw_V q832 q656 q657 q71 q658) rfl rfl rfl ⟨rfl, by decide, by decide, rfl⟩ ⟨Nat.le_of_ble_eq_true rfl, Nat.le_of_ble_eq_true rfl⟩) (gh_preV (As := [.int v2, .int v3]) M G (gh_rec M G haa2 rfl)) rfl rfl hl.1.1 rfl (lv_room (Nat.le_of_ble_eq_true rfl)) dX1_pageAt_36 ⟨(Nat.le_of_ble_eq_true rfl), (Nat.le_of_ble_eq_true rfl)⟩) (gh_out M hex (by exact Nat.le_of_ble_eq_true rfl) (by exact Nat.le_of_ble_eq_true rfl)) (fun r3 h4 H locs hw G => ?_)
  exact gh_iret M G hr rfl hw (by exact Nat.le_of_ble_eq_true rfl) (by exact Nat.le_of_ble_eq_true rfl) dX1_pageAt_39
set_option maxHeartbeats 4000000 in
theorem wk_X1_pageAt_28 {D : gh_D} {p : Program} {l : Launch} {e : Env} {s : State} {m : MethodId} {args : Array Value} {below : List Frame} {meth : Method} {c : Code} {h0 : gh_H} (M : gh_M D p l s m args meth c RX1 cX1_pageAt 5 (gh_A h0 s.heap.size)) (hr : meth.sig.returnType = (some .int)) (hex : ∀ x ∈ c.exceptionTable.toList, False)   {Q : Int32 → gh_H → Prop} {X : String → gh_H → Prop}   (v2 : Int32) (v3 : Int32) (v4 : Option Nat) (H : Heap) (locs : List Loc) (ls : Array Slot) (h : gh_H) (G : gh_Inv D h0 (gh_A h0 s.heap.size) s.heap s H locs h) (hl : gh_L ls 5 [(2, 1, .int v2), (3, 1, .int v3), (4, 1, va_rf v4)]) (hw : wb_X1_pageAt_28 D.2.2 Q X v2 v3 v4 h) : W p l e rm_X1_pageAt s m args below meth c H locs 3 18 (vx_MQ below (gh_Qi Q D h0 s.heap.size) (gh_X X D h0 s.heap.size) args s 4 24 (gh_A h0 s.heap.size)) (F0 m 28 ls []) := by
  unfold wb_X1_pageAt_28 at hw
  have hx := M.1.1
  have hb := M.1.2.1
  refine lv_iconst (v := (0 : Int32)) hx hb dX1_pageAt_28 (by decide) ?_
  exact wk_X1_pageAt_29 M hr hex  v2 v3 v4 (0 : Int32) _ _ _ _ G (gh_sub hl [0, 1, 2] rfl) hw
set_option maxHeartbeats 4000000 in
theorem met_X1_pageAt (l : Launch) (D : gh_D) (v0 : Nat) (v1 : Int32) (v2 : Int32) (v3 : Int32) (Q : Int32 → gh_H → Prop) (X : String → gh_H → Prop) (h : gh_H) (sz : Nat) (hw : wp_X1_pageAt D.2.2 v0 v1 v2 v3 Q X h) (hst : l.stackTraces = false) : vx_Met l yX1_pageAt (ws_ yX1_pageAt cX1_pageAt 5 (some .int)) rm_X1_pageAt (gh_Pc D h sz [.ref v0, .int v1, .int v2, .int v3]) (gh_Qi Q D h sz) (gh_X X D h sz) 4 24 (gh_A h sz) := by
  refine vx_ofW (by decide) rfl (fun p e s m args below meth c s₁ B hml hex hP => ?_)
  obtain ⟨rfl, rfl, hK, hT, hE, G⟩ := gh_start hP
  have M : gh_M D p l s m _ meth c RX1 cX1_pageAt 5 (gh_A h s.heap.size) := ⟨⟨B.exec, B.bytes, hml, findClass_of_methodNamed B.named, fun w hw => atoms_spec (ws := ws_ yX1_pageAt cX1_pageAt 5 (some .int)) B.pre w (List.mem_cons_of_mem _ hw)⟩, hK, hT, hE, B.notSynchronized, hst⟩
  have hr := B.returns
  have hx := M.1.1
  have hb := M.1.2.1
  refine gh_enter (vs := [(1, .ref v0), (1, .int v1), (1, .int v2), (1, .int v3)]) (gh_w1 rfl (gh_w1 rfl (gh_w1 rfl (gh_w1 rfl gh_wn)))) (Nat.le_of_ble_eq_true rfl) (fun ls hl => ?_)
  replace hl : gh_L ls 5 [(0, 1, va_rf (some v0)), (1, 1, .int v1), (2, 1, .int v2), (3, 1, .int v3)] := hl
  unfold wp_X1_pageAt at hw
  refine gh_aload_n hx hb dX1_pageAt_0 rfl (gh_at hl 0 rfl) ?_
  refine lv_iload_n hx hb dX1_pageAt_1 rfl (gh_at hl 1 rfl) ?_
  refine lv_iload_n hx hb dX1_pageAt_2 rfl (gh_at hl 2 rfl) ?_
  obtain ⟨a1, lba1, fsa1, hra1, haa1, hw⟩ := hw
  rw [← Option.some.inj hra1] at haa1
  refine gh_kq G (vx_runV M.1 (met_X1_jobWithSheet l D _ _ _ _ _ _ _ hw M.2.2.2.2.2) (cwV 2 (gh_Mts M) (lw_V q823 q825 qs7 q41 q826) rfl rfl rfl ⟨rfl, by decide, by decide, rfl⟩ ⟨Nat.le_of_ble_eq_true rfl, Nat.le_of_ble_eq_true rfl⟩) (gh_preV (As := [.int v1, .int v2]) M G (gh_rec M G haa1 rfl)) rfl rfl hl.1.1 rfl (lv_room (Nat.le_of_ble_eq_true rfl)) dX1_pageAt_3 ⟨(Nat.le_of_ble_eq_true rfl), (Nat.le_of_ble_eq_true rfl)⟩) (gh_out M hex (by exact Nat.le_of_ble_eq_true rfl) (by exact Nat.le_of_ble_eq_true rfl)) (fun r2 h3 H locs hw G => ?_)
  refine gh_astore (lv' := [(4, 1, va_rf r2), (0, 1, va_rf (some v0)), (1, 1, .int v1), (2, 1, .int v2), (3, 1, .int v3)]) hx hb dX1_pageAt_6 hl (by decide) rfl (fun ls hl => ?_)
  refine lv_iload_n hx hb dX1_pageAt_8 rfl (gh_at hl 4 rfl) ?_
  refine lv_if_lt (tgt := 28) hx hb dX1_pageAt_9 (by decide) (fun hc => ?_) (fun hc => ?_)
  · replace hw := hw.1 hc
    exact wk_X1_pageAt_28 M hr hex  v2 v3 r2 _ _ _ _ G (gh_sub hl [3, 4, 0] rfl) hw
  · replace hw := hw.2 hc
    refine lv_iload_n hx hb dX1_pageAt_12 rfl (gh_at hl 4 rfl) ?_
    refine gh_aload hx hb dX1_pageAt_13 (gh_at hl 0 rfl) ?_
    refine gh_getR M G hw fl_X1_159 dX1_pageAt_15 (fun x4 hw => ?_)
    refine gh_getI M G hw fl_X1_163 dX1_pageAt_18 (fun x5 hw => ?_)
    refine lv_icmp_ge (tgt := 28) hx hb dX1_pageAt_21 (by decide) (fun hc => ?_) (fun hc => ?_)
    · replace hw := hw.1 hc
      exact wk_X1_pageAt_28 M hr hex  v2 v3 r2 _ _ _ _ G (gh_sub hl [3, 4, 0] rfl) hw
    · replace hw := hw.2 hc
      refine lv_iconst (v := (1 : Int32)) hx hb dX1_pageAt_24 (by decide) ?_
      refine lv_goto (tgt := 29) hx hb dX1_pageAt_25 (by decide) ?_
      exact wk_X1_pageAt_29 M hr hex  v2 v3 r2 (1 : Int32) _ _ _ _ G (gh_sub hl [3, 4, 0] rfl) hw
/-! BinderyDeskLaw.pageAt (LBinderyDesk;III[J)I -/
def rm_X0_pageAt : Room := { frames := 11, cells := 4, slots := 24, locals := 211 }
def wb_X0_pageAt_15 (κ : Nat → Nat)  (Q : Int32 → gh_H → Prop) (X : String → gh_H → Prop) (t0 : Option Nat) (h : gh_H) : Prop := (Q (1 : Int32) h)
def wb_X0_pageAt_19 (κ : Nat → Nat)  (Q : Int32 → gh_H → Prop) (X : String → gh_H → Prop) (t0 : Option Nat) (h : gh_H) : Prop := (Q (2 : Int32) h)
def wb_X0_pageAt_23 (κ : Nat → Nat)  (Q : Int32 → gh_H → Prop) (X : String → gh_H → Prop) (t0 : Option Nat) (h : gh_H) : Prop := (Q (3 : Int32) h)
def wp_X0_pageAt (κ : Nat → Nat) (v0 : Option Nat) (v1 : Int32) (v2 : Int32) (v3 : Int32) (v4 : Option Nat) (Q : Int32 → gh_H → Prop) (X : String → gh_H → Prop) (h : gh_H) : Prop := (gh_RC h v0 0 (fun a1 => (wp_X1_pageAt κ a1 v1 v2 v3 (fun r2 h3 => (gh_SJ h3 v4 (0 : Int32) (r2.toInt64) (fun h4 => (Q (0 : Int32) h4)))) (fun E h9 => (E = "java/lang/IndexOutOfBoundsException" ∧ ∀ q9 : Nat, wb_X0_pageAt_15 κ Q X (some q9) h9) ∨ (E = "java/lang/IllegalStateException" ∧ ∀ q9 : Nat, wb_X0_pageAt_19 κ Q X (some q9) h9) ∨ (E = "java/util/NoSuchElementException" ∧ ∀ q9 : Nat, wb_X0_pageAt_23 κ Q X (some q9) h9)) h)))
set_option maxHeartbeats 4000000 in
theorem wk_X0_pageAt_15 {D : gh_D} {p : Program} {l : Launch} {e : Env} {s : State} {m : MethodId} {args : Array Value} {below : List Frame} {meth : Method} {c : Code} {h0 : gh_H} (M : gh_M D p l s m args meth c RX0 cX0_pageAt 6 (gh_A h0 s.heap.size)) (hr : meth.sig.returnType = (some .int)) (htab : c.exceptionTable.toList = tableOf [(0, 12, 15, 19), (0, 12, 19, 13), (0, 12, 23, 48)])   {Q : Int32 → gh_H → Prop} {X : String → gh_H → Prop}   (t0 : Option Nat) (H : Heap) (locs : List Loc) (ls : Array Slot) (h : gh_H) (G : gh_Inv D h0 (gh_A h0 s.heap.size) s.heap s H locs h) (hl : gh_L ls 6 []) (hw : wb_X0_pageAt_15 D.2.2 Q X t0 h) : W p l e rm_X0_pageAt s m args below meth c H locs 4 24 (vx_MQ below (gh_Qi Q D h0 s.heap.size) (gh_X X D h0 s.heap.size) args s 4 24 (gh_A h0 s.heap.size)) (F0 m 15 ls [va_rf t0]) := by
  unfold wb_X0_pageAt_15 at hw
  have hx := M.1.1
  have hb := M.1.2.1
  refine gh_astore (lv' := [(5, 1, va_rf t0)]) hx hb dX0_pageAt_15 hl (by decide) rfl (fun ls hl => ?_)
  refine lv_iconst (v := (1 : Int32)) hx hb dX0_pageAt_17 (by decide) ?_
  exact gh_iret M G hr rfl hw (by exact Nat.le_of_ble_eq_true rfl) (by exact Nat.le_of_ble_eq_true rfl) dX0_pageAt_18
set_option maxHeartbeats 4000000 in
theorem wk_X0_pageAt_19 {D : gh_D} {p : Program} {l : Launch} {e : Env} {s : State} {m : MethodId} {args : Array Value} {below : List Frame} {meth : Method} {c : Code} {h0 : gh_H} (M : gh_M D p l s m args meth c RX0 cX0_pageAt 6 (gh_A h0 s.heap.size)) (hr : meth.sig.returnType = (some .int)) (htab : c.exceptionTable.toList = tableOf [(0, 12, 15, 19), (0, 12, 19, 13), (0, 12, 23, 48)])   {Q : Int32 → gh_H → Prop} {X : String → gh_H → Prop}   (t0 : Option Nat) (H : Heap) (locs : List Loc) (ls : Array Slot) (h : gh_H) (G : gh_Inv D h0 (gh_A h0 s.heap.size) s.heap s H locs h) (hl : gh_L ls 6 []) (hw : wb_X0_pageAt_19 D.2.2 Q X t0 h) : W p l e rm_X0_pageAt s m args below meth c H locs 4 24 (vx_MQ below (gh_Qi Q D h0 s.heap.size) (gh_X X D h0 s.heap.size) args s 4 24 (gh_A h0 s.heap.size)) (F0 m 19 ls [va_rf t0]) := by
  unfold wb_X0_pageAt_19 at hw
  have hx := M.1.1
  have hb := M.1.2.1
  refine gh_astore (lv' := [(5, 1, va_rf t0)]) hx hb dX0_pageAt_19 hl (by decide) rfl (fun ls hl => ?_)
  refine lv_iconst (v := (2 : Int32)) hx hb dX0_pageAt_21 (by decide) ?_
  exact gh_iret M G hr rfl hw (by exact Nat.le_of_ble_eq_true rfl) (by exact Nat.le_of_ble_eq_true rfl) dX0_pageAt_22
set_option maxHeartbeats 4000000 in
theorem wk_X0_pageAt_23 {D : gh_D} {p : Program} {l : Launch} {e : Env} {s : State} {m : MethodId} {args : Array Value} {below : List Frame} {meth : Method} {c : Code} {h0 : gh_H} (M : gh_M D p l s m args meth c RX0 cX0_pageAt 6 (gh_A h0 s.heap.size)) (hr : meth.sig.returnType = (some .int)) (htab : c.exceptionTable.toList = tableOf [(0, 12, 15, 19), (0, 12, 19, 13), (0, 12, 23, 48)])   {Q : Int32 → gh_H → Prop} {X : String → gh_H → Prop}   (t0 : Option Nat) (H : Heap) (locs : List Loc) (ls : Array Slot) (h : gh_H) (G : gh_Inv D h0 (gh_A h0 s.heap.size) s.heap s H locs h) (hl : gh_L ls 6 []) (hw : wb_X0_pageAt_23 D.2.2 Q X t0 h) : W p l e rm_X0_pageAt s m args below meth c H locs 4 24 (vx_MQ below (gh_Qi Q D h0 s.heap.size) (gh_X X D h0 s.heap.size) args s 4 24 (gh_A h0 s.heap.size)) (F0 m 23 ls [va_rf t0]) := by
  unfold wb_X0_pageAt_23 at hw
  have hx := M.1.1
  have hb := M.1.2.1
  refine gh_astore (lv' := [(5, 1, va_rf t0)]) hx hb dX0_pageAt_23 hl (by decide) rfl (fun ls hl => ?_)
  refine lv_iconst (v := (3 : Int32)) hx hb dX0_pageAt_25 (by decide) ?_
  exact gh_iret M G hr rfl hw (by exact Nat.le_of_ble_eq_true rfl) (by exact Nat.le_of_ble_eq_true rfl) dX0_pageAt_26
set_option maxHeartbeats 4000000 in
theorem met_X0_pageAt (l : Launch) (D : gh_D) (v0 : Option Nat) (v1 : Int32) (v2 : Int32) (v3 : Int32) (v4 : Option Nat) (Q : Int32 → gh_H → Prop) (X : String → gh_H → Prop) (h : gh_H) (sz : Nat) (hw : wp_X0_pageAt D.2.2 v0 v1 v2 v3 v4 Q X h) (hst : l.stackTraces = false) : vx_Met l yX0_pageAt (wsW_ yX0_pageAt cX0_pageAt 6 (some .int) [(0, 12, 15, 19), (0, 12, 19, 13), (0, 12, 23, 48)]) rm_X0_pageAt (gh_Pc D h sz [va_rf v0, .int v1, .int v2, .int v3, va_rf v4]) (gh_Qi Q D h sz) (gh_X X D h sz) 4 24 (gh_A h sz) := by
  refine vx_ofWH (by decide) rfl (fun p e s m args below meth c s₁ B hml hP => ?_)
  have htab := vx_table (x := yX0_pageAt) B (atoms_spec (ws := wsW_ yX0_pageAt cX0_pageAt 6 (some .int) [(0, 12, 15, 19), (0, 12, 19, 13), (0, 12, 23, 48)]) B.pre _ List.mem_cons_self)
  obtain ⟨rfl, rfl, hK, hT, hE, G⟩ := gh_start hP
  have M : gh_M D p l s m _ meth c RX0 cX0_pageAt 6 (gh_A h s.heap.size) := ⟨⟨B.exec, B.bytes, hml, findClass_of_methodNamed B.named, fun w hw => atoms_spec (ws := wsW_ yX0_pageAt cX0_pageAt 6 (some .int) [(0, 12, 15, 19), (0, 12, 19, 13), (0, 12, 23, 48)]) B.pre w (List.mem_cons_of_mem _ hw)⟩, hK, hT, hE, B.notSynchronized, hst⟩
  have hr := B.returns
  have hx := M.1.1
  have hb := M.1.2.1
  refine gh_enter (vs := [(1, va_rf v0), (1, .int v1), (1, .int v2), (1, .int v3), (1, va_rf v4)]) (gh_w1 (gh_cat _) (gh_w1 rfl (gh_w1 rfl (gh_w1 rfl (gh_w1 (gh_cat _) gh_wn))))) (Nat.le_of_ble_eq_true rfl) (fun ls hl => ?_)
  replace hl : gh_L ls 6 [(0, 1, va_rf v0), (1, 1, .int v1), (2, 1, .int v2), (3, 1, .int v3), (4, 1, va_rf v4)] := hl
  unfold wp_X0_pageAt at hw
  refine gh_aload hx hb dX0_pageAt_0 (gh_at hl 4 rfl) ?_
  refine lv_iconst (v := (0 : Int32)) hx hb dX0_pageAt_2 (by decide) ?_
  refine gh_aload_n hx hb dX0_pageAt_3 rfl (gh_at hl 0 rfl) ?_
  refine lv_iload_n hx hb dX0_pageAt_4 rfl (gh_at hl 1 rfl) ?_
  refine lv_iload_n hx hb dX0_pageAt_5 rfl (gh_at hl 2 rfl) ?_
  refine lv_iload_n hx hb dX0_pageAt_6 rfl (gh_at hl 3 rfl) ?_
  obtain ⟨a1, lba1, fsa1, rfl, haa1, hw⟩ := hw
  refine gh_ki G (vx_runV M.1 (met_X1_pageAt l D _ _ _ _ _ _ _ _ hw M.2.2.2.2.2) (cwV 3 (gh_Mts M) (lw_V q819 q820 q821 q41 q822) rfl rfl rfl ⟨rfl, by decide, by decide, rfl⟩ ⟨Nat.le_of_ble_eq_true rfl, Nat.le_of_ble_eq_true rfl⟩) (gh_preV (As := [.int v1, .int v2, .int v3]) M G (gh_rec M G haa1 rfl)) rfl rfl hl.1.1 rfl (lv_room (Nat.le_trans (gh_r1 rfl (gh_r1 (gh_cat _) gh_r0)) (Nat.le_of_ble_eq_true rfl : 2 ≤ 8))) dX0_pageAt_7 ⟨(Nat.le_of_ble_eq_true rfl), (Nat.le_of_ble_eq_true rfl)⟩) (fun E ce q9 h9 H locs hX G hce hcv hcl => ?_) (fun r2 h3 H locs hw G => ?_)
  · rcases hX with ⟨rfl, hX⟩ | ⟨rfl, hX⟩ | ⟨rfl, hX⟩
    · replace hw := hX q9
      refine vx_catch (name := "java/lang/IndexOutOfBoundsException") M.1.2.2.2.1 (tableOf []) ⟨0, 12, 15, 19⟩ (tableOf [(0, 12, 19, 13), (0, 12, 23, 48)]) (htab.trans rfl) (fun _ h => absurd h List.not_mem_nil) (by decide) (by decide) (gh_Mts M _ q439) (va_Nw.use rfl (M.2.2.1.1 _ (List.mem_of_getElem? (i := 8) rfl))) hce hcv hcl ?_
      exact wk_X0_pageAt_15 M hr htab  (some q9) _ _ _ _ G (gh_sub hl [] rfl) hw
    · replace hw := hX q9
      refine vx_catch (name := "java/lang/IllegalStateException") M.1.2.2.2.1 (tableOf [(0, 12, 15, 19)]) ⟨0, 12, 19, 13⟩ (tableOf [(0, 12, 23, 48)]) (htab.trans rfl) (List.forall_mem_cons.mpr ⟨Or.inr ⟨by decide, "java/lang/IndexOutOfBoundsException", gh_Mts M _ q439, M.2.2.1.2.2.1 _ (List.mem_of_getElem? (i := 6) rfl)⟩, fun _ h => absurd h List.not_mem_nil⟩) (by decide) (by decide) (gh_Mts M _ q261) (va_Nw.use rfl (M.2.2.1.1 _ (List.mem_of_getElem? (i := 4) rfl))) hce hcv hcl ?_
      exact wk_X0_pageAt_19 M hr htab  (some q9) _ _ _ _ G (gh_sub hl [] rfl) hw
    · replace hw := hX q9
      refine vx_catch (name := "java/util/NoSuchElementException") M.1.2.2.2.1 (tableOf [(0, 12, 15, 19), (0, 12, 19, 13)]) ⟨0, 12, 23, 48⟩ (tableOf []) (htab.trans rfl) (List.forall_mem_cons.mpr ⟨Or.inr ⟨by decide, "java/lang/IndexOutOfBoundsException", gh_Mts M _ q439, M.2.2.1.2.2.1 _ (List.mem_of_getElem? (i := 11) rfl)⟩, List.forall_mem_cons.mpr ⟨Or.inr ⟨by decide, "java/lang/IllegalStateException", gh_Mts M _ q261, M.2.2.1.2.2.1 _ (List.mem_of_getElem? (i := 12) rfl)⟩, fun _ h => absurd h List.not_mem_nil⟩⟩) (by decide) (by decide) (gh_Mts M _ q818) (va_Nw.use rfl (M.2.2.1.1 _ (List.mem_of_getElem? (i := 46) rfl))) hce hcv hcl ?_
      exact wk_X0_pageAt_23 M hr htab  (some q9) _ _ _ _ G (gh_sub hl [] rfl) hw
  · refine lv_i2l (v := (r2.toInt64)) hx hb dX0_pageAt_10 rfl ?_
    refine gh_jas M G hw dX0_pageAt_11 (fun h4 H locs hw G => ?_)
    refine lv_goto (tgt := 27) hx hb dX0_pageAt_12 (by decide) ?_
    refine lv_iconst (v := (0 : Int32)) hx hb dX0_pageAt_27 (by decide) ?_
    exact gh_iret M G hr rfl hw (by exact Nat.le_of_ble_eq_true rfl) (by exact Nat.le_of_ble_eq_true rfl) dX0_pageAt_28
/-! BinderyDeskModel.isSheet (II)Z -/
def rm_X3_isSheet : Room := { frames := 4, cells := 0, slots := 0, locals := 103 }
def wb_X3_isSheet_40 (κ : Nat → Nat)  (Q : Int32 → gh_H → Prop) (X : String → gh_H → Prop) (t0 : Int32) (h : gh_H) : Prop := (narrow .boolean (.int t0) = .int t0 ∧ Q t0 h)
def wb_X3_isSheet_28 (κ : Nat → Nat)  (Q : Int32 → gh_H → Prop) (X : String → gh_H → Prop) (v0 : Nat) (h : gh_H) : Prop := (gh_GI h (some v0) [(1, 0)] (fun x1 => ((x1 = 0 → wb_X3_isSheet_40 κ Q X (1 : Int32) h) ∧ (¬ x1 = 0 → wb_X3_isSheet_40 κ Q X (0 : Int32) h))))
def wp_X3_isSheet (κ : Nat → Nat) (v0 : Nat) (v1 : Int32) (v2 : Int32) (Q : Int32 → gh_H → Prop) (X : String → gh_H → Prop) (h : gh_H) : Prop := (gh_RC h (some v0) 1 (fun _ => (wp_X3_isJob κ v0 v1 (fun r2 h3 => ((r2 = 0 → wb_X3_isSheet_28 κ Q X v0 h3) ∧ (¬ r2 = 0 → (gh_RC h3 (some v0) 1 (fun _ => (wp_X3_count κ v0 v1 (fun r5 h6 => (wp_X3_in κ v2 (0 : Int32) (r5 - (1 : Int32)) (fun r7 h8 => ((r7 = 0 → (gh_PV h8 (some v0) [(1, 0)] (.int (3 : Int32)) (fun h9 => wb_X3_isSheet_28 κ Q X v0 h9))) ∧ (¬ r7 = 0 → wb_X3_isSheet_28 κ Q X v0 h8))) X h6)) X h3)))))) X h)))
set_option maxHeartbeats 4000000 in
theorem wk_X3_isSheet_40 {D : gh_D} {p : Program} {l : Launch} {e : Env} {s : State} {m : MethodId} {args : Array Value} {below : List Frame} {meth : Method} {c : Code} {h0 : gh_H} (M : gh_M D p l s m args meth c RX3 cX3_isSheet 3 (gh_A h0 s.heap.size)) (hr : meth.sig.returnType = (some .boolean)) (hex : ∀ x ∈ c.exceptionTable.toList, False)   {Q : Int32 → gh_H → Prop} {X : String → gh_H → Prop}   (t0 : Int32) (H : Heap) (locs : List Loc) (ls : Array Slot) (h : gh_H) (G : gh_Inv D h0 (gh_A h0 s.heap.size) s.heap s H locs h) (hl : gh_L ls 3 []) (hw : wb_X3_isSheet_40 D.2.2 Q X t0 h) : W p l e rm_X3_isSheet s m args below meth c H locs 0 0 (vx_MQ below (gh_Qi Q D h0 s.heap.size) (gh_X X D h0 s.heap.size) args s 0 0 (gh_A h0 s.heap.size)) (F0 m 40 ls [.int t0]) := by
  unfold wb_X3_isSheet_40 at hw
  have hx := M.1.1
  have hb := M.1.2.1
  exact gh_iret M G hr hw.1 hw.2 (by exact Nat.le_of_ble_eq_true rfl) (by exact Nat.le_of_ble_eq_true rfl) dX3_isSheet_40
set_option maxHeartbeats 4000000 in
theorem wk_X3_isSheet_28 {D : gh_D} {p : Program} {l : Launch} {e : Env} {s : State} {m : MethodId} {args : Array Value} {below : List Frame} {meth : Method} {c : Code} {h0 : gh_H} (M : gh_M D p l s m args meth c RX3 cX3_isSheet 3 (gh_A h0 s.heap.size)) (hr : meth.sig.returnType = (some .boolean)) (hex : ∀ x ∈ c.exceptionTable.toList, False)   {Q : Int32 → gh_H → Prop} {X : String → gh_H → Prop}   (v0 : Nat) (H : Heap) (locs : List Loc) (ls : Array Slot) (h : gh_H) (G : gh_Inv D h0 (gh_A h0 s.heap.size) s.heap s H locs h) (hl : gh_L ls 3 [(0, 1, va_rf (some v0))]) (hw : wb_X3_isSheet_28 D.2.2 Q X v0 h) : W p l e rm_X3_isSheet s m args below meth c H locs 0 0 (vx_MQ below (gh_Qi Q D h0 s.heap.size) (gh_X X D h0 s.heap.size) args s 0 0 (gh_A h0 s.heap.size)) (F0 m 28 ls []) := by
  unfold wb_X3_isSheet_28 at hw
  have hx := M.1.1
  have hb := M.1.2.1
  refine gh_aload_n hx hb dX3_isSheet_28 rfl (gh_at hl 0 rfl) ?_
  refine gh_getI M G hw fl_X3_53 dX3_isSheet_29 (fun x1 hw => ?_)
  refine lv_if_ne (tgt := 39) hx hb dX3_isSheet_32 (by decide) (fun hc => ?_) (fun hc => ?_)
  · replace hw := hw.2 hc
    refine lv_iconst (v := (0 : Int32)) hx hb dX3_isSheet_39 (by decide) ?_
    exact wk_X3_isSheet_40 M hr hex  (0 : Int32) _ _ _ _ G (gh_sub hl [] rfl) hw
  · replace hw := hw.1 hc
    refine lv_iconst (v := (1 : Int32)) hx hb dX3_isSheet_35 (by decide) ?_
    refine lv_goto (tgt := 40) hx hb dX3_isSheet_36 (by decide) ?_
    exact wk_X3_isSheet_40 M hr hex  (1 : Int32) _ _ _ _ G (gh_sub hl [] rfl) hw
set_option maxHeartbeats 4000000 in
theorem met_X3_isSheet (l : Launch) (D : gh_D) (v0 : Nat) (v1 : Int32) (v2 : Int32) (Q : Int32 → gh_H → Prop) (X : String → gh_H → Prop) (h : gh_H) (sz : Nat) (hw : wp_X3_isSheet D.2.2 v0 v1 v2 Q X h) (hst : l.stackTraces = false) : vx_Met l yX3_isSheet (ws_ yX3_isSheet cX3_isSheet 3 (some .boolean)) rm_X3_isSheet (gh_Pc D h sz [.ref v0, .int v1, .int v2]) (gh_Qi Q D h sz) (gh_X X D h sz) 0 0 (gh_A h sz) := by
  refine vx_ofW (by decide) rfl (fun p e s m args below meth c s₁ B hml hex hP => ?_)
  obtain ⟨rfl, rfl, hK, hT, hE, G⟩ := gh_start hP
  have M : gh_M D p l s m _ meth c RX3 cX3_isSheet 3 (gh_A h s.heap.size) := ⟨⟨B.exec, B.bytes, hml, findClass_of_methodNamed B.named, fun w hw => atoms_spec (ws := ws_ yX3_isSheet cX3_isSheet 3 (some .boolean)) B.pre w (List.mem_cons_of_mem _ hw)⟩, hK, hT, hE, B.notSynchronized, hst⟩
  have hr := B.returns
  have hx := M.1.1
  have hb := M.1.2.1
  refine gh_enter (vs := [(1, .ref v0), (1, .int v1), (1, .int v2)]) (gh_w1 rfl (gh_w1 rfl (gh_w1 rfl gh_wn))) (Nat.le_of_ble_eq_true rfl) (fun ls hl => ?_)
  replace hl : gh_L ls 3 [(0, 1, va_rf (some v0)), (1, 1, .int v1), (2, 1, .int v2)] := hl
  unfold wp_X3_isSheet at hw
  refine gh_aload_n hx hb dX3_isSheet_0 rfl (gh_at hl 0 rfl) ?_
  refine lv_iload_n hx hb dX3_isSheet_1 rfl (gh_at hl 1 rfl) ?_
  obtain ⟨a1, lba1, fsa1, hra1, haa1, hw⟩ := hw
  rw [← Option.some.inj hra1] at haa1
  refine gh_ki G (vx_runV M.1 (met_X3_isJob l D _ _ _ _ _ _ hw M.2.2.2.2.2) (cwV 1 (gh_Mts M) (lw_V q1724 q1726 qs30 q50 q1727) rfl rfl rfl ⟨rfl, by decide, by decide, rfl⟩ ⟨Nat.le_of_ble_eq_true rfl, Nat.le_of_ble_eq_true rfl⟩) (gh_preV (As := [.int v1]) M G (gh_rec M G haa1 rfl)) rfl rfl hl.1.1 rfl (lv_room (Nat.le_of_ble_eq_true rfl)) dX3_isSheet_2 ⟨(Nat.le_of_ble_eq_true rfl), (Nat.le_of_ble_eq_true rfl)⟩) (gh_out M hex (by exact Nat.le_of_ble_eq_true rfl) (by exact Nat.le_of_ble_eq_true rfl)) (fun r2 h3 H locs hw G => ?_)
  refine lv_if_eq (tgt := 28) hx hb dX3_isSheet_5 (by decide) (fun hc => ?_) (fun hc => ?_)
  · replace hw := hw.1 hc
    exact wk_X3_isSheet_28 M hr hex  v0 _ _ _ _ G (gh_sub hl [0] rfl) hw
  · replace hw := hw.2 hc
    refine lv_iload_n hx hb dX3_isSheet_8 rfl (gh_at hl 2 rfl) ?_
    refine lv_iconst (v := (0 : Int32)) hx hb dX3_isSheet_9 (by decide) ?_
    refine gh_aload_n hx hb dX3_isSheet_10 rfl (gh_at hl 0 rfl) ?_
    refine lv_iload_n hx hb dX3_isSheet_11 rfl (gh_at hl 1 rfl) ?_
    obtain ⟨a4, lba4, fsa4, hra4, haa4, hw⟩ := hw
    rw [← Option.some.inj hra4] at haa4
    refine gh_ki G (vx_runV M.1 (met_X3_count l D _ _ _ _ _ _ hw M.2.2.2.2.2) (cwV 1 (gh_Mts M) (lw_V q1684 q1686 qs25 q50 q1687) rfl rfl rfl ⟨rfl, by decide, by decide, rfl⟩ ⟨Nat.le_of_ble_eq_true rfl, Nat.le_of_ble_eq_true rfl⟩) (gh_preV (As := [.int v1]) M G (gh_rec M G haa4 rfl)) rfl rfl hl.1.1 rfl (lv_room (Nat.le_of_ble_eq_true rfl)) dX3_isSheet_12 ⟨(Nat.le_of_ble_eq_true rfl), (Nat.le_of_ble_eq_true rfl)⟩) (gh_out M hex (by exact Nat.le_of_ble_eq_true rfl) (by exact Nat.le_of_ble_eq_true rfl)) (fun r5 h6 H locs hw G => ?_)
    refine lv_iconst (v := (1 : Int32)) hx hb dX3_isSheet_15 (by decide) ?_
    refine lv_isub hx hb dX3_isSheet_16 ?_
    refine gh_ki G (vx_runS M.1 (met_X3_in l D _ _ _ _ _ _ _ hw M.2.2.2.2.2) (va_cwS 3 (gh_Mts M) (lw_S q1669 q1670 q50 q1671) rfl rfl rfl ⟨by decide, by decide, rfl⟩ ⟨Nat.le_of_ble_eq_true rfl, Nat.le_of_ble_eq_true rfl⟩) (gh_pre M G (As := [.int v2, .int (0 : Int32), .int (r5 - (1 : Int32))])) rfl rfl hl.1.1 rfl (lv_room (Nat.le_of_ble_eq_true rfl)) dX3_isSheet_17 ⟨(Nat.le_of_ble_eq_true rfl), (Nat.le_of_ble_eq_true rfl)⟩) (gh_out M hex (by exact Nat.le_of_ble_eq_true rfl) (by exact Nat.le_of_ble_eq_true rfl)) (fun r7 h8 H locs hw G => ?_)
    refine lv_if_ne (tgt := 28) hx hb dX3_isSheet_20 (by decide) (fun hc => ?_) (fun hc => ?_)
    · replace hw := hw.2 hc
      exact wk_X3_isSheet_28 M hr hex  v0 _ _ _ _ G (gh_sub hl [0] rfl) hw
    · replace hw := hw.1 hc
      refine gh_aload_n hx hb dX3_isSheet_23 rfl (gh_at hl 0 rfl) ?_
      refine lv_iconst (v := (3 : Int32)) hx hb dX3_isSheet_24 (by decide) ?_
      refine gh_put M G hw fp_X3_53 rfl rfl dX3_isSheet_25 (fun h9 H locs hw G => ?_)
      exact wk_X3_isSheet_28 M hr hex  v0 _ _ _ _ G (gh_sub hl [0] rfl) hw
/-! BinderyDeskModel.pageAt (III)I -/
def rm_X3_pageAt : Room := { frames := 5, cells := 0, slots := 0, locals := 125 }
def wb_X3_pageAt_41 (κ : Nat → Nat)  (Q : Int32 → gh_H → Prop) (X : String → gh_H → Prop) (t0 : Int32) (h : gh_H) : Prop := (Q t0 h)
def wp_X3_pageAt (κ : Nat → Nat) (v0 : Nat) (v1 : Int32) (v2 : Int32) (v3 : Int32) (Q : Int32 → gh_H → Prop) (X : String → gh_H → Prop) (h : gh_H) : Prop := (gh_RC h (some v0) 1 (fun _ => (wp_X3_isSheet κ v0 v1 v2 (fun r2 h3 => ((r2 = 0 → (Q (0 : Int32) h3)) ∧ (¬ r2 = 0 → (gh_RC h3 (some v0) 1 (fun _ => (wp_X3_places κ v0 v1 (fun r5 h6 => (wp_X3_in κ v3 (0 : Int32) (r5 - (1 : Int32)) (fun r7 h8 => ((r7 = 0 → (gh_RC h8 (some v0) 1 (fun _ => (wp_X3_fails κ v0 (3 : Int32) (fun r10 h11 => wb_X3_pageAt_41 κ Q X r10 h11) X h8)))) ∧ (¬ r7 = 0 → (gh_RC h8 (some v0) 1 (fun _ => (wp_X3_pageOn κ v0 v1 v2 v3 (fun r13 h14 => wb_X3_pageAt_41 κ Q X r13 h14) X h8)))))) X h6)) X h3)))))) X h)))
set_option maxHeartbeats 4000000 in
theorem wk_X3_pageAt_41 {D : gh_D} {p : Program} {l : Launch} {e : Env} {s : State} {m : MethodId} {args : Array Value} {below : List Frame} {meth : Method} {c : Code} {h0 : gh_H} (M : gh_M D p l s m args meth c RX3 cX3_pageAt 4 (gh_A h0 s.heap.size)) (hr : meth.sig.returnType = (some .int)) (hex : ∀ x ∈ c.exceptionTable.toList, False)   {Q : Int32 → gh_H → Prop} {X : String → gh_H → Prop}   (t0 : Int32) (H : Heap) (locs : List Loc) (ls : Array Slot) (h : gh_H) (G : gh_Inv D h0 (gh_A h0 s.heap.size) s.heap s H locs h) (hl : gh_L ls 4 []) (hw : wb_X3_pageAt_41 D.2.2 Q X t0 h) : W p l e rm_X3_pageAt s m args below meth c H locs 0 0 (vx_MQ below (gh_Qi Q D h0 s.heap.size) (gh_X X D h0 s.heap.size) args s 0 0 (gh_A h0 s.heap.size)) (F0 m 41 ls [.int t0]) := by
  unfold wb_X3_pageAt_41 at hw
  have hx := M.1.1
  have hb := M.1.2.1
  exact gh_iret M G hr rfl hw (by exact Nat.le_of_ble_eq_true rfl) (by exact Nat.le_of_ble_eq_true rfl) dX3_pageAt_41
set_option maxHeartbeats 4000000 in
theorem met_X3_pageAt (l : Launch) (D : gh_D) (v0 : Nat) (v1 : Int32) (v2 : Int32) (v3 : Int32) (Q : Int32 → gh_H → Prop) (X : String → gh_H → Prop) (h : gh_H) (sz : Nat) (hw : wp_X3_pageAt D.2.2 v0 v1 v2 v3 Q X h) (hst : l.stackTraces = false) : vx_Met l yX3_pageAt (ws_ yX3_pageAt cX3_pageAt 4 (some .int)) rm_X3_pageAt (gh_Pc D h sz [.ref v0, .int v1, .int v2, .int v3]) (gh_Qi Q D h sz) (gh_X X D h sz) 0 0 (gh_A h sz) := by
  refine vx_ofW (by decide) rfl (fun p e s m args below meth c s₁ B hml hex hP => ?_)
  obtain ⟨rfl, rfl, hK, hT, hE, G⟩ := gh_start hP
  have M : gh_M D p l s m _ meth c RX3 cX3_pageAt 4 (gh_A h s.heap.size) := ⟨⟨B.exec, B.bytes, hml, findClass_of_methodNamed B.named, fun w hw => atoms_spec (ws := ws_ yX3_pageAt cX3_pageAt 4 (some .int)) B.pre w (List.mem_cons_of_mem _ hw)⟩, hK, hT, hE, B.notSynchronized, hst⟩
  have hr := B.returns
  have hx := M.1.1
  have hb := M.1.2.1
  refine gh_enter (vs := [(1, .ref v0), (1, .int v1), (1, .int v2), (1, .int v3)]) (gh_w1 rfl (gh_w1 rfl (gh_w1 rfl (gh_w1 rfl gh_wn)))) (Nat.le_of_ble_eq_true rfl) (fun ls hl => ?_)
  replace hl : gh_L ls 4 [(0, 1, va_rf (some v0)), (1, 1, .int v1), (2, 1, .int v2), (3, 1, .int v3)] := hl
  unfold wp_X3_pageAt at hw
  refine gh_aload_n hx hb dX3_pageAt_0 rfl (gh_at hl 0 rfl) ?_
  refine lv_iload_n hx hb dX3_pageAt_1 rfl (gh_at hl 1 rfl) ?_
  refine lv_iload_n hx hb dX3_pageAt_2 rfl (gh_at hl 2 rfl) ?_
  obtain ⟨a1, lba1, fsa1, hra1, haa1, hw⟩ := hw
  rw [← Option.some.inj hra1] at haa1
  refine gh_ki G (vx_runV M.1 (met_X3_isSheet l D _ _ _ _ _ _ _ hw M.2.2.2.2.2) (cwV 2 (gh_Mts M) (lw_V q1732 q1734 qs31 q50 q1735) rfl rfl rfl ⟨rfl, by decide, by decide, rfl⟩ ⟨Nat.le_of_ble_eq_true rfl, Nat.le_of_ble_eq_true rfl⟩) (gh_preV (As := [.int v1, .int v2]) M G (gh_rec M G haa1 rfl)) rfl rfl hl.1.1 rfl (lv_room (Nat.le_of_ble_eq_true rfl)) dX3_pageAt_3 ⟨(Nat.le_of_ble_eq_true rfl), (Nat.le_of_ble_eq_true rfl)⟩) (gh_out M hex (by exact Nat.le_of_ble_eq_true rfl) (by exact Nat.le_of_ble_eq_true rfl)) (fun r2 h3 H locs hw G => ?_)
  refine lv_if_ne (tgt := 11) hx hb dX3_pageAt_6 (by decide) (fun hc => ?_) (fun hc => ?_)
  · replace hw := hw.2 hc
    refine lv_iload_n hx hb dX3_pageAt_11 rfl (gh_at hl 3 rfl) ?_
    refine lv_iconst (v := (0 : Int32)) hx hb dX3_pageAt_12 (by decide) ?_
    refine gh_aload_n hx hb dX3_pageAt_13 rfl (gh_at hl 0 rfl) ?_
    refine lv_iload_n hx hb dX3_pageAt_14 rfl (gh_at hl 1 rfl) ?_
    obtain ⟨a4, lba4, fsa4, hra4, haa4, hw⟩ := hw
    rw [← Option.some.inj hra4] at haa4
    refine gh_ki G (vx_runV M.1 (met_X3_places l D _ _ _ _ _ _ hw M.2.2.2.2.2) (cwV 1 (gh_Mts M) (lw_V q1680 q1682 qs24 q50 q1683) rfl rfl rfl ⟨rfl, by decide, by decide, rfl⟩ ⟨Nat.le_of_ble_eq_true rfl, Nat.le_of_ble_eq_true rfl⟩) (gh_preV (As := [.int v1]) M G (gh_rec M G haa4 rfl)) rfl rfl hl.1.1 rfl (lv_room (Nat.le_of_ble_eq_true rfl)) dX3_pageAt_15 ⟨(Nat.le_of_ble_eq_true rfl), (Nat.le_of_ble_eq_true rfl)⟩) (gh_out M hex (by exact Nat.le_of_ble_eq_true rfl) (by exact Nat.le_of_ble_eq_true rfl)) (fun r5 h6 H locs hw G => ?_)
    refine lv_iconst (v := (1 : Int32)) hx hb dX3_pageAt_18 (by decide) ?_
    refine lv_isub hx hb dX3_pageAt_19 ?_
    refine gh_ki G (vx_runS M.1 (met_X3_in l D _ _ _ _ _ _ _ hw M.2.2.2.2.2) (va_cwS 3 (gh_Mts M) (lw_S q1669 q1670 q50 q1671) rfl rfl rfl ⟨by decide, by decide, rfl⟩ ⟨Nat.le_of_ble_eq_true rfl, Nat.le_of_ble_eq_true rfl⟩) (gh_pre M G (As := [.int v3, .int (0 : Int32), .int (r5 - (1 : Int32))])) rfl rfl hl.1.1 rfl (lv_room (Nat.le_of_ble_eq_true rfl)) dX3_pageAt_20 ⟨(Nat.le_of_ble_eq_true rfl), (Nat.le_of_ble_eq_true rfl)⟩) (gh_out M hex (by exact Nat.le_of_ble_eq_true rfl) (by exact Nat.le_of_ble_eq_true rfl)) (fun r7 h8 H locs hw G => ?_)
    refine lv_if_eq (tgt := 36) hx hb dX3_pageAt_23 (by decide) (fun hc => ?_) (fun hc => ?_)
    · replace hw := hw.1 hc
      refine gh_aload_n hx hb dX3_pageAt_36 rfl (gh_at hl 0 rfl) ?_
      refine lv_iconst (v := (3 : Int32)) hx hb dX3_pageAt_37 (by decide) ?_
      obtain ⟨a9, lba9, fsa9, hra9, haa9, hw⟩ := hw
      rw [← Option.some.inj hra9] at haa9
      refine gh_ki G (vx_runV M.1 (met_X3_fails l D _ _ _ _ _ _ hw M.2.2.2.2.2) (cwV 1 (gh_Mts M) (lw_V q1657 q1659 qs21 q50 q1660) rfl rfl rfl ⟨rfl, by decide, by decide, rfl⟩ ⟨Nat.le_of_ble_eq_true rfl, Nat.le_of_ble_eq_true rfl⟩) (gh_preV (As := [.int (3 : Int32)]) M G (gh_rec M G haa9 rfl)) rfl rfl hl.1.1 rfl (lv_room (Nat.le_of_ble_eq_true rfl)) dX3_pageAt_38 ⟨(Nat.le_of_ble_eq_true rfl), (Nat.le_of_ble_eq_true rfl)⟩) (gh_out M hex (by exact Nat.le_of_ble_eq_true rfl) (by exact Nat.le_of_ble_eq_true rfl)) (fun r10 h11 H locs hw G => ?_)
      exact wk_X3_pageAt_41 M hr hex  r10 _ _ _ _ G (gh_sub hl [] rfl) hw
    · replace hw := hw.2 hc
      refine gh_aload_n hx hb dX3_pageAt_26 rfl (gh_at hl 0 rfl) ?_
      refine lv_iload_n hx hb dX3_pageAt_27 rfl (gh_at hl 1 rfl) ?_
      refine lv_iload_n hx hb dX3_pageAt_28 rfl (gh_at hl 2 rfl) ?_
      refine lv_iload_n hx hb dX3_pageAt_29 rfl (gh_at hl 3 rfl) ?_
      obtain ⟨a12, lba12, fsa12, hra12, haa12, hw⟩ := hw
      rw [← Option.some.inj hra12] at haa12
      refine gh_ki G (vx_runV M.1 (met_X3_pageOn l D _ _ _ _ _ _ _ _ hw M.2.2.2.2.2) (cwV 3 (gh_Mts M) (lw_V q1696 q1698 qs28 q50 q1699) rfl rfl rfl ⟨rfl, by decide, by decide, rfl⟩ ⟨Nat.le_of_ble_eq_true rfl, Nat.le_of_ble_eq_true rfl⟩) (gh_preV (As := [.int v1, .int v2, .int v3]) M G (gh_rec M G haa12 rfl)) rfl rfl hl.1.1 rfl (lv_room (Nat.le_of_ble_eq_true rfl)) dX3_pageAt_30 ⟨(Nat.le_of_ble_eq_true rfl), (Nat.le_of_ble_eq_true rfl)⟩) (gh_out M hex (by exact Nat.le_of_ble_eq_true rfl) (by exact Nat.le_of_ble_eq_true rfl)) (fun r13 h14 H locs hw G => ?_)
      refine lv_goto (tgt := 41) hx hb dX3_pageAt_33 (by decide) ?_
      exact wk_X3_pageAt_41 M hr hex  r13 _ _ _ _ G (gh_sub hl [] rfl) hw
  · replace hw := hw.1 hc
    refine lv_iconst (v := (0 : Int32)) hx hb dX3_pageAt_9 (by decide) ?_
    exact gh_iret M G hr rfl hw (by exact Nat.le_of_ble_eq_true rfl) (by exact Nat.le_of_ble_eq_true rfl) dX3_pageAt_10
/-! BinderyDesk.sheetOf (II)I -/
def rm_X1_sheetOf : Room := { frames := 9, cells := 3, slots := 18, locals := 164 }
def wb_X1_sheetOf_21 (κ : Nat → Nat) (K9 : Int32 → Option Nat → Int32 → gh_H → Prop) (K21 : Int32 → Option Nat → Int32 → Int32 → gh_H → Prop) (Q : Int32 → gh_H → Prop) (X : String → gh_H → Prop) (v2 : Int32) (v3 : Option Nat) (v4 : Int32) (v5 : Int32) (h : gh_H) : Prop := (gh_GR h v3 [(7, 0)] (fun x1 => (gh_GI h x1 [(16, 1), (17, 1), (18, 1)] (fun x2 => ((x2 ≤ v5 → K9 v2 v3 (v4 + (1 : Int32)) h) ∧ (¬ x2 ≤ v5 → (gh_RC h v3 7 (fun a3 => (wp_X7_pageAt κ a3 v4 v5 (fun r4 h5 => ((r4 = v2 → (Q v4 h5)) ∧ (¬ r4 = v2 → K21 v2 (some a3) v4 (v5 + (1 : Int32)) h5))) X h)))))))))
def wl_X1_sheetOf_21 (κ : Nat → Nat) (K9 : Int32 → Option Nat → Int32 → gh_H → Prop) (Q : Int32 → gh_H → Prop) (X : String → gh_H → Prop) : Nat → Int32 → Option Nat → Int32 → Int32 → gh_H → Prop
  | 0 => fun _ _ _ _ _ => False
  | n + 1 => fun v2 v3 v4 v5 h => wb_X1_sheetOf_21 κ K9 (wl_X1_sheetOf_21 κ K9 Q X n) Q X v2 v3 v4 v5 h
def wb_X1_sheetOf_9 (κ : Nat → Nat) (K9 : Int32 → Option Nat → Int32 → gh_H → Prop) (Q : Int32 → gh_H → Prop) (X : String → gh_H → Prop) (v2 : Int32) (v3 : Option Nat) (v4 : Int32) (h : gh_H) : Prop := (gh_RC h v3 7 (fun a1 => (wp_X7_sheets κ a1 (fun r2 h3 => ((r2 ≤ v4 → (X "java/util/NoSuchElementException" h3)) ∧ (¬ r2 ≤ v4 → (∃ n : Nat, wl_X1_sheetOf_21 κ K9 Q X n v2 (some a1) v4 (0 : Int32) h3)))) X h)))
def wl_X1_sheetOf_9 (κ : Nat → Nat)  (Q : Int32 → gh_H → Prop) (X : String → gh_H → Prop) : Nat → Int32 → Option Nat → Int32 → gh_H → Prop
  | 0 => fun _ _ _ _ => False
  | n + 1 => fun v2 v3 v4 h => wb_X1_sheetOf_9 κ (wl_X1_sheetOf_9 κ Q X n) Q X v2 v3 v4 h
def wp_X1_sheetOf (κ : Nat → Nat) (v0 : Nat) (v1 : Int32) (v2 : Int32) (Q : Int32 → gh_H → Prop) (X : String → gh_H → Prop) (h : gh_H) : Prop := (gh_RC h (some v0) 0 (fun _ => (wp_X1_completeJob κ v0 v1 (fun r2 h3 => (∃ n : Nat, wl_X1_sheetOf_9 κ Q X n v2 r2 (0 : Int32) h3)) X h)))
set_option maxHeartbeats 4000000 in
theorem wk1_X1_sheetOf_21 {D : gh_D} {p : Program} {l : Launch} {e : Env} {s : State} {m : MethodId} {args : Array Value} {below : List Frame} {meth : Method} {c : Code} {h0 : gh_H} (M : gh_M D p l s m args meth c RX1 cX1_sheetOf 6 (gh_A h0 s.heap.size)) (hr : meth.sig.returnType = (some .int)) (hex : ∀ x ∈ c.exceptionTable.toList, False) {K9 : Int32 → Option Nat → Int32 → gh_H → Prop} {K21 : Int32 → Option Nat → Int32 → Int32 → gh_H → Prop}  {Q : Int32 → gh_H → Prop} {X : String → gh_H → Prop} (k9 : ∀ (v2 : Int32) (v3 : Option Nat) (v4 : Int32) (H : Heap) (locs : List Loc) (ls : Array Slot) (h : gh_H) (_ : gh_Inv D h0 (gh_A h0 s.heap.size) s.heap s H locs h) (_ : gh_L ls 6 [(2, 1, .int v2), (3, 1, va_rf v3), (4, 1, .int v4)]) (_ : K9 v2 v3 v4 h), W p l e rm_X1_sheetOf s m args below meth c H locs 2 12 (vx_MQ below (gh_Qi Q D h0 s.heap.size) (gh_X X D h0 s.heap.size) args s 3 18 (gh_A h0 s.heap.size)) (F0 m 9 ls [])) (k21 : ∀ (v2 : Int32) (v3 : Option Nat) (v4 : Int32) (v5 : Int32) (H : Heap) (locs : List Loc) (ls : Array Slot) (h : gh_H) (_ : gh_Inv D h0 (gh_A h0 s.heap.size) s.heap s H locs h) (_ : gh_L ls 6 [(2, 1, .int v2), (3, 1, va_rf v3), (4, 1, .int v4), (5, 1, .int v5)]) (_ : K21 v2 v3 v4 v5 h), W p l e rm_X1_sheetOf s m args below meth c H locs 2 12 (vx_MQ below (gh_Qi Q D h0 s.heap.size) (gh_X X D h0 s.heap.size) args s 3 18 (gh_A h0 s.heap.size)) (F0 m 21 ls []))  (v2 : Int32) (v3 : Option Nat) (v4 : Int32) (v5 : Int32) (H : Heap) (locs : List Loc) (ls : Array Slot) (h : gh_H) (G : gh_Inv D h0 (gh_A h0 s.heap.size) s.heap s H locs h) (hl : gh_L ls 6 [(2, 1, .int v2), (3, 1, va_rf v3), (4, 1, .int v4), (5, 1, .int v5)]) (hw : wb_X1_sheetOf_21 D.2.2 K9 K21 Q X v2 v3 v4 v5 h) : W p l e rm_X1_sheetOf s m args below meth c H locs 2 12 (vx_MQ below (gh_Qi Q D h0 s.heap.size) (gh_X X D h0 s.heap.size) args s 3 18 (gh_A h0 s.heap.size)) (F0 m 21 ls []) := by
  unfold wb_X1_sheetOf_21 at hw
  have hx := M.1.1
  have hb := M.1.2.1
  refine lv_iload hx hb dX1_sheetOf_21 (gh_at hl 3 rfl) ?_
  refine gh_aload_n hx hb dX1_sheetOf_23 rfl (gh_at hl 1 rfl) ?_
  refine gh_getR M G hw fl_X1_159 dX1_sheetOf_24 (fun x1 hw => ?_)
  refine gh_getI M G hw fl_X1_163 dX1_sheetOf_27 (fun x2 hw => ?_)
  refine lv_icmp_ge (tgt := 54) hx hb dX1_sheetOf_30 (by decide) (fun hc => ?_) (fun hc => ?_)
  · replace hw := hw.1 hc
    refine gh_iinc (k := 2) (v := (v4 + (1 : Int32))) (lv' := [(4, 1, .int (v4 + (1 : Int32))), (2, 1, .int v2), (3, 1, va_rf v3), (5, 1, .int v5)]) hx hb dX1_sheetOf_54 hl rfl rfl (by decide) rfl (fun ls hl => ?_)
    refine lv_goto (tgt := 9) hx hb dX1_sheetOf_57 (by decide) ?_
    exact k9 v2 v3 (v4 + (1 : Int32)) _ _ _ _ G (gh_sub hl [1, 2, 0] rfl) hw
  · replace hw := hw.2 hc
    refine gh_aload_n hx hb dX1_sheetOf_33 rfl (gh_at hl 1 rfl) ?_
    refine lv_iload hx hb dX1_sheetOf_34 (gh_at hl 2 rfl) ?_
    refine lv_iload hx hb dX1_sheetOf_36 (gh_at hl 3 rfl) ?_
    obtain ⟨a3, lba3, fsa3, rfl, haa3, hw⟩ := hw
    refine gh_ki G (vx_runV M.1 (met_X7_pageAt l D _ _ _ _ _ _ _ hw M.2.2.2.2.2) (cwV 2 (gh_Mts M) (lw_V q832 q656 q657 q71 q658) rfl rfl rfl ⟨rfl, by decide, by decide, rfl⟩ ⟨Nat.le_of_ble_eq_true rfl, Nat.le_of_ble_eq_true rfl⟩) (gh_preV (As := [.int v4, .int v5]) M G (gh_rec M G haa3 rfl)) rfl rfl hl.1.1 rfl (lv_room (Nat.le_of_ble_eq_true rfl)) dX1_sheetOf_38 ⟨(Nat.le_of_ble_eq_true rfl), (Nat.le_of_ble_eq_true rfl)⟩) (gh_out M hex (by exact Nat.le_of_ble_eq_true rfl) (by exact Nat.le_of_ble_eq_true rfl)) (fun r4 h5 H locs hw G => ?_)
    refine lv_iload_n hx hb dX1_sheetOf_41 rfl (gh_at hl 0 rfl) ?_
    refine lv_icmp_ne (tgt := 48) hx hb dX1_sheetOf_42 (by decide) (fun hc => ?_) (fun hc => ?_)
    · replace hw := hw.2 hc
      refine gh_iinc (k := 3) (v := (v5 + (1 : Int32))) (lv' := [(5, 1, .int (v5 + (1 : Int32))), (2, 1, .int v2), (3, 1, va_rf (some a3)), (4, 1, .int v4)]) hx hb dX1_sheetOf_48 hl rfl rfl (by decide) rfl (fun ls hl => ?_)
      refine lv_goto (tgt := 21) hx hb dX1_sheetOf_51 (by decide) ?_
      exact k21 v2 (some a3) v4 (v5 + (1 : Int32)) _ _ _ _ G (gh_sub hl [1, 2, 3, 0] rfl) hw
    · replace hw := hw.1 hc
      refine lv_iload hx hb dX1_sheetOf_45 (gh_at hl 2 rfl) ?_
      exact gh_iret M G hr rfl hw (by exact Nat.le_of_ble_eq_true rfl) (by exact Nat.le_of_ble_eq_true rfl) dX1_sheetOf_47
theorem wk_X1_sheetOf_21 {D : gh_D} {p : Program} {l : Launch} {e : Env} {s : State} {m : MethodId} {args : Array Value} {below : List Frame} {meth : Method} {c : Code} {h0 : gh_H} (M : gh_M D p l s m args meth c RX1 cX1_sheetOf 6 (gh_A h0 s.heap.size)) (hr : meth.sig.returnType = (some .int)) (hex : ∀ x ∈ c.exceptionTable.toList, False) {K9 : Int32 → Option Nat → Int32 → gh_H → Prop}  {Q : Int32 → gh_H → Prop} {X : String → gh_H → Prop} (k9 : ∀ (v2 : Int32) (v3 : Option Nat) (v4 : Int32) (H : Heap) (locs : List Loc) (ls : Array Slot) (h : gh_H) (_ : gh_Inv D h0 (gh_A h0 s.heap.size) s.heap s H locs h) (_ : gh_L ls 6 [(2, 1, .int v2), (3, 1, va_rf v3), (4, 1, .int v4)]) (_ : K9 v2 v3 v4 h), W p l e rm_X1_sheetOf s m args below meth c H locs 2 12 (vx_MQ below (gh_Qi Q D h0 s.heap.size) (gh_X X D h0 s.heap.size) args s 3 18 (gh_A h0 s.heap.size)) (F0 m 9 ls []))  : ∀ (n : Nat) (v2 : Int32) (v3 : Option Nat) (v4 : Int32) (v5 : Int32) (H : Heap) (locs : List Loc) (ls : Array Slot) (h : gh_H) (_ : gh_Inv D h0 (gh_A h0 s.heap.size) s.heap s H locs h) (_ : gh_L ls 6 [(2, 1, .int v2), (3, 1, va_rf v3), (4, 1, .int v4), (5, 1, .int v5)]) (_ : wl_X1_sheetOf_21 D.2.2 K9 Q X n v2 v3 v4 v5 h), W p l e rm_X1_sheetOf s m args below meth c H locs 2 12 (vx_MQ below (gh_Qi Q D h0 s.heap.size) (gh_X X D h0 s.heap.size) args s 3 18 (gh_A h0 s.heap.size)) (F0 m 21 ls []) := by
  intro fu
  induction fu with
  | zero => intro v2 v3 v4 v5 H locs ls h G hl hw; exact False.elim hw
  | succ n1 ih =>
    intro v2 v3 v4 v5 H locs ls h G hl hw
    exact wk1_X1_sheetOf_21 M hr hex k9 ih  v2 v3 v4 v5 _ _ _ _ G hl hw
set_option maxHeartbeats 4000000 in
theorem wk1_X1_sheetOf_9 {D : gh_D} {p : Program} {l : Launch} {e : Env} {s : State} {m : MethodId} {args : Array Value} {below : List Frame} {meth : Method} {c : Code} {h0 : gh_H} (M : gh_M D p l s m args meth c RX1 cX1_sheetOf 6 (gh_A h0 s.heap.size)) (hr : meth.sig.returnType = (some .int)) (hex : ∀ x ∈ c.exceptionTable.toList, False) {K9 : Int32 → Option Nat → Int32 → gh_H → Prop}  {Q : Int32 → gh_H → Prop} {X : String → gh_H → Prop} (k9 : ∀ (v2 : Int32) (v3 : Option Nat) (v4 : Int32) (H : Heap) (locs : List Loc) (ls : Array Slot) (h : gh_H) (_ : gh_Inv D h0 (gh_A h0 s.heap.size) s.heap s H locs h) (_ : gh_L ls 6 [(2, 1, .int v2), (3, 1, va_rf v3), (4, 1, .int v4)]) (_ : K9 v2 v3 v4 h), W p l e rm_X1_sheetOf s m args below meth c H locs 2 12 (vx_MQ below (gh_Qi Q D h0 s.heap.size) (gh_X X D h0 s.heap.size) args s 3 18 (gh_A h0 s.heap.size)) (F0 m 9 ls []))  (v2 : Int32) (v3 : Option Nat) (v4 : Int32) (H : Heap) (locs : List Loc) (ls : Array Slot) (h : gh_H) (G : gh_Inv D h0 (gh_A h0 s.heap.size) s.heap s H locs h) (hl : gh_L ls 6 [(2, 1, .int v2), (3, 1, va_rf v3), (4, 1, .int v4)]) (hw : wb_X1_sheetOf_9 D.2.2 K9 Q X v2 v3 v4 h) : W p l e rm_X1_sheetOf s m args below meth c H locs 2 12 (vx_MQ below (gh_Qi Q D h0 s.heap.size) (gh_X X D h0 s.heap.size) args s 3 18 (gh_A h0 s.heap.size)) (F0 m 9 ls []) := by
  unfold wb_X1_sheetOf_9 at hw
  have hx := M.1.1
  have hb := M.1.2.1
  refine lv_iload hx hb dX1_sheetOf_9 (gh_at hl 2 rfl) ?_
  refine gh_aload_n hx hb dX1_sheetOf_11 rfl (gh_at hl 1 rfl) ?_
  obtain ⟨a1, lba1, fsa1, rfl, haa1, hw⟩ := hw
  refine gh_ki G (vx_runV M.1 (met_X7_sheets l D _ _ _ _ _ hw M.2.2.2.2.2) (cwV 0 (gh_Mts M) (lw_V q814 q644 q645 q71 q646) rfl rfl rfl ⟨rfl, by decide, by decide, rfl⟩ ⟨Nat.le_of_ble_eq_true rfl, Nat.le_of_ble_eq_true rfl⟩) (gh_preV (As := []) M G (gh_rec M G haa1 rfl)) rfl rfl hl.1.1 rfl (lv_room (Nat.le_of_ble_eq_true rfl)) dX1_sheetOf_12 ⟨(Nat.le_of_ble_eq_true rfl), (Nat.le_of_ble_eq_true rfl)⟩) (gh_out M hex (by exact Nat.le_of_ble_eq_true rfl) (by exact Nat.le_of_ble_eq_true rfl)) (fun r2 h3 H locs hw G => ?_)
  refine lv_icmp_ge (tgt := 60) hx hb dX1_sheetOf_15 (by decide) (fun hc => ?_) (fun hc => ?_)
  · replace hw := hw.1 hc
    exact gh_throw (names := ["java/lang/RuntimeException", "java/lang/Exception"]) M G hex hw (by decide +kernel) (by decide +kernel) q830 q67 (at_X1_11 (gh_Mts M) M.2.2.1) at_X1_11_g hl.1.1 dX1_sheetOf_60 dX1_sheetOf_63 dX1_sheetOf_64 dX1_sheetOf_67 (Nat.le_of_ble_eq_true rfl) (Nat.le_trans (Nat.add_le_add_right gh_r0 _) (Nat.le_of_ble_eq_true rfl)) (Nat.le_of_ble_eq_true rfl) (Nat.le_of_ble_eq_true rfl) (Nat.le_of_ble_eq_true rfl) (Nat.le_of_ble_eq_true rfl)
  · replace hw := hw.2 hc
    refine lv_iconst (v := (0 : Int32)) hx hb dX1_sheetOf_18 (by decide) ?_
    refine gh_istore (lv' := [(5, 1, .int (0 : Int32)), (2, 1, .int v2), (3, 1, va_rf (some a1)), (4, 1, .int v4)]) hx hb dX1_sheetOf_19 hl (by decide) rfl (fun ls hl => ?_)
    obtain ⟨n, hw⟩ := hw
    exact wk_X1_sheetOf_21 M hr hex k9 n v2 (some a1) v4 (0 : Int32) _ _ _ _ G (gh_sub hl [1, 2, 3, 0] rfl) hw
theorem wk_X1_sheetOf_9 {D : gh_D} {p : Program} {l : Launch} {e : Env} {s : State} {m : MethodId} {args : Array Value} {below : List Frame} {meth : Method} {c : Code} {h0 : gh_H} (M : gh_M D p l s m args meth c RX1 cX1_sheetOf 6 (gh_A h0 s.heap.size)) (hr : meth.sig.returnType = (some .int)) (hex : ∀ x ∈ c.exceptionTable.toList, False)   {Q : Int32 → gh_H → Prop} {X : String → gh_H → Prop}   : ∀ (n : Nat) (v2 : Int32) (v3 : Option Nat) (v4 : Int32) (H : Heap) (locs : List Loc) (ls : Array Slot) (h : gh_H) (_ : gh_Inv D h0 (gh_A h0 s.heap.size) s.heap s H locs h) (_ : gh_L ls 6 [(2, 1, .int v2), (3, 1, va_rf v3), (4, 1, .int v4)]) (_ : wl_X1_sheetOf_9 D.2.2 Q X n v2 v3 v4 h), W p l e rm_X1_sheetOf s m args below meth c H locs 2 12 (vx_MQ below (gh_Qi Q D h0 s.heap.size) (gh_X X D h0 s.heap.size) args s 3 18 (gh_A h0 s.heap.size)) (F0 m 9 ls []) := by
  intro fu
  induction fu with
  | zero => intro v2 v3 v4 H locs ls h G hl hw; exact False.elim hw
  | succ n1 ih =>
    intro v2 v3 v4 H locs ls h G hl hw
    exact wk1_X1_sheetOf_9 M hr hex ih  v2 v3 v4 _ _ _ _ G hl hw
set_option maxHeartbeats 4000000 in
theorem met_X1_sheetOf (l : Launch) (D : gh_D) (v0 : Nat) (v1 : Int32) (v2 : Int32) (Q : Int32 → gh_H → Prop) (X : String → gh_H → Prop) (h : gh_H) (sz : Nat) (hw : wp_X1_sheetOf D.2.2 v0 v1 v2 Q X h) (hst : l.stackTraces = false) : vx_Met l yX1_sheetOf (ws_ yX1_sheetOf cX1_sheetOf 6 (some .int)) rm_X1_sheetOf (gh_Pc D h sz [.ref v0, .int v1, .int v2]) (gh_Qi Q D h sz) (gh_X X D h sz) 3 18 (gh_A h sz) := by
  refine vx_ofW (by decide) rfl (fun p e s m args below meth c s₁ B hml hex hP => ?_)
  obtain ⟨rfl, rfl, hK, hT, hE, G⟩ := gh_start hP
  have M : gh_M D p l s m _ meth c RX1 cX1_sheetOf 6 (gh_A h s.heap.size) := ⟨⟨B.exec, B.bytes, hml, findClass_of_methodNamed B.named, fun w hw => atoms_spec (ws := ws_ yX1_sheetOf cX1_sheetOf 6 (some .int)) B.pre w (List.mem_cons_of_mem _ hw)⟩, hK, hT, hE, B.notSynchronized, hst⟩
  have hr := B.returns
  have hx := M.1.1
  have hb := M.1.2.1
  refine gh_enter (vs := [(1, .ref v0), (1, .int v1), (1, .int v2)]) (gh_w1 rfl (gh_w1 rfl (gh_w1 rfl gh_wn))) (Nat.le_of_ble_eq_true rfl) (fun ls hl => ?_)
  replace hl : gh_L ls 6 [(0, 1, va_rf (some v0)), (1, 1, .int v1), (2, 1, .int v2)] := hl
  unfold wp_X1_sheetOf at hw
  refine gh_aload_n hx hb dX1_sheetOf_0 rfl (gh_at hl 0 rfl) ?_
  refine lv_iload_n hx hb dX1_sheetOf_1 rfl (gh_at hl 1 rfl) ?_
  obtain ⟨a1, lba1, fsa1, hra1, haa1, hw⟩ := hw
  rw [← Option.some.inj hra1] at haa1
  refine gh_kq G (vx_runV M.1 (met_X1_completeJob l D _ _ _ _ _ _ hw M.2.2.2.2.2) (cwV 1 (gh_Mts M) (lw_V q809 q811 qs6 q41 q812) rfl rfl rfl ⟨rfl, by decide, by decide, rfl⟩ ⟨Nat.le_of_ble_eq_true rfl, Nat.le_of_ble_eq_true rfl⟩) (gh_preV (As := [.int v1]) M G (gh_rec M G haa1 rfl)) rfl rfl hl.1.1 rfl (lv_room (Nat.le_of_ble_eq_true rfl)) dX1_sheetOf_2 ⟨(Nat.le_of_ble_eq_true rfl), (Nat.le_of_ble_eq_true rfl)⟩) (gh_out M hex (by exact Nat.le_of_ble_eq_true rfl) (by exact Nat.le_of_ble_eq_true rfl)) (fun r2 h3 H locs hw G => ?_)
  refine gh_astore_n (lv' := [(3, 1, va_rf r2), (0, 1, va_rf (some v0)), (1, 1, .int v1), (2, 1, .int v2)]) hx hb dX1_sheetOf_5 rfl hl (by decide) rfl (fun ls hl => ?_)
  refine lv_iconst (v := (0 : Int32)) hx hb dX1_sheetOf_6 (by decide) ?_
  refine gh_istore (lv' := [(4, 1, .int (0 : Int32)), (3, 1, va_rf r2), (0, 1, va_rf (some v0)), (1, 1, .int v1), (2, 1, .int v2)]) hx hb dX1_sheetOf_7 hl (by decide) rfl (fun ls hl => ?_)
  obtain ⟨n, hw⟩ := hw
  exact wk_X1_sheetOf_9 M hr hex  n v2 r2 (0 : Int32) _ _ _ _ G (gh_sub hl [4, 1, 0] rfl) hw
/-! BinderyDeskLaw.sheetOf (LBinderyDesk;II[J)I -/
def rm_X0_sheetOf : Room := { frames := 10, cells := 3, slots := 18, locals := 189 }
def wb_X0_sheetOf_13 (κ : Nat → Nat)  (Q : Int32 → gh_H → Prop) (X : String → gh_H → Prop) (t0 : Option Nat) (h : gh_H) : Prop := (Q (1 : Int32) h)
def wb_X0_sheetOf_17 (κ : Nat → Nat)  (Q : Int32 → gh_H → Prop) (X : String → gh_H → Prop) (t0 : Option Nat) (h : gh_H) : Prop := (Q (2 : Int32) h)
def wb_X0_sheetOf_21 (κ : Nat → Nat)  (Q : Int32 → gh_H → Prop) (X : String → gh_H → Prop) (t0 : Option Nat) (h : gh_H) : Prop := (Q (3 : Int32) h)
def wp_X0_sheetOf (κ : Nat → Nat) (v0 : Option Nat) (v1 : Int32) (v2 : Int32) (v3 : Option Nat) (Q : Int32 → gh_H → Prop) (X : String → gh_H → Prop) (h : gh_H) : Prop := (gh_RC h v0 0 (fun a1 => (wp_X1_sheetOf κ a1 v1 v2 (fun r2 h3 => (gh_SJ h3 v3 (0 : Int32) (r2.toInt64) (fun h4 => (Q (0 : Int32) h4)))) (fun E h9 => (E = "java/lang/IndexOutOfBoundsException" ∧ ∀ q9 : Nat, wb_X0_sheetOf_13 κ Q X (some q9) h9) ∨ (E = "java/lang/IllegalStateException" ∧ ∀ q9 : Nat, wb_X0_sheetOf_17 κ Q X (some q9) h9) ∨ (E = "java/util/NoSuchElementException" ∧ ∀ q9 : Nat, wb_X0_sheetOf_21 κ Q X (some q9) h9)) h)))
set_option maxHeartbeats 4000000 in
theorem wk_X0_sheetOf_13 {D : gh_D} {p : Program} {l : Launch} {e : Env} {s : State} {m : MethodId} {args : Array Value} {below : List Frame} {meth : Method} {c : Code} {h0 : gh_H} (M : gh_M D p l s m args meth c RX0 cX0_sheetOf 5 (gh_A h0 s.heap.size)) (hr : meth.sig.returnType = (some .int)) (htab : c.exceptionTable.toList = tableOf [(0, 10, 13, 19), (0, 10, 17, 13), (0, 10, 21, 48)])   {Q : Int32 → gh_H → Prop} {X : String → gh_H → Prop}   (t0 : Option Nat) (H : Heap) (locs : List Loc) (ls : Array Slot) (h : gh_H) (G : gh_Inv D h0 (gh_A h0 s.heap.size) s.heap s H locs h) (hl : gh_L ls 5 []) (hw : wb_X0_sheetOf_13 D.2.2 Q X t0 h) : W p l e rm_X0_sheetOf s m args below meth c H locs 3 18 (vx_MQ below (gh_Qi Q D h0 s.heap.size) (gh_X X D h0 s.heap.size) args s 3 18 (gh_A h0 s.heap.size)) (F0 m 13 ls [va_rf t0]) := by
  unfold wb_X0_sheetOf_13 at hw
  have hx := M.1.1
  have hb := M.1.2.1
  refine gh_astore (lv' := [(4, 1, va_rf t0)]) hx hb dX0_sheetOf_13 hl (by decide) rfl (fun ls hl => ?_)
  refine lv_iconst (v := (1 : Int32)) hx hb dX0_sheetOf_15 (by decide) ?_
  exact gh_iret M G hr rfl hw (by exact Nat.le_of_ble_eq_true rfl) (by exact Nat.le_of_ble_eq_true rfl) dX0_sheetOf_16
set_option maxHeartbeats 4000000 in
theorem wk_X0_sheetOf_17 {D : gh_D} {p : Program} {l : Launch} {e : Env} {s : State} {m : MethodId} {args : Array Value} {below : List Frame} {meth : Method} {c : Code} {h0 : gh_H} (M : gh_M D p l s m args meth c RX0 cX0_sheetOf 5 (gh_A h0 s.heap.size)) (hr : meth.sig.returnType = (some .int)) (htab : c.exceptionTable.toList = tableOf [(0, 10, 13, 19), (0, 10, 17, 13), (0, 10, 21, 48)])   {Q : Int32 → gh_H → Prop} {X : String → gh_H → Prop}   (t0 : Option Nat) (H : Heap) (locs : List Loc) (ls : Array Slot) (h : gh_H) (G : gh_Inv D h0 (gh_A h0 s.heap.size) s.heap s H locs h) (hl : gh_L ls 5 []) (hw : wb_X0_sheetOf_17 D.2.2 Q X t0 h) : W p l e rm_X0_sheetOf s m args below meth c H locs 3 18 (vx_MQ below (gh_Qi Q D h0 s.heap.size) (gh_X X D h0 s.heap.size) args s 3 18 (gh_A h0 s.heap.size)) (F0 m 17 ls [va_rf t0]) := by
  unfold wb_X0_sheetOf_17 at hw
  have hx := M.1.1
  have hb := M.1.2.1
  refine gh_astore (lv' := [(4, 1, va_rf t0)]) hx hb dX0_sheetOf_17 hl (by decide) rfl (fun ls hl => ?_)
  refine lv_iconst (v := (2 : Int32)) hx hb dX0_sheetOf_19 (by decide) ?_
  exact gh_iret M G hr rfl hw (by exact Nat.le_of_ble_eq_true rfl) (by exact Nat.le_of_ble_eq_true rfl) dX0_sheetOf_20
set_option maxHeartbeats 4000000 in
theorem wk_X0_sheetOf_21 {D : gh_D} {p : Program} {l : Launch} {e : Env} {s : State} {m : MethodId} {args : Array Value} {below : List Frame} {meth : Method} {c : Code} {h0 : gh_H} (M : gh_M D p l s m args meth c RX0 cX0_sheetOf 5 (gh_A h0 s.heap.size)) (hr : meth.sig.returnType = (some .int)) (htab : c.exceptionTable.toList = tableOf [(0, 10, 13, 19), (0, 10, 17, 13), (0, 10, 21, 48)])   {Q : Int32 → gh_H → Prop} {X : String → gh_H → Prop}   (t0 : Option Nat) (H : Heap) (locs : List Loc) (ls : Array Slot) (h : gh_H) (G : gh_Inv D h0 (gh_A h0 s.heap.size) s.heap s H locs h) (hl : gh_L ls 5 []) (hw : wb_X0_sheetOf_21 D.2.2 Q X t0 h) : W p l e rm_X0_sheetOf s m args below meth c H locs 3 18 (vx_MQ below (gh_Qi Q D h0 s.heap.size) (gh_X X D h0 s.heap.size) args s 3 18 (gh_A h0 s.heap.size)) (F0 m 21 ls [va_rf t0]) := by
  unfold wb_X0_sheetOf_21 at hw
  have hx := M.1.1
  have hb := M.1.2.1
  refine gh_astore (lv' := [(4, 1, va_rf t0)]) hx hb dX0_sheetOf_21 hl (by decide) rfl (fun ls hl => ?_)
  refine lv_iconst (v := (3 : Int32)) hx hb dX0_sheetOf_23 (by decide) ?_
  exact gh_iret M G hr rfl hw (by exact Nat.le_of_ble_eq_true rfl) (by exact Nat.le_of_ble_eq_true rfl) dX0_sheetOf_24
set_option maxHeartbeats 4000000 in
theorem met_X0_sheetOf (l : Launch) (D : gh_D) (v0 : Option Nat) (v1 : Int32) (v2 : Int32) (v3 : Option Nat) (Q : Int32 → gh_H → Prop) (X : String → gh_H → Prop) (h : gh_H) (sz : Nat) (hw : wp_X0_sheetOf D.2.2 v0 v1 v2 v3 Q X h) (hst : l.stackTraces = false) : vx_Met l yX0_sheetOf (wsW_ yX0_sheetOf cX0_sheetOf 5 (some .int) [(0, 10, 13, 19), (0, 10, 17, 13), (0, 10, 21, 48)]) rm_X0_sheetOf (gh_Pc D h sz [va_rf v0, .int v1, .int v2, va_rf v3]) (gh_Qi Q D h sz) (gh_X X D h sz) 3 18 (gh_A h sz) := by
  refine vx_ofWH (by decide) rfl (fun p e s m args below meth c s₁ B hml hP => ?_)
  have htab := vx_table (x := yX0_sheetOf) B (atoms_spec (ws := wsW_ yX0_sheetOf cX0_sheetOf 5 (some .int) [(0, 10, 13, 19), (0, 10, 17, 13), (0, 10, 21, 48)]) B.pre _ List.mem_cons_self)
  obtain ⟨rfl, rfl, hK, hT, hE, G⟩ := gh_start hP
  have M : gh_M D p l s m _ meth c RX0 cX0_sheetOf 5 (gh_A h s.heap.size) := ⟨⟨B.exec, B.bytes, hml, findClass_of_methodNamed B.named, fun w hw => atoms_spec (ws := wsW_ yX0_sheetOf cX0_sheetOf 5 (some .int) [(0, 10, 13, 19), (0, 10, 17, 13), (0, 10, 21, 48)]) B.pre w (List.mem_cons_of_mem _ hw)⟩, hK, hT, hE, B.notSynchronized, hst⟩
  have hr := B.returns
  have hx := M.1.1
  have hb := M.1.2.1
  refine gh_enter (vs := [(1, va_rf v0), (1, .int v1), (1, .int v2), (1, va_rf v3)]) (gh_w1 (gh_cat _) (gh_w1 rfl (gh_w1 rfl (gh_w1 (gh_cat _) gh_wn)))) (Nat.le_of_ble_eq_true rfl) (fun ls hl => ?_)
  replace hl : gh_L ls 5 [(0, 1, va_rf v0), (1, 1, .int v1), (2, 1, .int v2), (3, 1, va_rf v3)] := hl
  unfold wp_X0_sheetOf at hw
  refine gh_aload_n hx hb dX0_sheetOf_0 rfl (gh_at hl 3 rfl) ?_
  refine lv_iconst (v := (0 : Int32)) hx hb dX0_sheetOf_1 (by decide) ?_
  refine gh_aload_n hx hb dX0_sheetOf_2 rfl (gh_at hl 0 rfl) ?_
  refine lv_iload_n hx hb dX0_sheetOf_3 rfl (gh_at hl 1 rfl) ?_
  refine lv_iload_n hx hb dX0_sheetOf_4 rfl (gh_at hl 2 rfl) ?_
  obtain ⟨a1, lba1, fsa1, rfl, haa1, hw⟩ := hw
  refine gh_ki G (vx_runV M.1 (met_X1_sheetOf l D _ _ _ _ _ _ _ hw M.2.2.2.2.2) (cwV 2 (gh_Mts M) (lw_V q836 q837 q838 q41 q839) rfl rfl rfl ⟨rfl, by decide, by decide, rfl⟩ ⟨Nat.le_of_ble_eq_true rfl, Nat.le_of_ble_eq_true rfl⟩) (gh_preV (As := [.int v1, .int v2]) M G (gh_rec M G haa1 rfl)) rfl rfl hl.1.1 rfl (lv_room (Nat.le_trans (gh_r1 rfl (gh_r1 (gh_cat _) gh_r0)) (Nat.le_of_ble_eq_true rfl : 2 ≤ 8))) dX0_sheetOf_5 ⟨(Nat.le_of_ble_eq_true rfl), (Nat.le_of_ble_eq_true rfl)⟩) (fun E ce q9 h9 H locs hX G hce hcv hcl => ?_) (fun r2 h3 H locs hw G => ?_)
  · rcases hX with ⟨rfl, hX⟩ | ⟨rfl, hX⟩ | ⟨rfl, hX⟩
    · replace hw := hX q9
      refine vx_catch (name := "java/lang/IndexOutOfBoundsException") M.1.2.2.2.1 (tableOf []) ⟨0, 10, 13, 19⟩ (tableOf [(0, 10, 17, 13), (0, 10, 21, 48)]) (htab.trans rfl) (fun _ h => absurd h List.not_mem_nil) (by decide) (by decide) (gh_Mts M _ q439) (va_Nw.use rfl (M.2.2.1.1 _ (List.mem_of_getElem? (i := 8) rfl))) hce hcv hcl ?_
      exact wk_X0_sheetOf_13 M hr htab  (some q9) _ _ _ _ G (gh_sub hl [] rfl) hw
    · replace hw := hX q9
      refine vx_catch (name := "java/lang/IllegalStateException") M.1.2.2.2.1 (tableOf [(0, 10, 13, 19)]) ⟨0, 10, 17, 13⟩ (tableOf [(0, 10, 21, 48)]) (htab.trans rfl) (List.forall_mem_cons.mpr ⟨Or.inr ⟨by decide, "java/lang/IndexOutOfBoundsException", gh_Mts M _ q439, M.2.2.1.2.2.1 _ (List.mem_of_getElem? (i := 6) rfl)⟩, fun _ h => absurd h List.not_mem_nil⟩) (by decide) (by decide) (gh_Mts M _ q261) (va_Nw.use rfl (M.2.2.1.1 _ (List.mem_of_getElem? (i := 4) rfl))) hce hcv hcl ?_
      exact wk_X0_sheetOf_17 M hr htab  (some q9) _ _ _ _ G (gh_sub hl [] rfl) hw
    · replace hw := hX q9
      refine vx_catch (name := "java/util/NoSuchElementException") M.1.2.2.2.1 (tableOf [(0, 10, 13, 19), (0, 10, 17, 13)]) ⟨0, 10, 21, 48⟩ (tableOf []) (htab.trans rfl) (List.forall_mem_cons.mpr ⟨Or.inr ⟨by decide, "java/lang/IndexOutOfBoundsException", gh_Mts M _ q439, M.2.2.1.2.2.1 _ (List.mem_of_getElem? (i := 11) rfl)⟩, List.forall_mem_cons.mpr ⟨Or.inr ⟨by decide, "java/lang/IllegalStateException", gh_Mts M _ q261, M.2.2.1.2.2.1 _ (List.mem_of_getElem? (i := 12) rfl)⟩, fun _ h => absurd h List.not_mem_nil⟩⟩) (by decide) (by decide) (gh_Mts M _ q818) (va_Nw.use rfl (M.2.2.1.1 _ (List.mem_of_getElem? (i := 46) rfl))) hce hcv hcl ?_
      exact wk_X0_sheetOf_21 M hr htab  (some q9) _ _ _ _ G (gh_sub hl [] rfl) hw
  · refine lv_i2l (v := (r2.toInt64)) hx hb dX0_sheetOf_8 rfl ?_
    refine gh_jas M G hw dX0_sheetOf_9 (fun h4 H locs hw G => ?_)
    refine lv_goto (tgt := 25) hx hb dX0_sheetOf_10 (by decide) ?_
    refine lv_iconst (v := (0 : Int32)) hx hb dX0_sheetOf_25 (by decide) ?_
    exact gh_iret M G hr rfl hw (by exact Nat.le_of_ble_eq_true rfl) (by exact Nat.le_of_ble_eq_true rfl) dX0_sheetOf_26
/-! BinderyDeskModel.sheetOf (II)I -/
def rm_X3_sheetOf : Room := { frames := 4, cells := 0, slots := 0, locals := 103 }
def wb_X3_sheetOf_24 (κ : Nat → Nat) (K12 : Nat → Int32 → Int32 → Int32 → gh_H → Prop) (K24 : Nat → Int32 → Int32 → Int32 → Int32 → gh_H → Prop) (Q : Int32 → gh_H → Prop) (X : String → gh_H → Prop) (v0 : Nat) (v1 : Int32) (v2 : Int32) (v3 : Int32) (v4 : Int32) (h : gh_H) : Prop := (gh_RC h (some v0) 1 (fun _ => (wp_X3_places κ v0 v1 (fun r2 h3 => ((r2 ≤ v4 → K12 v0 v1 v2 (v3 + (1 : Int32)) h3) ∧ (¬ r2 ≤ v4 → (gh_RC h3 (some v0) 1 (fun _ => (wp_X3_pageOn κ v0 v1 v3 v4 (fun r5 h6 => ((r5 = v2 → (Q v3 h6)) ∧ (¬ r5 = v2 → K24 v0 v1 v2 v3 (v4 + (1 : Int32)) h6))) X h3)))))) X h)))
def wl_X3_sheetOf_24 (κ : Nat → Nat) (K12 : Nat → Int32 → Int32 → Int32 → gh_H → Prop) (Q : Int32 → gh_H → Prop) (X : String → gh_H → Prop) : Nat → Nat → Int32 → Int32 → Int32 → Int32 → gh_H → Prop
  | 0 => fun _ _ _ _ _ _ => False
  | n + 1 => fun v0 v1 v2 v3 v4 h => wb_X3_sheetOf_24 κ K12 (wl_X3_sheetOf_24 κ K12 Q X n) Q X v0 v1 v2 v3 v4 h
def wb_X3_sheetOf_12 (κ : Nat → Nat) (K12 : Nat → Int32 → Int32 → Int32 → gh_H → Prop) (Q : Int32 → gh_H → Prop) (X : String → gh_H → Prop) (v0 : Nat) (v1 : Int32) (v2 : Int32) (v3 : Int32) (h : gh_H) : Prop := (gh_RC h (some v0) 1 (fun _ => (wp_X3_count κ v0 v1 (fun r2 h3 => ((r2 ≤ v3 → (gh_RC h3 (some v0) 1 (fun _ => (wp_X3_fails κ v0 (3 : Int32) (fun r5 h6 => (Q r5 h6)) X h3)))) ∧ (¬ r2 ≤ v3 → (∃ n : Nat, wl_X3_sheetOf_24 κ K12 Q X n v0 v1 v2 v3 (0 : Int32) h3)))) X h)))
def wl_X3_sheetOf_12 (κ : Nat → Nat)  (Q : Int32 → gh_H → Prop) (X : String → gh_H → Prop) : Nat → Nat → Int32 → Int32 → Int32 → gh_H → Prop
  | 0 => fun _ _ _ _ _ => False
  | n + 1 => fun v0 v1 v2 v3 h => wb_X3_sheetOf_12 κ (wl_X3_sheetOf_12 κ Q X n) Q X v0 v1 v2 v3 h
def wp_X3_sheetOf (κ : Nat → Nat) (v0 : Nat) (v1 : Int32) (v2 : Int32) (Q : Int32 → gh_H → Prop) (X : String → gh_H → Prop) (h : gh_H) : Prop := (gh_RC h (some v0) 1 (fun _ => (wp_X3_isJob κ v0 v1 (fun r2 h3 => ((r2 = 0 → (Q (0 : Int32) h3)) ∧ (¬ r2 = 0 → (∃ n : Nat, wl_X3_sheetOf_12 κ Q X n v0 v1 v2 (0 : Int32) h3)))) X h)))
set_option maxHeartbeats 4000000 in
theorem wk1_X3_sheetOf_24 {D : gh_D} {p : Program} {l : Launch} {e : Env} {s : State} {m : MethodId} {args : Array Value} {below : List Frame} {meth : Method} {c : Code} {h0 : gh_H} (M : gh_M D p l s m args meth c RX3 cX3_sheetOf 5 (gh_A h0 s.heap.size)) (hr : meth.sig.returnType = (some .int)) (hex : ∀ x ∈ c.exceptionTable.toList, False) {K12 : Nat → Int32 → Int32 → Int32 → gh_H → Prop} {K24 : Nat → Int32 → Int32 → Int32 → Int32 → gh_H → Prop}  {Q : Int32 → gh_H → Prop} {X : String → gh_H → Prop} (k12 : ∀ (v0 : Nat) (v1 : Int32) (v2 : Int32) (v3 : Int32) (H : Heap) (locs : List Loc) (ls : Array Slot) (h : gh_H) (_ : gh_Inv D h0 (gh_A h0 s.heap.size) s.heap s H locs h) (_ : gh_L ls 5 [(0, 1, va_rf (some v0)), (1, 1, .int v1), (2, 1, .int v2), (3, 1, .int v3)]) (_ : K12 v0 v1 v2 v3 h), W p l e rm_X3_sheetOf s m args below meth c H locs 0 0 (vx_MQ below (gh_Qi Q D h0 s.heap.size) (gh_X X D h0 s.heap.size) args s 0 0 (gh_A h0 s.heap.size)) (F0 m 12 ls [])) (k24 : ∀ (v0 : Nat) (v1 : Int32) (v2 : Int32) (v3 : Int32) (v4 : Int32) (H : Heap) (locs : List Loc) (ls : Array Slot) (h : gh_H) (_ : gh_Inv D h0 (gh_A h0 s.heap.size) s.heap s H locs h) (_ : gh_L ls 5 [(0, 1, va_rf (some v0)), (1, 1, .int v1), (2, 1, .int v2), (3, 1, .int v3), (4, 1, .int v4)]) (_ : K24 v0 v1 v2 v3 v4 h), W p l e rm_X3_sheetOf s m args below meth c H locs 0 0 (vx_MQ below (gh_Qi Q D h0 s.heap.size) (gh_X X D h0 s.heap.size) args s 0 0 (gh_A h0 s.heap.size)) (F0 m 24 ls []))  (v0 : Nat) (v1 : Int32) (v2 : Int32) (v3 : Int32) (v4 : Int32) (H : Heap) (locs : List Loc) (ls : Array Slot) (h : gh_H) (G : gh_Inv D h0 (gh_A h0 s.heap.size) s.heap s H locs h) (hl : gh_L ls 5 [(0, 1, va_rf (some v0)), (1, 1, .int v1), (2, 1, .int v2), (3, 1, .int v3), (4, 1, .int v4)]) (hw : wb_X3_sheetOf_24 D.2.2 K12 K24 Q X v0 v1 v2 v3 v4 h) : W p l e rm_X3_sheetOf s m args below meth c H locs 0 0 (vx_MQ below (gh_Qi Q D h0 s.heap.size) (gh_X X D h0 s.heap.size) args s 0 0 (gh_A h0 s.heap.size)) (F0 m 24 ls []) := by
  unfold wb_X3_sheetOf_24 at hw
  have hx := M.1.1
  have hb := M.1.2.1
  refine lv_iload hx hb dX3_sheetOf_24 (gh_at hl 4 rfl) ?_
  refine gh_aload_n hx hb dX3_sheetOf_26 rfl (gh_at hl 0 rfl) ?_
  refine lv_iload_n hx hb dX3_sheetOf_27 rfl (gh_at hl 1 rfl) ?_
  obtain ⟨a1, lba1, fsa1, hra1, haa1, hw⟩ := hw
  rw [← Option.some.inj hra1] at haa1
  refine gh_ki G (vx_runV M.1 (met_X3_places l D _ _ _ _ _ _ hw M.2.2.2.2.2) (cwV 1 (gh_Mts M) (lw_V q1680 q1682 qs24 q50 q1683) rfl rfl rfl ⟨rfl, by decide, by decide, rfl⟩ ⟨Nat.le_of_ble_eq_true rfl, Nat.le_of_ble_eq_true rfl⟩) (gh_preV (As := [.int v1]) M G (gh_rec M G haa1 rfl)) rfl rfl hl.1.1 rfl (lv_room (Nat.le_of_ble_eq_true rfl)) dX3_sheetOf_28 ⟨(Nat.le_of_ble_eq_true rfl), (Nat.le_of_ble_eq_true rfl)⟩) (gh_out M hex (by exact Nat.le_of_ble_eq_true rfl) (by exact Nat.le_of_ble_eq_true rfl)) (fun r2 h3 H locs hw G => ?_)
  refine lv_icmp_ge (tgt := 54) hx hb dX3_sheetOf_31 (by decide) (fun hc => ?_) (fun hc => ?_)
  · replace hw := hw.1 hc
    refine gh_iinc (k := 3) (v := (v3 + (1 : Int32))) (lv' := [(3, 1, .int (v3 + (1 : Int32))), (0, 1, va_rf (some v0)), (1, 1, .int v1), (2, 1, .int v2), (4, 1, .int v4)]) hx hb dX3_sheetOf_54 hl rfl rfl (by decide) rfl (fun ls hl => ?_)
    refine lv_goto (tgt := 12) hx hb dX3_sheetOf_57 (by decide) ?_
    exact k12 v0 v1 v2 (v3 + (1 : Int32)) _ _ _ _ G (gh_sub hl [1, 2, 3, 0] rfl) hw
  · replace hw := hw.2 hc
    refine gh_aload_n hx hb dX3_sheetOf_34 rfl (gh_at hl 0 rfl) ?_
    refine lv_iload_n hx hb dX3_sheetOf_35 rfl (gh_at hl 1 rfl) ?_
    refine lv_iload_n hx hb dX3_sheetOf_36 rfl (gh_at hl 3 rfl) ?_
    refine lv_iload hx hb dX3_sheetOf_37 (gh_at hl 4 rfl) ?_
    obtain ⟨a4, lba4, fsa4, hra4, haa4, hw⟩ := hw
    rw [← Option.some.inj hra4] at haa4
    refine gh_ki G (vx_runV M.1 (met_X3_pageOn l D _ _ _ _ _ _ _ _ hw M.2.2.2.2.2) (cwV 3 (gh_Mts M) (lw_V q1696 q1698 qs28 q50 q1699) rfl rfl rfl ⟨rfl, by decide, by decide, rfl⟩ ⟨Nat.le_of_ble_eq_true rfl, Nat.le_of_ble_eq_true rfl⟩) (gh_preV (As := [.int v1, .int v3, .int v4]) M G (gh_rec M G haa4 rfl)) rfl rfl hl.1.1 rfl (lv_room (Nat.le_of_ble_eq_true rfl)) dX3_sheetOf_39 ⟨(Nat.le_of_ble_eq_true rfl), (Nat.le_of_ble_eq_true rfl)⟩) (gh_out M hex (by exact Nat.le_of_ble_eq_true rfl) (by exact Nat.le_of_ble_eq_true rfl)) (fun r5 h6 H locs hw G => ?_)
    refine lv_iload_n hx hb dX3_sheetOf_42 rfl (gh_at hl 2 rfl) ?_
    refine lv_icmp_ne (tgt := 48) hx hb dX3_sheetOf_43 (by decide) (fun hc => ?_) (fun hc => ?_)
    · replace hw := hw.2 hc
      refine gh_iinc (k := 4) (v := (v4 + (1 : Int32))) (lv' := [(4, 1, .int (v4 + (1 : Int32))), (0, 1, va_rf (some v0)), (1, 1, .int v1), (2, 1, .int v2), (3, 1, .int v3)]) hx hb dX3_sheetOf_48 hl rfl rfl (by decide) rfl (fun ls hl => ?_)
      refine lv_goto (tgt := 24) hx hb dX3_sheetOf_51 (by decide) ?_
      exact k24 v0 v1 v2 v3 (v4 + (1 : Int32)) _ _ _ _ G (gh_sub hl [1, 2, 3, 4, 0] rfl) hw
    · replace hw := hw.1 hc
      refine lv_iload_n hx hb dX3_sheetOf_46 rfl (gh_at hl 3 rfl) ?_
      exact gh_iret M G hr rfl hw (by exact Nat.le_of_ble_eq_true rfl) (by exact Nat.le_of_ble_eq_true rfl) dX3_sheetOf_47
theorem wk_X3_sheetOf_24 {D : gh_D} {p : Program} {l : Launch} {e : Env} {s : State} {m : MethodId} {args : Array Value} {below : List Frame} {meth : Method} {c : Code} {h0 : gh_H} (M : gh_M D p l s m args meth c RX3 cX3_sheetOf 5 (gh_A h0 s.heap.size)) (hr : meth.sig.returnType = (some .int)) (hex : ∀ x ∈ c.exceptionTable.toList, False) {K12 : Nat → Int32 → Int32 → Int32 → gh_H → Prop}  {Q : Int32 → gh_H → Prop} {X : String → gh_H → Prop} (k12 : ∀ (v0 : Nat) (v1 : Int32) (v2 : Int32) (v3 : Int32) (H : Heap) (locs : List Loc) (ls : Array Slot) (h : gh_H) (_ : gh_Inv D h0 (gh_A h0 s.heap.size) s.heap s H locs h) (_ : gh_L ls 5 [(0, 1, va_rf (some v0)), (1, 1, .int v1), (2, 1, .int v2), (3, 1, .int v3)]) (_ : K12 v0 v1 v2 v3 h), W p l e rm_X3_sheetOf s m args below meth c H locs 0 0 (vx_MQ below (gh_Qi Q D h0 s.heap.size) (gh_X X D h0 s.heap.size) args s 0 0 (gh_A h0 s.heap.size)) (F0 m 12 ls []))  : ∀ (n : Nat) (v0 : Nat) (v1 : Int32) (v2 : Int32) (v3 : Int32) (v4 : Int32) (H : Heap) (locs : List Loc) (ls : Array Slot) (h : gh_H) (_ : gh_Inv D h0 (gh_A h0 s.heap.size) s.heap s H locs h) (_ : gh_L ls 5 [(0, 1, va_rf (some v0)), (1, 1, .int v1), (2, 1, .int v2), (3, 1, .int v3), (4, 1, .int v4)]) (_ : wl_X3_sheetOf_24 D.2.2 K12 Q X n v0 v1 v2 v3 v4 h), W p l e rm_X3_sheetOf s m args below meth c H locs 0 0 (vx_MQ below (gh_Qi Q D h0 s.heap.size) (gh_X X D h0 s.heap.size) args s 0 0 (gh_A h0 s.heap.size)) (F0 m 24 ls []) := by
  intro fu
  induction fu with
  | zero => intro v0 v1 v2 v3 v4 H locs ls h G hl hw; exact False.elim hw
  | succ n1 ih =>
    intro v0 v1 v2 v3 v4 H locs ls h G hl hw
    exact wk1_X3_sheetOf_24 M hr hex k12 ih  v0 v1 v2 v3 v4 _ _ _ _ G hl hw
set_option maxHeartbeats 4000000 in
theorem wk1_X3_sheetOf_12 {D : gh_D} {p : Program} {l : Launch} {e : Env} {s : State} {m : MethodId} {args : Array Value} {below : List Frame} {meth : Method} {c : Code} {h0 : gh_H} (M : gh_M D p l s m args meth c RX3 cX3_sheetOf 5 (gh_A h0 s.heap.size)) (hr : meth.sig.returnType = (some .int)) (hex : ∀ x ∈ c.exceptionTable.toList, False) {K12 : Nat → Int32 → Int32 → Int32 → gh_H → Prop}  {Q : Int32 → gh_H → Prop} {X : String → gh_H → Prop} (k12 : ∀ (v0 : Nat) (v1 : Int32) (v2 : Int32) (v3 : Int32) (H : Heap) (locs : List Loc) (ls : Array Slot) (h : gh_H) (_ : gh_Inv D h0 (gh_A h0 s.heap.size) s.heap s H locs h) (_ : gh_L ls 5 [(0, 1, va_rf (some v0)), (1, 1, .int v1), (2, 1, .int v2), (3, 1, .int v3)]) (_ : K12 v0 v1 v2 v3 h), W p l e rm_X3_sheetOf s m args below meth c H locs 0 0 (vx_MQ below (gh_Qi Q D h0 s.heap.size) (gh_X X D h0 s.heap.size) args s 0 0 (gh_A h0 s.heap.size)) (F0 m 12 ls []))  (v0 : Nat) (v1 : Int32) (v2 : Int32) (v3 : Int32) (H : Heap) (locs : List Loc) (ls : Array Slot) (h : gh_H) (G : gh_Inv D h0 (gh_A h0 s.heap.size) s.heap s H locs h) (hl : gh_L ls 5 [(0, 1, va_rf (some v0)), (1, 1, .int v1), (2, 1, .int v2), (3, 1, .int v3)]) (hw : wb_X3_sheetOf_12 D.2.2 K12 Q X v0 v1 v2 v3 h) : W p l e rm_X3_sheetOf s m args below meth c H locs 0 0 (vx_MQ below (gh_Qi Q D h0 s.heap.size) (gh_X X D h0 s.heap.size) args s 0 0 (gh_A h0 s.heap.size)) (F0 m 12 ls []) := by
  unfold wb_X3_sheetOf_12 at hw
  have hx := M.1.1
  have hb := M.1.2.1
  refine lv_iload_n hx hb dX3_sheetOf_12 rfl (gh_at hl 3 rfl) ?_
  refine gh_aload_n hx hb dX3_sheetOf_13 rfl (gh_at hl 0 rfl) ?_
  refine lv_iload_n hx hb dX3_sheetOf_14 rfl (gh_at hl 1 rfl) ?_
  obtain ⟨a1, lba1, fsa1, hra1, haa1, hw⟩ := hw
  rw [← Option.some.inj hra1] at haa1
  refine gh_ki G (vx_runV M.1 (met_X3_count l D _ _ _ _ _ _ hw M.2.2.2.2.2) (cwV 1 (gh_Mts M) (lw_V q1684 q1686 qs25 q50 q1687) rfl rfl rfl ⟨rfl, by decide, by decide, rfl⟩ ⟨Nat.le_of_ble_eq_true rfl, Nat.le_of_ble_eq_true rfl⟩) (gh_preV (As := [.int v1]) M G (gh_rec M G haa1 rfl)) rfl rfl hl.1.1 rfl (lv_room (Nat.le_of_ble_eq_true rfl)) dX3_sheetOf_15 ⟨(Nat.le_of_ble_eq_true rfl), (Nat.le_of_ble_eq_true rfl)⟩) (gh_out M hex (by exact Nat.le_of_ble_eq_true rfl) (by exact Nat.le_of_ble_eq_true rfl)) (fun r2 h3 H locs hw G => ?_)
  refine lv_icmp_ge (tgt := 60) hx hb dX3_sheetOf_18 (by decide) (fun hc => ?_) (fun hc => ?_)
  · replace hw := hw.1 hc
    refine gh_aload_n hx hb dX3_sheetOf_60 rfl (gh_at hl 0 rfl) ?_
    refine lv_iconst (v := (3 : Int32)) hx hb dX3_sheetOf_61 (by decide) ?_
    obtain ⟨a4, lba4, fsa4, hra4, haa4, hw⟩ := hw
    rw [← Option.some.inj hra4] at haa4
    refine gh_ki G (vx_runV M.1 (met_X3_fails l D _ _ _ _ _ _ hw M.2.2.2.2.2) (cwV 1 (gh_Mts M) (lw_V q1657 q1659 qs21 q50 q1660) rfl rfl rfl ⟨rfl, by decide, by decide, rfl⟩ ⟨Nat.le_of_ble_eq_true rfl, Nat.le_of_ble_eq_true rfl⟩) (gh_preV (As := [.int (3 : Int32)]) M G (gh_rec M G haa4 rfl)) rfl rfl hl.1.1 rfl (lv_room (Nat.le_of_ble_eq_true rfl)) dX3_sheetOf_62 ⟨(Nat.le_of_ble_eq_true rfl), (Nat.le_of_ble_eq_true rfl)⟩) (gh_out M hex (by exact Nat.le_of_ble_eq_true rfl) (by exact Nat.le_of_ble_eq_true rfl)) (fun r5 h6 H locs hw G => ?_)
    exact gh_iret M G hr rfl hw (by exact Nat.le_of_ble_eq_true rfl) (by exact Nat.le_of_ble_eq_true rfl) dX3_sheetOf_65
  · replace hw := hw.2 hc
    refine lv_iconst (v := (0 : Int32)) hx hb dX3_sheetOf_21 (by decide) ?_
    refine gh_istore (lv' := [(4, 1, .int (0 : Int32)), (0, 1, va_rf (some v0)), (1, 1, .int v1), (2, 1, .int v2), (3, 1, .int v3)]) hx hb dX3_sheetOf_22 hl (by decide) rfl (fun ls hl => ?_)
    obtain ⟨n, hw⟩ := hw
    exact wk_X3_sheetOf_24 M hr hex k12 n v0 v1 v2 v3 (0 : Int32) _ _ _ _ G (gh_sub hl [1, 2, 3, 4, 0] rfl) hw
theorem wk_X3_sheetOf_12 {D : gh_D} {p : Program} {l : Launch} {e : Env} {s : State} {m : MethodId} {args : Array Value} {below : List Frame} {meth : Method} {c : Code} {h0 : gh_H} (M : gh_M D p l s m args meth c RX3 cX3_sheetOf 5 (gh_A h0 s.heap.size)) (hr : meth.sig.returnType = (some .int)) (hex : ∀ x ∈ c.exceptionTable.toList, False)   {Q : Int32 → gh_H → Prop} {X : String → gh_H → Prop}   : ∀ (n : Nat) (v0 : Nat) (v1 : Int32) (v2 : Int32) (v3 : Int32) (H : Heap) (locs : List Loc) (ls : Array Slot) (h : gh_H) (_ : gh_Inv D h0 (gh_A h0 s.heap.size) s.heap s H locs h) (_ : gh_L ls 5 [(0, 1, va_rf (some v0)), (1, 1, .int v1), (2, 1, .int v2), (3, 1, .int v3)]) (_ : wl_X3_sheetOf_12 D.2.2 Q X n v0 v1 v2 v3 h), W p l e rm_X3_sheetOf s m args below meth c H locs 0 0 (vx_MQ below (gh_Qi Q D h0 s.heap.size) (gh_X X D h0 s.heap.size) args s 0 0 (gh_A h0 s.heap.size)) (F0 m 12 ls []) := by
  intro fu
  induction fu with
  | zero => intro v0 v1 v2 v3 H locs ls h G hl hw; exact False.elim hw
  | succ n1 ih =>
    intro v0 v1 v2 v3 H locs ls h G hl hw
    exact wk1_X3_sheetOf_12 M hr hex ih  v0 v1 v2 v3 _ _ _ _ G hl hw
set_option maxHeartbeats 4000000 in
theorem met_X3_sheetOf (l : Launch) (D : gh_D) (v0 : Nat) (v1 : Int32) (v2 : Int32) (Q : Int32 → gh_H → Prop) (X : String → gh_H → Prop) (h : gh_H) (sz : Nat) (hw : wp_X3_sheetOf D.2.2 v0 v1 v2 Q X h) (hst : l.stackTraces = false) : vx_Met l yX3_sheetOf (ws_ yX3_sheetOf cX3_sheetOf 5 (some .int)) rm_X3_sheetOf (gh_Pc D h sz [.ref v0, .int v1, .int v2]) (gh_Qi Q D h sz) (gh_X X D h sz) 0 0 (gh_A h sz) := by
  refine vx_ofW (by decide) rfl (fun p e s m args below meth c s₁ B hml hex hP => ?_)
  obtain ⟨rfl, rfl, hK, hT, hE, G⟩ := gh_start hP
  have M : gh_M D p l s m _ meth c RX3 cX3_sheetOf 5 (gh_A h s.heap.size) := ⟨⟨B.exec, B.bytes, hml, findClass_of_methodNamed B.named, fun w hw => atoms_spec (ws := ws_ yX3_sheetOf cX3_sheetOf 5 (some .int)) B.pre w (List.mem_cons_of_mem _ hw)⟩, hK, hT, hE, B.notSynchronized, hst⟩
  have hr := B.returns
  have hx := M.1.1
  have hb := M.1.2.1
  refine gh_enter (vs := [(1, .ref v0), (1, .int v1), (1, .int v2)]) (gh_w1 rfl (gh_w1 rfl (gh_w1 rfl gh_wn))) (Nat.le_of_ble_eq_true rfl) (fun ls hl => ?_)
  replace hl : gh_L ls 5 [(0, 1, va_rf (some v0)), (1, 1, .int v1), (2, 1, .int v2)] := hl
  unfold wp_X3_sheetOf at hw
  refine gh_aload_n hx hb dX3_sheetOf_0 rfl (gh_at hl 0 rfl) ?_
  refine lv_iload_n hx hb dX3_sheetOf_1 rfl (gh_at hl 1 rfl) ?_
  obtain ⟨a1, lba1, fsa1, hra1, haa1, hw⟩ := hw
  rw [← Option.some.inj hra1] at haa1
  refine gh_ki G (vx_runV M.1 (met_X3_isJob l D _ _ _ _ _ _ hw M.2.2.2.2.2) (cwV 1 (gh_Mts M) (lw_V q1724 q1726 qs30 q50 q1727) rfl rfl rfl ⟨rfl, by decide, by decide, rfl⟩ ⟨Nat.le_of_ble_eq_true rfl, Nat.le_of_ble_eq_true rfl⟩) (gh_preV (As := [.int v1]) M G (gh_rec M G haa1 rfl)) rfl rfl hl.1.1 rfl (lv_room (Nat.le_of_ble_eq_true rfl)) dX3_sheetOf_2 ⟨(Nat.le_of_ble_eq_true rfl), (Nat.le_of_ble_eq_true rfl)⟩) (gh_out M hex (by exact Nat.le_of_ble_eq_true rfl) (by exact Nat.le_of_ble_eq_true rfl)) (fun r2 h3 H locs hw G => ?_)
  refine lv_if_ne (tgt := 10) hx hb dX3_sheetOf_5 (by decide) (fun hc => ?_) (fun hc => ?_)
  · replace hw := hw.2 hc
    refine lv_iconst (v := (0 : Int32)) hx hb dX3_sheetOf_10 (by decide) ?_
    refine gh_istore_n (lv' := [(3, 1, .int (0 : Int32)), (0, 1, va_rf (some v0)), (1, 1, .int v1), (2, 1, .int v2)]) hx hb dX3_sheetOf_11 rfl hl (by decide) rfl (fun ls hl => ?_)
    obtain ⟨n, hw⟩ := hw
    exact wk_X3_sheetOf_12 M hr hex  n v0 v1 v2 (0 : Int32) _ _ _ _ G (gh_sub hl [1, 2, 3, 0] rfl) hw
  · replace hw := hw.1 hc
    refine lv_iconst (v := (0 : Int32)) hx hb dX3_sheetOf_8 (by decide) ?_
    exact gh_iret M G hr rfl hw (by exact Nat.le_of_ble_eq_true rfl) (by exact Nat.le_of_ble_eq_true rfl) dX3_sheetOf_9
/-! BinderyDesk.requireCount (I)V -/
theorem at_X1_20 {args : Array Value} {s : State} (hts : ∀ w ∈ lw_all, w.before args s = true) (tb : gh_Tb s) : ∀ w ∈ (vx_at0 RX1 20 "java/lang/IllegalArgumentException" ["java/lang/RuntimeException", "java/lang/Exception"]), w.before args s = true := by
  refine vx_hat (B := [Cond.declares ({ cls := "java/lang/RuntimeException", name := "<init>", desc := "()V" } : MethodName), Cond.declares ({ cls := "java/lang/Exception", name := "<init>", desc := "()V" } : MethodName), Cond.declares ({ cls := "java/lang/Throwable", name := "<init>", desc := "()V" } : MethodName), Cond.castable "java/lang/IllegalArgumentException" "java/lang/IllegalArgumentException"]) (fun w hw => hts w (lw_in _ [51, 291, 300, 309, 312, 314, 292, 293, 91, 92, 294, 299, 310, 327, 281, 328, 283, 329, 285, 295, 297, 287, 745, 746, 747, 319, 319, 320, 321, 322, 322, 323, 324, 292, 852, 736, 738, 304, 739, 740, 741, 742, 290, 289, 743] (by decide +kernel) (by decide +kernel) w hw)) (by decide +kernel) ?_
  exact vx_c (va_Nw.use rfl (tb.1 _ (List.mem_of_getElem? (i := 116) rfl))) (vx_c (va_Nw.use rfl (tb.1 _ (List.mem_of_getElem? (i := 114) rfl))) (vx_c (va_Nw.use rfl (tb.1 _ (List.mem_of_getElem? (i := 111) rfl))) (vx_c (va_Nw.use rfl (tb.1 _ (List.mem_of_getElem? (i := 49) rfl))) (vx_n))))
theorem at_X1_20_g : ∀ w ∈ Cond.classLink RX1 18 "java/lang/IllegalArgumentException" :: Cond.initialized "java/lang/IllegalArgumentException" :: (vx_at0 RX1 20 "java/lang/IllegalArgumentException" ["java/lang/RuntimeException", "java/lang/Exception"]), vx_ot w = true := by decide +kernel
def rm_X1_requireCount : Room := { frames := 6, cells := 1, slots := 6, locals := 100 }
def wb_X1_requireCount_12 (κ : Nat → Nat)  (Q : gh_H → Prop) (X : String → gh_H → Prop)  (h : gh_H) : Prop := (X "java/lang/IllegalArgumentException" h)
def wp_X1_requireCount (κ : Nat → Nat) (v0 : Int32) (Q : gh_H → Prop) (X : String → gh_H → Prop) (h : gh_H) : Prop := ((v0 < (1 : Int32) → wb_X1_requireCount_12 κ Q X h) ∧ (¬ v0 < (1 : Int32) → ((v0 ≤ (500 : Int32) → (Q h)) ∧ (¬ v0 ≤ (500 : Int32) → wb_X1_requireCount_12 κ Q X h))))
set_option maxHeartbeats 4000000 in
theorem wk_X1_requireCount_12 {D : gh_D} {p : Program} {l : Launch} {e : Env} {s : State} {m : MethodId} {args : Array Value} {below : List Frame} {meth : Method} {c : Code} {h0 : gh_H} (M : gh_M D p l s m args meth c RX1 cX1_requireCount 1 (gh_A h0 s.heap.size)) (hr : meth.sig.returnType = none) (hex : ∀ x ∈ c.exceptionTable.toList, False)   {Q : gh_H → Prop} {X : String → gh_H → Prop}    (H : Heap) (locs : List Loc) (ls : Array Slot) (h : gh_H) (G : gh_Inv D h0 (gh_A h0 s.heap.size) s.heap s H locs h) (hl : gh_L ls 1 []) (hw : wb_X1_requireCount_12 D.2.2 Q X h) : W p l e rm_X1_requireCount s m args below meth c H locs 0 0 (vx_MQ below (gh_Qv Q D h0 s.heap.size) (gh_X X D h0 s.heap.size) args s 1 6 (gh_A h0 s.heap.size)) (F0 m 12 ls []) := by
  unfold wb_X1_requireCount_12 at hw
  have hx := M.1.1
  have hb := M.1.2.1
  exact gh_throw (names := ["java/lang/RuntimeException", "java/lang/Exception"]) M G hex hw (by decide +kernel) (by decide +kernel) q851 q70 (at_X1_20 (gh_Mts M) M.2.2.1) at_X1_20_g hl.1.1 dX1_requireCount_12 dX1_requireCount_15 dX1_requireCount_16 dX1_requireCount_19 (Nat.le_of_ble_eq_true rfl) (Nat.le_trans (Nat.add_le_add_right gh_r0 _) (Nat.le_of_ble_eq_true rfl)) (Nat.le_of_ble_eq_true rfl) (Nat.le_of_ble_eq_true rfl) (Nat.le_of_ble_eq_true rfl) (Nat.le_of_ble_eq_true rfl)
set_option maxHeartbeats 4000000 in
theorem met_X1_requireCount (l : Launch) (D : gh_D) (v0 : Int32) (Q : gh_H → Prop) (X : String → gh_H → Prop) (h : gh_H) (sz : Nat) (hw : wp_X1_requireCount D.2.2 v0 Q X h) (hst : l.stackTraces = false) : vx_Met l yX1_requireCount (ws_ yX1_requireCount cX1_requireCount 1 none) rm_X1_requireCount (gh_Pc D h sz [.int v0]) (gh_Qv Q D h sz) (gh_X X D h sz) 1 6 (gh_A h sz) := by
  refine vx_ofW (by decide) rfl (fun p e s m args below meth c s₁ B hml hex hP => ?_)
  obtain ⟨rfl, rfl, hK, hT, hE, G⟩ := gh_start hP
  have M : gh_M D p l s m _ meth c RX1 cX1_requireCount 1 (gh_A h s.heap.size) := ⟨⟨B.exec, B.bytes, hml, findClass_of_methodNamed B.named, fun w hw => atoms_spec (ws := ws_ yX1_requireCount cX1_requireCount 1 none) B.pre w (List.mem_cons_of_mem _ hw)⟩, hK, hT, hE, B.notSynchronized, hst⟩
  have hr := B.returns
  have hx := M.1.1
  have hb := M.1.2.1
  refine gh_enter (vs := [(1, .int v0)]) (gh_w1 rfl gh_wn) (Nat.le_of_ble_eq_true rfl) (fun ls hl => ?_)
  replace hl : gh_L ls 1 [(0, 1, .int v0)] := hl
  unfold wp_X1_requireCount at hw
  refine lv_iload_n hx hb dX1_requireCount_0 rfl (gh_at hl 0 rfl) ?_
  refine lv_iconst (v := (1 : Int32)) hx hb dX1_requireCount_1 (by decide) ?_
  refine lv_icmp_lt (tgt := 12) hx hb dX1_requireCount_2 (by decide) (fun hc => ?_) (fun hc => ?_)
  · replace hw := hw.1 hc
    exact wk_X1_requireCount_12 M hr hex   _ _ _ _ G (gh_sub hl [] rfl) hw
  · replace hw := hw.2 hc
    refine lv_iload_n hx hb dX1_requireCount_5 rfl (gh_at hl 0 rfl) ?_
    refine lv_sipush (v := (500 : Int32)) hx hb dX1_requireCount_6 (by decide) ?_
    refine lv_icmp_le (tgt := 20) hx hb dX1_requireCount_9 (by decide) (fun hc => ?_) (fun hc => ?_)
    · replace hw := hw.1 hc
      exact gh_vret M G hr hw (by exact Nat.le_of_ble_eq_true rfl) (by exact Nat.le_of_ble_eq_true rfl) dX1_requireCount_20
    · replace hw := hw.2 hc
      exact wk_X1_requireCount_12 M hr hex   _ _ _ _ G (gh_sub hl [] rfl) hw
/-! BinderyDesk$Job.isApproved (I)Z -/
theorem fl_X7_71 : gh_FL RX7 71 [(4, 2)] := by
  intro args s hts tb q hq
  simp only [List.mem_cons, List.not_mem_nil, or_false] at hq
  subst hq
  exact ⟨_, "BinderyDesk$Content", rfl, by decide, Or.inr ⟨"BinderyDesk", va_Nw.use rfl (tb.1 _ (List.mem_of_getElem? (i := 157) rfl))⟩, (fun x h => h)⟩
def rm_X7_isApproved : Room := { frames := 5, cells := 0, slots := 0, locals := 126 }
def wb_X7_isApproved_4 (κ : Nat → Nat) (K4 : Nat → Int32 → Int32 → Int32 → gh_H → Prop) (Q : Int32 → gh_H → Prop) (X : String → gh_H → Prop) (v0 : Nat) (v1 : Int32) (v2 : Int32) (v3 : Int32) (h : gh_H) : Prop := (gh_GR h (some v0) [(7, 0)] (fun x1 => (gh_GI h x1 [(16, 1), (17, 1), (18, 1)] (fun x2 => ((x2 ≤ v3 → (narrow .boolean (.int v2) = .int v2 ∧ Q v2 h)) ∧ (¬ x2 ≤ v3 → (gh_RC h (some v0) 7 (fun _ => (wp_X7_contentAt κ v0 v1 v3 (fun r4 h5 => (gh_GI h5 r4 [(4, 2)] (fun x6 => K4 v0 v1 (v2 &&& x6) (v3 + (1 : Int32)) h5))) X h)))))))))
def wl_X7_isApproved_4 (κ : Nat → Nat)  (Q : Int32 → gh_H → Prop) (X : String → gh_H → Prop) : Nat → Nat → Int32 → Int32 → Int32 → gh_H → Prop
  | 0 => fun _ _ _ _ _ => False
  | n + 1 => fun v0 v1 v2 v3 h => wb_X7_isApproved_4 κ (wl_X7_isApproved_4 κ Q X n) Q X v0 v1 v2 v3 h
def wp_X7_isApproved (κ : Nat → Nat) (v0 : Nat) (v1 : Int32) (Q : Int32 → gh_H → Prop) (X : String → gh_H → Prop) (h : gh_H) : Prop := (∃ n : Nat, wl_X7_isApproved_4 κ Q X n v0 v1 (1 : Int32) (0 : Int32) h)
set_option maxHeartbeats 4000000 in
theorem wk1_X7_isApproved_4 {D : gh_D} {p : Program} {l : Launch} {e : Env} {s : State} {m : MethodId} {args : Array Value} {below : List Frame} {meth : Method} {c : Code} {h0 : gh_H} (M : gh_M D p l s m args meth c RX7 cX7_isApproved 4 (gh_A h0 s.heap.size)) (hr : meth.sig.returnType = (some .boolean)) (hex : ∀ x ∈ c.exceptionTable.toList, False) {K4 : Nat → Int32 → Int32 → Int32 → gh_H → Prop}  {Q : Int32 → gh_H → Prop} {X : String → gh_H → Prop} (k4 : ∀ (v0 : Nat) (v1 : Int32) (v2 : Int32) (v3 : Int32) (H : Heap) (locs : List Loc) (ls : Array Slot) (h : gh_H) (_ : gh_Inv D h0 (gh_A h0 s.heap.size) s.heap s H locs h) (_ : gh_L ls 4 [(0, 1, va_rf (some v0)), (1, 1, .int v1), (2, 1, .int v2), (3, 1, .int v3)]) (_ : K4 v0 v1 v2 v3 h), W p l e rm_X7_isApproved s m args below meth c H locs 0 0 (vx_MQ below (gh_Qi Q D h0 s.heap.size) (gh_X X D h0 s.heap.size) args s 0 0 (gh_A h0 s.heap.size)) (F0 m 4 ls []))  (v0 : Nat) (v1 : Int32) (v2 : Int32) (v3 : Int32) (H : Heap) (locs : List Loc) (ls : Array Slot) (h : gh_H) (G : gh_Inv D h0 (gh_A h0 s.heap.size) s.heap s H locs h) (hl : gh_L ls 4 [(0, 1, va_rf (some v0)), (1, 1, .int v1), (2, 1, .int v2), (3, 1, .int v3)]) (hw : wb_X7_isApproved_4 D.2.2 K4 Q X v0 v1 v2 v3 h) : W p l e rm_X7_isApproved s m args below meth c H locs 0 0 (vx_MQ below (gh_Qi Q D h0 s.heap.size) (gh_X X D h0 s.heap.size) args s 0 0 (gh_A h0 s.heap.size)) (F0 m 4 ls []) := by
  unfold wb_X7_isApproved_4 at hw
  have hx := M.1.1
  have hb := M.1.2.1
  refine lv_iload_n hx hb dX7_isApproved_4 rfl (gh_at hl 3 rfl) ?_
  refine gh_aload_n hx hb dX7_isApproved_5 rfl (gh_at hl 0 rfl) ?_
  refine gh_getR M G hw fl_X7_21 dX7_isApproved_6 (fun x1 hw => ?_)
  refine gh_getI M G hw fl_X7_44 dX7_isApproved_9 (fun x2 hw => ?_)
  refine lv_icmp_ge (tgt := 33) hx hb dX7_isApproved_12 (by decide) (fun hc => ?_) (fun hc => ?_)
  · replace hw := hw.1 hc
    refine lv_iload_n hx hb dX7_isApproved_33 rfl (gh_at hl 2 rfl) ?_
    exact gh_iret M G hr hw.1 hw.2 (by exact Nat.le_of_ble_eq_true rfl) (by exact Nat.le_of_ble_eq_true rfl) dX7_isApproved_34
  · replace hw := hw.2 hc
    refine lv_iload_n hx hb dX7_isApproved_15 rfl (gh_at hl 2 rfl) ?_
    refine gh_aload_n hx hb dX7_isApproved_16 rfl (gh_at hl 0 rfl) ?_
    refine lv_iload_n hx hb dX7_isApproved_17 rfl (gh_at hl 1 rfl) ?_
    refine lv_iload_n hx hb dX7_isApproved_18 rfl (gh_at hl 3 rfl) ?_
    obtain ⟨a3, lba3, fsa3, hra3, haa3, hw⟩ := hw
    rw [← Option.some.inj hra3] at haa3
    refine gh_kq G (vx_runV M.1 (met_X7_contentAt l D _ _ _ _ _ _ _ hw M.2.2.2.2.2) (cwV 2 (gh_Mts M) (lw_V q651 q652 q653 q71 q654) rfl rfl rfl ⟨rfl, by decide, by decide, rfl⟩ ⟨Nat.le_of_ble_eq_true rfl, Nat.le_of_ble_eq_true rfl⟩) (gh_preV (As := [.int v1, .int v3]) M G (gh_rec M G haa3 rfl)) rfl rfl hl.1.1 rfl (lv_room (Nat.le_of_ble_eq_true rfl)) dX7_isApproved_19 ⟨(Nat.le_of_ble_eq_true rfl), (Nat.le_of_ble_eq_true rfl)⟩) (gh_out M hex (by exact Nat.le_of_ble_eq_true rfl) (by exact Nat.le_of_ble_eq_true rfl)) (fun r4 h5 H locs hw G => ?_)
    refine gh_getI M G hw fl_X7_71 dX7_isApproved_22 (fun x6 hw => ?_)
    refine lv_iand hx hb dX7_isApproved_25 ?_
    refine gh_istore_n (lv' := [(2, 1, .int (v2 &&& x6)), (0, 1, va_rf (some v0)), (1, 1, .int v1), (3, 1, .int v3)]) hx hb dX7_isApproved_26 rfl hl (by decide) rfl (fun ls hl => ?_)
    refine gh_iinc (k := 3) (v := (v3 + (1 : Int32))) (lv' := [(3, 1, .int (v3 + (1 : Int32))), (2, 1, .int (v2 &&& x6)), (0, 1, va_rf (some v0)), (1, 1, .int v1)]) hx hb dX7_isApproved_27 hl rfl rfl (by decide) rfl (fun ls hl => ?_)
    refine lv_goto (tgt := 4) hx hb dX7_isApproved_30 (by decide) ?_
    exact k4 v0 v1 (v2 &&& x6) (v3 + (1 : Int32)) _ _ _ _ G (gh_sub hl [2, 3, 1, 0] rfl) hw
theorem wk_X7_isApproved_4 {D : gh_D} {p : Program} {l : Launch} {e : Env} {s : State} {m : MethodId} {args : Array Value} {below : List Frame} {meth : Method} {c : Code} {h0 : gh_H} (M : gh_M D p l s m args meth c RX7 cX7_isApproved 4 (gh_A h0 s.heap.size)) (hr : meth.sig.returnType = (some .boolean)) (hex : ∀ x ∈ c.exceptionTable.toList, False)   {Q : Int32 → gh_H → Prop} {X : String → gh_H → Prop}   : ∀ (n : Nat) (v0 : Nat) (v1 : Int32) (v2 : Int32) (v3 : Int32) (H : Heap) (locs : List Loc) (ls : Array Slot) (h : gh_H) (_ : gh_Inv D h0 (gh_A h0 s.heap.size) s.heap s H locs h) (_ : gh_L ls 4 [(0, 1, va_rf (some v0)), (1, 1, .int v1), (2, 1, .int v2), (3, 1, .int v3)]) (_ : wl_X7_isApproved_4 D.2.2 Q X n v0 v1 v2 v3 h), W p l e rm_X7_isApproved s m args below meth c H locs 0 0 (vx_MQ below (gh_Qi Q D h0 s.heap.size) (gh_X X D h0 s.heap.size) args s 0 0 (gh_A h0 s.heap.size)) (F0 m 4 ls []) := by
  intro fu
  induction fu with
  | zero => intro v0 v1 v2 v3 H locs ls h G hl hw; exact False.elim hw
  | succ n1 ih =>
    intro v0 v1 v2 v3 H locs ls h G hl hw
    exact wk1_X7_isApproved_4 M hr hex ih  v0 v1 v2 v3 _ _ _ _ G hl hw
set_option maxHeartbeats 4000000 in
theorem met_X7_isApproved (l : Launch) (D : gh_D) (v0 : Nat) (v1 : Int32) (Q : Int32 → gh_H → Prop) (X : String → gh_H → Prop) (h : gh_H) (sz : Nat) (hw : wp_X7_isApproved D.2.2 v0 v1 Q X h) (hst : l.stackTraces = false) : vx_Met l yX7_isApproved (ws_ yX7_isApproved cX7_isApproved 4 (some .boolean)) rm_X7_isApproved (gh_Pc D h sz [.ref v0, .int v1]) (gh_Qi Q D h sz) (gh_X X D h sz) 0 0 (gh_A h sz) := by
  refine vx_ofW (by decide) rfl (fun p e s m args below meth c s₁ B hml hex hP => ?_)
  obtain ⟨rfl, rfl, hK, hT, hE, G⟩ := gh_start hP
  have M : gh_M D p l s m _ meth c RX7 cX7_isApproved 4 (gh_A h s.heap.size) := ⟨⟨B.exec, B.bytes, hml, findClass_of_methodNamed B.named, fun w hw => atoms_spec (ws := ws_ yX7_isApproved cX7_isApproved 4 (some .boolean)) B.pre w (List.mem_cons_of_mem _ hw)⟩, hK, hT, hE, B.notSynchronized, hst⟩
  have hr := B.returns
  have hx := M.1.1
  have hb := M.1.2.1
  refine gh_enter (vs := [(1, .ref v0), (1, .int v1)]) (gh_w1 rfl (gh_w1 rfl gh_wn)) (Nat.le_of_ble_eq_true rfl) (fun ls hl => ?_)
  replace hl : gh_L ls 4 [(0, 1, va_rf (some v0)), (1, 1, .int v1)] := hl
  unfold wp_X7_isApproved at hw
  refine lv_iconst (v := (1 : Int32)) hx hb dX7_isApproved_0 (by decide) ?_
  refine gh_istore_n (lv' := [(2, 1, .int (1 : Int32)), (0, 1, va_rf (some v0)), (1, 1, .int v1)]) hx hb dX7_isApproved_1 rfl hl (by decide) rfl (fun ls hl => ?_)
  refine lv_iconst (v := (0 : Int32)) hx hb dX7_isApproved_2 (by decide) ?_
  refine gh_istore_n (lv' := [(3, 1, .int (0 : Int32)), (2, 1, .int (1 : Int32)), (0, 1, va_rf (some v0)), (1, 1, .int v1)]) hx hb dX7_isApproved_3 rfl hl (by decide) rfl (fun ls hl => ?_)
  obtain ⟨n, hw⟩ := hw
  exact wk_X7_isApproved_4 M hr hex  n v0 v1 (1 : Int32) (0 : Int32) _ _ _ _ G (gh_sub hl [2, 3, 1, 0] rfl) hw
/-! BinderyDesk.requirePossible (Z)V -/
theorem at_X1_17 {args : Array Value} {s : State} (hts : ∀ w ∈ lw_all, w.before args s = true) (tb : gh_Tb s) : ∀ w ∈ (vx_at0 RX1 17 "java/lang/UnsupportedOperationException" ["java/lang/RuntimeException", "java/lang/Exception"]), w.before args s = true := by
  refine vx_hat (B := [Cond.declares ({ cls := "java/lang/RuntimeException", name := "<init>", desc := "()V" } : MethodName), Cond.declares ({ cls := "java/lang/Exception", name := "<init>", desc := "()V" } : MethodName), Cond.declares ({ cls := "java/lang/Throwable", name := "<init>", desc := "()V" } : MethodName), Cond.castable "java/lang/UnsupportedOperationException" "java/lang/UnsupportedOperationException"]) (fun w hw => hts w (lw_in _ [51, 291, 300, 309, 312, 314, 292, 293, 91, 92, 294, 299, 310, 327, 281, 328, 283, 329, 285, 295, 297, 287, 872, 873, 874, 319, 319, 320, 321, 322, 322, 323, 324, 292, 871, 863, 865, 306, 866, 867, 868, 869, 290, 289, 870] (by decide +kernel) (by decide +kernel) w hw)) (by decide +kernel) ?_
  exact vx_c (va_Nw.use rfl (tb.1 _ (List.mem_of_getElem? (i := 116) rfl))) (vx_c (va_Nw.use rfl (tb.1 _ (List.mem_of_getElem? (i := 114) rfl))) (vx_c (va_Nw.use rfl (tb.1 _ (List.mem_of_getElem? (i := 111) rfl))) (vx_c (va_Nw.use rfl (tb.1 _ (List.mem_of_getElem? (i := 51) rfl))) (vx_n))))
theorem at_X1_17_g : ∀ w ∈ Cond.classLink RX1 15 "java/lang/UnsupportedOperationException" :: Cond.initialized "java/lang/UnsupportedOperationException" :: (vx_at0 RX1 17 "java/lang/UnsupportedOperationException" ["java/lang/RuntimeException", "java/lang/Exception"]), vx_ot w = true := by decide +kernel
def rm_X1_requirePossible : Room := { frames := 6, cells := 1, slots := 6, locals := 100 }
def wp_X1_requirePossible (κ : Nat → Nat) (v0 : Int32) (Q : gh_H → Prop) (X : String → gh_H → Prop) (h : gh_H) : Prop := ((v0 = 0 → (X "java/lang/UnsupportedOperationException" h)) ∧ (¬ v0 = 0 → (Q h)))
set_option maxHeartbeats 4000000 in
theorem met_X1_requirePossible (l : Launch) (D : gh_D) (v0 : Int32) (Q : gh_H → Prop) (X : String → gh_H → Prop) (h : gh_H) (sz : Nat) (hw : wp_X1_requirePossible D.2.2 v0 Q X h) (hst : l.stackTraces = false) : vx_Met l yX1_requirePossible (ws_ yX1_requirePossible cX1_requirePossible 1 none) rm_X1_requirePossible (gh_Pc D h sz [.int v0]) (gh_Qv Q D h sz) (gh_X X D h sz) 1 6 (gh_A h sz) := by
  refine vx_ofW (by decide) rfl (fun p e s m args below meth c s₁ B hml hex hP => ?_)
  obtain ⟨rfl, rfl, hK, hT, hE, G⟩ := gh_start hP
  have M : gh_M D p l s m _ meth c RX1 cX1_requirePossible 1 (gh_A h s.heap.size) := ⟨⟨B.exec, B.bytes, hml, findClass_of_methodNamed B.named, fun w hw => atoms_spec (ws := ws_ yX1_requirePossible cX1_requirePossible 1 none) B.pre w (List.mem_cons_of_mem _ hw)⟩, hK, hT, hE, B.notSynchronized, hst⟩
  have hr := B.returns
  have hx := M.1.1
  have hb := M.1.2.1
  refine gh_enter (vs := [(1, .int v0)]) (gh_w1 rfl gh_wn) (Nat.le_of_ble_eq_true rfl) (fun ls hl => ?_)
  replace hl : gh_L ls 1 [(0, 1, .int v0)] := hl
  unfold wp_X1_requirePossible at hw
  refine lv_iload_n hx hb dX1_requirePossible_0 rfl (gh_at hl 0 rfl) ?_
  refine lv_if_ne (tgt := 12) hx hb dX1_requirePossible_1 (by decide) (fun hc => ?_) (fun hc => ?_)
  · replace hw := hw.2 hc
    exact gh_vret M G hr hw (by exact Nat.le_of_ble_eq_true rfl) (by exact Nat.le_of_ble_eq_true rfl) dX1_requirePossible_12
  · replace hw := hw.1 hc
    exact gh_throw (names := ["java/lang/RuntimeException", "java/lang/Exception"]) M G hex hw (by decide +kernel) (by decide +kernel) q862 q74 (at_X1_17 (gh_Mts M) M.2.2.1) at_X1_17_g hl.1.1 dX1_requirePossible_4 dX1_requirePossible_7 dX1_requirePossible_8 dX1_requirePossible_11 (Nat.le_of_ble_eq_true rfl) (Nat.le_trans (Nat.add_le_add_right gh_r0 _) (Nat.le_of_ble_eq_true rfl)) (Nat.le_of_ble_eq_true rfl) (Nat.le_of_ble_eq_true rfl) (Nat.le_of_ble_eq_true rfl) (Nat.le_of_ble_eq_true rfl)
/-! BinderyDesk$Content.sign ()I -/
theorem fl_X4_15 : gh_FL RX4 15 [(4, 1)] := by
  intro args s hts tb q hq
  simp only [List.mem_cons, List.not_mem_nil, or_false] at hq
  subst hq
  exact ⟨_, "BinderyDesk$Content", rfl, by decide, Or.inl (hts _ q346), (fun x h => h)⟩
def rm_X4_sign : Room := { frames := 1, cells := 0, slots := 0, locals := 40 }
def wp_X4_sign (κ : Nat → Nat) (v0 : Nat) (Q : Int32 → gh_H → Prop) (X : String → gh_H → Prop) (h : gh_H) : Prop := (gh_GI h (some v0) [(4, 0)] (fun x1 => (gh_GI h (some v0) [(4, 1)] (fun x2 => (Q (((100 : Int32) * x1) + x2) h)))))
set_option maxHeartbeats 4000000 in
theorem met_X4_sign (l : Launch) (D : gh_D) (v0 : Nat) (Q : Int32 → gh_H → Prop) (X : String → gh_H → Prop) (h : gh_H) (sz : Nat) (hw : wp_X4_sign D.2.2 v0 Q X h) (hst : l.stackTraces = false) : vx_Met l yX4_sign (ws_ yX4_sign cX4_sign 1 (some .int)) rm_X4_sign (gh_Pc D h sz [.ref v0]) (gh_Qi Q D h sz) (gh_X X D h sz) 0 0 (gh_A h sz) := by
  refine vx_ofW (by decide) rfl (fun p e s m args below meth c s₁ B hml hex hP => ?_)
  obtain ⟨rfl, rfl, hK, hT, hE, G⟩ := gh_start hP
  have M : gh_M D p l s m _ meth c RX4 cX4_sign 1 (gh_A h s.heap.size) := ⟨⟨B.exec, B.bytes, hml, findClass_of_methodNamed B.named, fun w hw => atoms_spec (ws := ws_ yX4_sign cX4_sign 1 (some .int)) B.pre w (List.mem_cons_of_mem _ hw)⟩, hK, hT, hE, B.notSynchronized, hst⟩
  have hr := B.returns
  have hx := M.1.1
  have hb := M.1.2.1
  refine gh_enter (vs := [(1, .ref v0)]) (gh_w1 rfl gh_wn) (Nat.le_of_ble_eq_true rfl) (fun ls hl => ?_)
  replace hl : gh_L ls 1 [(0, 1, va_rf (some v0))] := hl
  unfold wp_X4_sign at hw
  refine lv_bipush (v := (100 : Int32)) hx hb dX4_sign_0 (by decide) ?_
  refine gh_aload_n hx hb dX4_sign_2 rfl (gh_at hl 0 rfl) ?_
  refine gh_getI M G hw fl_X4_9 dX4_sign_3 (fun x1 hw => ?_)
  refine lv_imul hx hb dX4_sign_6 ?_
  refine gh_aload_n hx hb dX4_sign_7 rfl (gh_at hl 0 rfl) ?_
  refine gh_getI M G hw fl_X4_15 dX4_sign_8 (fun x2 hw => ?_)
  refine lv_iadd hx hb dX4_sign_11 ?_
  exact gh_iret M G hr rfl hw (by exact Nat.le_of_ble_eq_true rfl) (by exact Nat.le_of_ble_eq_true rfl) dX4_sign_12
/-! BinderyDesk$Job.plate (II)I -/
def rm_X7_plate : Room := { frames := 5, cells := 0, slots := 0, locals := 126 }
def wb_X7_plate_56 (κ : Nat → Nat)  (Q : Int32 → gh_H → Prop) (X : String → gh_H → Prop) (t0 : Int32) (h : gh_H) : Prop := (Q t0 h)
def wp_X7_plate (κ : Nat → Nat) (v0 : Nat) (v1 : Int32) (v2 : Int32) (Q : Int32 → gh_H → Prop) (X : String → gh_H → Prop) (h : gh_H) : Prop := (gh_GR h (some v0) [(7, 0)] (fun x1 => (gh_GI h x1 [(16, 1), (17, 1), (18, 1)] (fun x2 => ((¬ (2 : Int32) = 0) ∧ (gh_RC h (some v0) 7 (fun _ => (wp_X7_contentAt κ v0 v1 (v2 * (x2 / (2 : Int32))) (fun r4 h5 => (gh_RC h5 r4 4 (fun a6 => (wp_X4_sign κ a6 (fun r7 h8 => (((x2 / (2 : Int32)) = (1 : Int32) → wb_X7_plate_56 κ Q X ((1440000 : Int32) + r7) h8) ∧ (¬ (x2 / (2 : Int32)) = (1 : Int32) → (gh_RC h8 (some v0) 7 (fun _ => (wp_X7_contentAt κ v0 v1 ((v2 * (x2 / (2 : Int32))) + (1 : Int32)) (fun r10 h11 => (gh_RC h11 r10 4 (fun a12 => (wp_X4_sign κ a12 (fun r13 h14 => wb_X7_plate_56 κ Q X (((1200 : Int32) * r7) + r13) h14) X h11)))) X h8)))))) X h5)))) X h))))))))
set_option maxHeartbeats 4000000 in
theorem wk_X7_plate_56 {D : gh_D} {p : Program} {l : Launch} {e : Env} {s : State} {m : MethodId} {args : Array Value} {below : List Frame} {meth : Method} {c : Code} {h0 : gh_H} (M : gh_M D p l s m args meth c RX7 cX7_plate 5 (gh_A h0 s.heap.size)) (hr : meth.sig.returnType = (some .int)) (hex : ∀ x ∈ c.exceptionTable.toList, False)   {Q : Int32 → gh_H → Prop} {X : String → gh_H → Prop}   (t0 : Int32) (H : Heap) (locs : List Loc) (ls : Array Slot) (h : gh_H) (G : gh_Inv D h0 (gh_A h0 s.heap.size) s.heap s H locs h) (hl : gh_L ls 5 []) (hw : wb_X7_plate_56 D.2.2 Q X t0 h) : W p l e rm_X7_plate s m args below meth c H locs 0 0 (vx_MQ below (gh_Qi Q D h0 s.heap.size) (gh_X X D h0 s.heap.size) args s 0 0 (gh_A h0 s.heap.size)) (F0 m 56 ls [.int t0]) := by
  unfold wb_X7_plate_56 at hw
  have hx := M.1.1
  have hb := M.1.2.1
  exact gh_iret M G hr rfl hw (by exact Nat.le_of_ble_eq_true rfl) (by exact Nat.le_of_ble_eq_true rfl) dX7_plate_56
set_option maxHeartbeats 4000000 in
theorem met_X7_plate (l : Launch) (D : gh_D) (v0 : Nat) (v1 : Int32) (v2 : Int32) (Q : Int32 → gh_H → Prop) (X : String → gh_H → Prop) (h : gh_H) (sz : Nat) (hw : wp_X7_plate D.2.2 v0 v1 v2 Q X h) (hst : l.stackTraces = false) : vx_Met l yX7_plate (ws_ yX7_plate cX7_plate 5 (some .int)) rm_X7_plate (gh_Pc D h sz [.ref v0, .int v1, .int v2]) (gh_Qi Q D h sz) (gh_X X D h sz) 0 0 (gh_A h sz) := by
  refine vx_ofW (by decide) rfl (fun p e s m args below meth c s₁ B hml hex hP => ?_)
  obtain ⟨rfl, rfl, hK, hT, hE, G⟩ := gh_start hP
  have M : gh_M D p l s m _ meth c RX7 cX7_plate 5 (gh_A h s.heap.size) := ⟨⟨B.exec, B.bytes, hml, findClass_of_methodNamed B.named, fun w hw => atoms_spec (ws := ws_ yX7_plate cX7_plate 5 (some .int)) B.pre w (List.mem_cons_of_mem _ hw)⟩, hK, hT, hE, B.notSynchronized, hst⟩
  have hr := B.returns
  have hx := M.1.1
  have hb := M.1.2.1
  refine gh_enter (vs := [(1, .ref v0), (1, .int v1), (1, .int v2)]) (gh_w1 rfl (gh_w1 rfl (gh_w1 rfl gh_wn))) (Nat.le_of_ble_eq_true rfl) (fun ls hl => ?_)
  replace hl : gh_L ls 5 [(0, 1, va_rf (some v0)), (1, 1, .int v1), (2, 1, .int v2)] := hl
  unfold wp_X7_plate at hw
  refine gh_aload_n hx hb dX7_plate_0 rfl (gh_at hl 0 rfl) ?_
  refine gh_getR M G hw fl_X7_21 dX7_plate_1 (fun x1 hw => ?_)
  refine gh_getI M G hw fl_X7_44 dX7_plate_4 (fun x2 hw => ?_)
  refine lv_iconst (v := (2 : Int32)) hx hb dX7_plate_7 (by decide) ?_
  refine lv_idiv hx hb dX7_plate_8 hw.1 ?_
  replace hw := hw.2
  refine gh_istore_n (lv' := [(3, 1, .int (x2 / (2 : Int32))), (0, 1, va_rf (some v0)), (1, 1, .int v1), (2, 1, .int v2)]) hx hb dX7_plate_9 rfl hl (by decide) rfl (fun ls hl => ?_)
  refine gh_aload_n hx hb dX7_plate_10 rfl (gh_at hl 1 rfl) ?_
  refine lv_iload_n hx hb dX7_plate_11 rfl (gh_at hl 2 rfl) ?_
  refine lv_iload_n hx hb dX7_plate_12 rfl (gh_at hl 3 rfl) ?_
  refine lv_iload_n hx hb dX7_plate_13 rfl (gh_at hl 0 rfl) ?_
  refine lv_imul hx hb dX7_plate_14 ?_
  obtain ⟨a3, lba3, fsa3, hra3, haa3, hw⟩ := hw
  rw [← Option.some.inj hra3] at haa3
  refine gh_kq G (vx_runV M.1 (met_X7_contentAt l D _ _ _ _ _ _ _ hw M.2.2.2.2.2) (cwV 2 (gh_Mts M) (lw_V q651 q652 q653 q71 q654) rfl rfl rfl ⟨rfl, by decide, by decide, rfl⟩ ⟨Nat.le_of_ble_eq_true rfl, Nat.le_of_ble_eq_true rfl⟩) (gh_preV (As := [.int v1, .int (v2 * (x2 / (2 : Int32)))]) M G (gh_rec M G haa3 rfl)) rfl rfl hl.1.1 rfl (lv_room (Nat.le_of_ble_eq_true rfl)) dX7_plate_15 ⟨(Nat.le_of_ble_eq_true rfl), (Nat.le_of_ble_eq_true rfl)⟩) (gh_out M hex (by exact Nat.le_of_ble_eq_true rfl) (by exact Nat.le_of_ble_eq_true rfl)) (fun r4 h5 H locs hw G => ?_)
  obtain ⟨a6, lba6, fsa6, rfl, haa6, hw⟩ := hw
  refine gh_ki G (vx_runV M.1 (met_X4_sign l D _ _ _ _ _ hw M.2.2.2.2.2) (cwV 0 (gh_Mts M) (lw_V q885 q886 q887 q55 q888) rfl rfl rfl ⟨rfl, by decide, by decide, rfl⟩ ⟨Nat.le_of_ble_eq_true rfl, Nat.le_of_ble_eq_true rfl⟩) (gh_preV (As := []) M G (gh_rec M G haa6 rfl)) rfl rfl hl.1.1 rfl (lv_room (Nat.le_of_ble_eq_true rfl)) dX7_plate_18 ⟨(Nat.le_of_ble_eq_true rfl), (Nat.le_of_ble_eq_true rfl)⟩) (gh_out M hex (by exact Nat.le_of_ble_eq_true rfl) (by exact Nat.le_of_ble_eq_true rfl)) (fun r7 h8 H locs hw G => ?_)
  refine gh_istore (lv' := [(4, 1, .int r7), (3, 1, .int (x2 / (2 : Int32))), (0, 1, va_rf (some v0)), (1, 1, .int v1), (2, 1, .int v2)]) hx hb dX7_plate_21 hl (by decide) rfl (fun ls hl => ?_)
  refine lv_iload_n hx hb dX7_plate_23 rfl (gh_at hl 1 rfl) ?_
  refine lv_iconst (v := (1 : Int32)) hx hb dX7_plate_24 (by decide) ?_
  refine lv_icmp_ne (tgt := 36) hx hb dX7_plate_25 (by decide) (fun hc => ?_) (fun hc => ?_)
  · replace hw := hw.2 hc
    refine lv_sipush (v := (1200 : Int32)) hx hb dX7_plate_36 (by decide) ?_
    refine lv_iload hx hb dX7_plate_39 (gh_at hl 0 rfl) ?_
    refine lv_imul hx hb dX7_plate_41 ?_
    refine gh_aload_n hx hb dX7_plate_42 rfl (gh_at hl 2 rfl) ?_
    refine lv_iload_n hx hb dX7_plate_43 rfl (gh_at hl 3 rfl) ?_
    refine lv_iload_n hx hb dX7_plate_44 rfl (gh_at hl 4 rfl) ?_
    refine lv_iload_n hx hb dX7_plate_45 rfl (gh_at hl 1 rfl) ?_
    refine lv_imul hx hb dX7_plate_46 ?_
    refine lv_iconst (v := (1 : Int32)) hx hb dX7_plate_47 (by decide) ?_
    refine lv_iadd hx hb dX7_plate_48 ?_
    obtain ⟨a9, lba9, fsa9, hra9, haa9, hw⟩ := hw
    rw [← Option.some.inj hra9] at haa9
    refine gh_kq G (vx_runV M.1 (met_X7_contentAt l D _ _ _ _ _ _ _ hw M.2.2.2.2.2) (cwV 2 (gh_Mts M) (lw_V q651 q652 q653 q71 q654) rfl rfl rfl ⟨rfl, by decide, by decide, rfl⟩ ⟨Nat.le_of_ble_eq_true rfl, Nat.le_of_ble_eq_true rfl⟩) (gh_preV (As := [.int v1, .int ((v2 * (x2 / (2 : Int32))) + (1 : Int32))]) M G (gh_rec M G haa9 rfl)) rfl rfl hl.1.1 rfl (lv_room (Nat.le_of_ble_eq_true rfl)) dX7_plate_49 ⟨(Nat.le_of_ble_eq_true rfl), (Nat.le_of_ble_eq_true rfl)⟩) (gh_out M hex (by exact Nat.le_of_ble_eq_true rfl) (by exact Nat.le_of_ble_eq_true rfl)) (fun r10 h11 H locs hw G => ?_)
    obtain ⟨a12, lba12, fsa12, rfl, haa12, hw⟩ := hw
    refine gh_ki G (vx_runV M.1 (met_X4_sign l D _ _ _ _ _ hw M.2.2.2.2.2) (cwV 0 (gh_Mts M) (lw_V q885 q886 q887 q55 q888) rfl rfl rfl ⟨rfl, by decide, by decide, rfl⟩ ⟨Nat.le_of_ble_eq_true rfl, Nat.le_of_ble_eq_true rfl⟩) (gh_preV (As := []) M G (gh_rec M G haa12 rfl)) rfl rfl hl.1.1 rfl (lv_room (Nat.le_of_ble_eq_true rfl)) dX7_plate_52 ⟨(Nat.le_of_ble_eq_true rfl), (Nat.le_of_ble_eq_true rfl)⟩) (gh_out M hex (by exact Nat.le_of_ble_eq_true rfl) (by exact Nat.le_of_ble_eq_true rfl)) (fun r13 h14 H locs hw G => ?_)
    refine lv_iadd hx hb dX7_plate_55 ?_
    exact wk_X7_plate_56 M hr hex  (((1200 : Int32) * r7) + r13) _ _ _ _ G (gh_sub hl [] rfl) hw
  · replace hw := hw.1 hc
    refine lv_ldc (v := (1440000 : Int32)) hx hb M.1.2.2.2.1 (gh_Mts M _ q889) dX7_plate_28 ?_
    refine lv_iload hx hb dX7_plate_30 (gh_at hl 0 rfl) ?_
    refine lv_iadd hx hb dX7_plate_32 ?_
    refine lv_goto (tgt := 56) hx hb dX7_plate_33 (by decide) ?_
    exact wk_X7_plate_56 M hr hex  ((1440000 : Int32) + r7) _ _ _ _ G (gh_sub hl [] rfl) hw
/-! BinderyDesk.makeready (LBinderyDesk$Job;I)I -/
theorem fl_X1_170 : gh_FL RX1 170 [(0, 10)] := by
  intro args s hts tb q hq
  simp only [List.mem_cons, List.not_mem_nil, or_false] at hq
  subst hq
  exact ⟨_, "BinderyDesk", rfl, by decide, Or.inl (hts _ q192), (fun x h => h)⟩
def rm_X1_makeready : Room := { frames := 6, cells := 0, slots := 0, locals := 150 }
def wb_X1_makeready_55 (κ : Nat → Nat) (K21 : Nat → Option Nat → Int32 → Int32 → Int32 → gh_H → Prop) (Q : Int32 → gh_H → Prop) (X : String → gh_H → Prop) (v0 : Nat) (v1 : Option Nat) (v2 : Int32) (v4 : Int32) (t0 : Int32) (t1 : Int32) (h : gh_H) : Prop := K21 v0 v1 v2 (t0 + t1) (v4 + (1 : Int32)) h
def wb_X1_makeready_21 (κ : Nat → Nat) (K21 : Nat → Option Nat → Int32 → Int32 → Int32 → gh_H → Prop) (Q : Int32 → gh_H → Prop) (X : String → gh_H → Prop) (v0 : Nat) (v1 : Option Nat) (v2 : Int32) (v3 : Int32) (v4 : Int32) (h : gh_H) : Prop := (gh_GR h (some v0) [(0, 9)] (fun x1 => (gh_LN h x1 (fun x2 => ((x2 ≤ v4 → (Q v3 h)) ∧ (¬ x2 ≤ v4 → (gh_GR h (some v0) [(0, 9)] (fun x3 => (gh_LI h x3 v4 (fun x4 => (gh_RC h v1 7 (fun a5 => (wp_X7_plate κ a5 v2 v4 (fun r6 h7 => ((x4 = r6 → wb_X1_makeready_55 κ K21 Q X v0 (some a5) v2 v4 v3 (0 : Int32) h7) ∧ (¬ x4 = r6 → wb_X1_makeready_55 κ K21 Q X v0 (some a5) v2 v4 v3 (20 : Int32) h7))) X h)))))))))))))
def wl_X1_makeready_21 (κ : Nat → Nat)  (Q : Int32 → gh_H → Prop) (X : String → gh_H → Prop) : Nat → Nat → Option Nat → Int32 → Int32 → Int32 → gh_H → Prop
  | 0 => fun _ _ _ _ _ _ => False
  | n + 1 => fun v0 v1 v2 v3 v4 h => wb_X1_makeready_21 κ (wl_X1_makeready_21 κ Q X n) Q X v0 v1 v2 v3 v4 h
def wb_X1_makeready_17 (κ : Nat → Nat)  (Q : Int32 → gh_H → Prop) (X : String → gh_H → Prop) (v0 : Nat) (v1 : Option Nat) (v2 : Int32) (t0 : Int32) (h : gh_H) : Prop := (∃ n : Nat, wl_X1_makeready_21 κ Q X n v0 v1 v2 t0 (0 : Int32) h)
def wp_X1_makeready (κ : Nat → Nat) (v0 : Nat) (v1 : Option Nat) (v2 : Int32) (Q : Int32 → gh_H → Prop) (X : String → gh_H → Prop) (h : gh_H) : Prop := (gh_GR h (some v0) [(0, 10)] (fun x1 => (gh_GR h v1 [(7, 0)] (fun x2 => ((x1 = x2 → wb_X1_makeready_17 κ Q X v0 v1 v2 (0 : Int32) h) ∧ (¬ x1 = x2 → wb_X1_makeready_17 κ Q X v0 v1 v2 (15 : Int32) h))))))
set_option maxHeartbeats 4000000 in
theorem wk_X1_makeready_55 {D : gh_D} {p : Program} {l : Launch} {e : Env} {s : State} {m : MethodId} {args : Array Value} {below : List Frame} {meth : Method} {c : Code} {h0 : gh_H} (M : gh_M D p l s m args meth c RX1 cX1_makeready 5 (gh_A h0 s.heap.size)) (hr : meth.sig.returnType = (some .int)) (hex : ∀ x ∈ c.exceptionTable.toList, False) {K21 : Nat → Option Nat → Int32 → Int32 → Int32 → gh_H → Prop}  {Q : Int32 → gh_H → Prop} {X : String → gh_H → Prop} (k21 : ∀ (v0 : Nat) (v1 : Option Nat) (v2 : Int32) (v3 : Int32) (v4 : Int32) (H : Heap) (locs : List Loc) (ls : Array Slot) (h : gh_H) (_ : gh_Inv D h0 (gh_A h0 s.heap.size) s.heap s H locs h) (_ : gh_L ls 5 [(0, 1, va_rf (some v0)), (1, 1, va_rf v1), (2, 1, .int v2), (3, 1, .int v3), (4, 1, .int v4)]) (_ : K21 v0 v1 v2 v3 v4 h), W p l e rm_X1_makeready s m args below meth c H locs 0 0 (vx_MQ below (gh_Qi Q D h0 s.heap.size) (gh_X X D h0 s.heap.size) args s 0 0 (gh_A h0 s.heap.size)) (F0 m 21 ls []))  (v0 : Nat) (v1 : Option Nat) (v2 : Int32) (v4 : Int32) (t0 : Int32) (t1 : Int32) (H : Heap) (locs : List Loc) (ls : Array Slot) (h : gh_H) (G : gh_Inv D h0 (gh_A h0 s.heap.size) s.heap s H locs h) (hl : gh_L ls 5 [(0, 1, va_rf (some v0)), (1, 1, va_rf v1), (2, 1, .int v2), (4, 1, .int v4)]) (hw : wb_X1_makeready_55 D.2.2 K21 Q X v0 v1 v2 v4 t0 t1 h) : W p l e rm_X1_makeready s m args below meth c H locs 0 0 (vx_MQ below (gh_Qi Q D h0 s.heap.size) (gh_X X D h0 s.heap.size) args s 0 0 (gh_A h0 s.heap.size)) (F0 m 55 ls [.int t1, .int t0]) := by
  unfold wb_X1_makeready_55 at hw
  have hx := M.1.1
  have hb := M.1.2.1
  refine lv_iadd hx hb dX1_makeready_55 ?_
  refine gh_istore_n (lv' := [(3, 1, .int (t0 + t1)), (0, 1, va_rf (some v0)), (1, 1, va_rf v1), (2, 1, .int v2), (4, 1, .int v4)]) hx hb dX1_makeready_56 rfl hl (by decide) rfl (fun ls hl => ?_)
  refine gh_iinc (k := 4) (v := (v4 + (1 : Int32))) (lv' := [(4, 1, .int (v4 + (1 : Int32))), (3, 1, .int (t0 + t1)), (0, 1, va_rf (some v0)), (1, 1, va_rf v1), (2, 1, .int v2)]) hx hb dX1_makeready_57 hl rfl rfl (by decide) rfl (fun ls hl => ?_)
  refine lv_goto (tgt := 21) hx hb dX1_makeready_60 (by decide) ?_
  exact k21 v0 v1 v2 (t0 + t1) (v4 + (1 : Int32)) _ _ _ _ G (gh_sub hl [2, 3, 4, 1, 0] rfl) hw
set_option maxHeartbeats 4000000 in
theorem wk1_X1_makeready_21 {D : gh_D} {p : Program} {l : Launch} {e : Env} {s : State} {m : MethodId} {args : Array Value} {below : List Frame} {meth : Method} {c : Code} {h0 : gh_H} (M : gh_M D p l s m args meth c RX1 cX1_makeready 5 (gh_A h0 s.heap.size)) (hr : meth.sig.returnType = (some .int)) (hex : ∀ x ∈ c.exceptionTable.toList, False) {K21 : Nat → Option Nat → Int32 → Int32 → Int32 → gh_H → Prop}  {Q : Int32 → gh_H → Prop} {X : String → gh_H → Prop} (k21 : ∀ (v0 : Nat) (v1 : Option Nat) (v2 : Int32) (v3 : Int32) (v4 : Int32) (H : Heap) (locs : List Loc) (ls : Array Slot) (h : gh_H) (_ : gh_Inv D h0 (gh_A h0 s.heap.size) s.heap s H locs h) (_ : gh_L ls 5 [(0, 1, va_rf (some v0)), (1, 1, va_rf v1), (2, 1, .int v2), (3, 1, .int v3), (4, 1, .int v4)]) (_ : K21 v0 v1 v2 v3 v4 h), W p l e rm_X1_makeready s m args below meth c H locs 0 0 (vx_MQ below (gh_Qi Q D h0 s.heap.size) (gh_X X D h0 s.heap.size) args s 0 0 (gh_A h0 s.heap.size)) (F0 m 21 ls []))  (v0 : Nat) (v1 : Option Nat) (v2 : Int32) (v3 : Int32) (v4 : Int32) (H : Heap) (locs : List Loc) (ls : Array Slot) (h : gh_H) (G : gh_Inv D h0 (gh_A h0 s.heap.size) s.heap s H locs h) (hl : gh_L ls 5 [(0, 1, va_rf (some v0)), (1, 1, va_rf v1), (2, 1, .int v2), (3, 1, .int v3), (4, 1, .int v4)]) (hw : wb_X1_makeready_21 D.2.2 K21 Q X v0 v1 v2 v3 v4 h) : W p l e rm_X1_makeready s m args below meth c H locs 0 0 (vx_MQ below (gh_Qi Q D h0 s.heap.size) (gh_X X D h0 s.heap.size) args s 0 0 (gh_A h0 s.heap.size)) (F0 m 21 ls []) := by
  unfold wb_X1_makeready_21 at hw
  have hx := M.1.1
  have hb := M.1.2.1
  refine lv_iload hx hb dX1_makeready_21 (gh_at hl 4 rfl) ?_
  refine gh_aload_n hx hb dX1_makeready_23 rfl (gh_at hl 0 rfl) ?_
  refine gh_getR M G hw fl_X1_57 dX1_makeready_24 (fun x1 hw => ?_)
  refine gh_len M G hw dX1_makeready_27 (fun x2 hw => ?_)
  refine lv_icmp_ge (tgt := 63) hx hb dX1_makeready_28 (by decide) (fun hc => ?_) (fun hc => ?_)
  · replace hw := hw.1 hc
    refine lv_iload_n hx hb dX1_makeready_63 rfl (gh_at hl 3 rfl) ?_
    exact gh_iret M G hr rfl hw (by exact Nat.le_of_ble_eq_true rfl) (by exact Nat.le_of_ble_eq_true rfl) dX1_makeready_64
  · replace hw := hw.2 hc
    refine lv_iload_n hx hb dX1_makeready_31 rfl (gh_at hl 3 rfl) ?_
    refine gh_aload_n hx hb dX1_makeready_32 rfl (gh_at hl 0 rfl) ?_
    refine gh_getR M G hw fl_X1_57 dX1_makeready_33 (fun x3 hw => ?_)
    refine lv_iload hx hb dX1_makeready_36 (gh_at hl 4 rfl) ?_
    refine gh_ial M G hw dX1_makeready_38 (fun x4 hw => ?_)
    refine gh_aload_n hx hb dX1_makeready_39 rfl (gh_at hl 1 rfl) ?_
    refine lv_iload_n hx hb dX1_makeready_40 rfl (gh_at hl 2 rfl) ?_
    refine lv_iload hx hb dX1_makeready_41 (gh_at hl 4 rfl) ?_
    obtain ⟨a5, lba5, fsa5, rfl, haa5, hw⟩ := hw
    refine gh_ki G (vx_runV M.1 (met_X7_plate l D _ _ _ _ _ _ _ hw M.2.2.2.2.2) (cwV 2 (gh_Mts M) (lw_V q881 q882 q883 q71 q884) rfl rfl rfl ⟨rfl, by decide, by decide, rfl⟩ ⟨Nat.le_of_ble_eq_true rfl, Nat.le_of_ble_eq_true rfl⟩) (gh_preV (As := [.int v2, .int v4]) M G (gh_rec M G haa5 rfl)) rfl rfl hl.1.1 rfl (lv_room (Nat.le_of_ble_eq_true rfl)) dX1_makeready_43 ⟨(Nat.le_of_ble_eq_true rfl), (Nat.le_of_ble_eq_true rfl)⟩) (gh_out M hex (by exact Nat.le_of_ble_eq_true rfl) (by exact Nat.le_of_ble_eq_true rfl)) (fun r6 h7 H locs hw G => ?_)
    refine lv_icmp_ne (tgt := 53) hx hb dX1_makeready_46 (by decide) (fun hc => ?_) (fun hc => ?_)
    · replace hw := hw.2 hc
      refine lv_bipush (v := (20 : Int32)) hx hb dX1_makeready_53 (by decide) ?_
      exact wk_X1_makeready_55 M hr hex k21 v0 (some a5) v2 v4 v3 (20 : Int32) _ _ _ _ G (gh_sub hl [0, 1, 2, 4] rfl) hw
    · replace hw := hw.1 hc
      refine lv_iconst (v := (0 : Int32)) hx hb dX1_makeready_49 (by decide) ?_
      refine lv_goto (tgt := 55) hx hb dX1_makeready_50 (by decide) ?_
      exact wk_X1_makeready_55 M hr hex k21 v0 (some a5) v2 v4 v3 (0 : Int32) _ _ _ _ G (gh_sub hl [0, 1, 2, 4] rfl) hw
theorem wk_X1_makeready_21 {D : gh_D} {p : Program} {l : Launch} {e : Env} {s : State} {m : MethodId} {args : Array Value} {below : List Frame} {meth : Method} {c : Code} {h0 : gh_H} (M : gh_M D p l s m args meth c RX1 cX1_makeready 5 (gh_A h0 s.heap.size)) (hr : meth.sig.returnType = (some .int)) (hex : ∀ x ∈ c.exceptionTable.toList, False)   {Q : Int32 → gh_H → Prop} {X : String → gh_H → Prop}   : ∀ (n : Nat) (v0 : Nat) (v1 : Option Nat) (v2 : Int32) (v3 : Int32) (v4 : Int32) (H : Heap) (locs : List Loc) (ls : Array Slot) (h : gh_H) (_ : gh_Inv D h0 (gh_A h0 s.heap.size) s.heap s H locs h) (_ : gh_L ls 5 [(0, 1, va_rf (some v0)), (1, 1, va_rf v1), (2, 1, .int v2), (3, 1, .int v3), (4, 1, .int v4)]) (_ : wl_X1_makeready_21 D.2.2 Q X n v0 v1 v2 v3 v4 h), W p l e rm_X1_makeready s m args below meth c H locs 0 0 (vx_MQ below (gh_Qi Q D h0 s.heap.size) (gh_X X D h0 s.heap.size) args s 0 0 (gh_A h0 s.heap.size)) (F0 m 21 ls []) := by
  intro fu
  induction fu with
  | zero => intro v0 v1 v2 v3 v4 H locs ls h G hl hw; exact False.elim hw
  | succ n1 ih =>
    intro v0 v1 v2 v3 v4 H locs ls h G hl hw
    exact wk1_X1_makeready_21 M hr hex ih  v0 v1 v2 v3 v4 _ _ _ _ G hl hw
set_option maxHeartbeats 4000000 in
theorem wk_X1_makeready_17 {D : gh_D} {p : Program} {l : Launch} {e : Env} {s : State} {m : MethodId} {args : Array Value} {below : List Frame} {meth : Method} {c : Code} {h0 : gh_H} (M : gh_M D p l s m args meth c RX1 cX1_makeready 5 (gh_A h0 s.heap.size)) (hr : meth.sig.returnType = (some .int)) (hex : ∀ x ∈ c.exceptionTable.toList, False)   {Q : Int32 → gh_H → Prop} {X : String → gh_H → Prop}   (v0 : Nat) (v1 : Option Nat) (v2 : Int32) (t0 : Int32) (H : Heap) (locs : List Loc) (ls : Array Slot) (h : gh_H) (G : gh_Inv D h0 (gh_A h0 s.heap.size) s.heap s H locs h) (hl : gh_L ls 5 [(0, 1, va_rf (some v0)), (1, 1, va_rf v1), (2, 1, .int v2)]) (hw : wb_X1_makeready_17 D.2.2 Q X v0 v1 v2 t0 h) : W p l e rm_X1_makeready s m args below meth c H locs 0 0 (vx_MQ below (gh_Qi Q D h0 s.heap.size) (gh_X X D h0 s.heap.size) args s 0 0 (gh_A h0 s.heap.size)) (F0 m 17 ls [.int t0]) := by
  unfold wb_X1_makeready_17 at hw
  have hx := M.1.1
  have hb := M.1.2.1
  refine gh_istore_n (lv' := [(3, 1, .int t0), (0, 1, va_rf (some v0)), (1, 1, va_rf v1), (2, 1, .int v2)]) hx hb dX1_makeready_17 rfl hl (by decide) rfl (fun ls hl => ?_)
  refine lv_iconst (v := (0 : Int32)) hx hb dX1_makeready_18 (by decide) ?_
  refine gh_istore (lv' := [(4, 1, .int (0 : Int32)), (3, 1, .int t0), (0, 1, va_rf (some v0)), (1, 1, va_rf v1), (2, 1, .int v2)]) hx hb dX1_makeready_19 hl (by decide) rfl (fun ls hl => ?_)
  obtain ⟨n, hw⟩ := hw
  exact wk_X1_makeready_21 M hr hex  n v0 v1 v2 t0 (0 : Int32) _ _ _ _ G (gh_sub hl [2, 3, 4, 1, 0] rfl) hw
set_option maxHeartbeats 4000000 in
theorem met_X1_makeready (l : Launch) (D : gh_D) (v0 : Nat) (v1 : Option Nat) (v2 : Int32) (Q : Int32 → gh_H → Prop) (X : String → gh_H → Prop) (h : gh_H) (sz : Nat) (hw : wp_X1_makeready D.2.2 v0 v1 v2 Q X h) (hst : l.stackTraces = false) : vx_Met l yX1_makeready (ws_ yX1_makeready cX1_makeready 5 (some .int)) rm_X1_makeready (gh_Pc D h sz [.ref v0, va_rf v1, .int v2]) (gh_Qi Q D h sz) (gh_X X D h sz) 0 0 (gh_A h sz) := by
  refine vx_ofW (by decide) rfl (fun p e s m args below meth c s₁ B hml hex hP => ?_)
  obtain ⟨rfl, rfl, hK, hT, hE, G⟩ := gh_start hP
  have M : gh_M D p l s m _ meth c RX1 cX1_makeready 5 (gh_A h s.heap.size) := ⟨⟨B.exec, B.bytes, hml, findClass_of_methodNamed B.named, fun w hw => atoms_spec (ws := ws_ yX1_makeready cX1_makeready 5 (some .int)) B.pre w (List.mem_cons_of_mem _ hw)⟩, hK, hT, hE, B.notSynchronized, hst⟩
  have hr := B.returns
  have hx := M.1.1
  have hb := M.1.2.1
  refine gh_enter (vs := [(1, .ref v0), (1, va_rf v1), (1, .int v2)]) (gh_w1 rfl (gh_w1 (gh_cat _) (gh_w1 rfl gh_wn))) (Nat.le_of_ble_eq_true rfl) (fun ls hl => ?_)
  replace hl : gh_L ls 5 [(0, 1, va_rf (some v0)), (1, 1, va_rf v1), (2, 1, .int v2)] := hl
  unfold wp_X1_makeready at hw
  refine gh_aload_n hx hb dX1_makeready_0 rfl (gh_at hl 0 rfl) ?_
  refine gh_getR M G hw fl_X1_170 dX1_makeready_1 (fun x1 hw => ?_)
  refine gh_aload_n hx hb dX1_makeready_4 rfl (gh_at hl 1 rfl) ?_
  refine gh_getR M G hw fl_X1_159 dX1_makeready_5 (fun x2 hw => ?_)
  refine lv_acmp_ne (rx := x1) (ry := x2) (tgt := 15) hx hb dX1_makeready_8 (by decide) (fun hc => ?_) (fun hc => ?_)
  · replace hw := hw.2 hc
    refine lv_bipush (v := (15 : Int32)) hx hb dX1_makeready_15 (by decide) ?_
    exact wk_X1_makeready_17 M hr hex  v0 v1 v2 (15 : Int32) _ _ _ _ G (gh_sub hl [0, 1, 2] rfl) hw
  · replace hw := hw.1 hc
    refine lv_iconst (v := (0 : Int32)) hx hb dX1_makeready_11 (by decide) ?_
    refine lv_goto (tgt := 17) hx hb dX1_makeready_12 (by decide) ?_
    exact wk_X1_makeready_17 M hr hex  v0 v1 v2 (0 : Int32) _ _ _ _ G (gh_sub hl [0, 1, 2] rfl) hw
/-! java/lang/Number.<init> ()V -/
def rm_J24_init : Room := { frames := 2, cells := 0, slots := 0, locals := 80 }
def wp_J24_init (κ : Nat → Nat) (v0 : Nat) (Q : gh_H → Prop) (X : String → gh_H → Prop) (h : gh_H) : Prop := (Q h)
set_option maxHeartbeats 4000000 in
theorem met_J24_init (l : Launch) (D : gh_D) (v0 : Nat) (Q : gh_H → Prop) (X : String → gh_H → Prop) (h : gh_H) (sz : Nat) (hw : wp_J24_init D.2.2 v0 Q X h) (hst : l.stackTraces = false) : vx_Met l yJ24_init (ws_ yJ24_init cJ24_init 1 none) rm_J24_init (gh_Pc D h sz [.ref v0]) (gh_Qv Q D h sz) (gh_X X D h sz) 0 0 (gh_A h sz) := by
  refine vx_ofW (by decide) rfl (fun p e s m args below meth c s₁ B hml hex hP => ?_)
  obtain ⟨rfl, rfl, hK, hT, hE, G⟩ := gh_start hP
  have M : gh_M D p l s m _ meth c RJ24 cJ24_init 1 (gh_A h s.heap.size) := ⟨⟨B.exec, B.bytes, hml, findClass_of_methodNamed B.named, fun w hw => atoms_spec (ws := ws_ yJ24_init cJ24_init 1 none) B.pre w (List.mem_cons_of_mem _ hw)⟩, hK, hT, hE, B.notSynchronized, hst⟩
  have hr := B.returns
  have hname : meth.name = "<init>" := (name_of_methodNamed B.named B.method).1
  have hx := M.1.1
  have hb := M.1.2.1
  refine gh_enter (vs := [(1, .ref v0)]) (gh_w1 rfl gh_wn) (Nat.le_of_ble_eq_true rfl) (fun ls hl => ?_)
  replace hl : gh_L ls 1 [(0, 1, va_rf (some v0))] := hl
  unfold wp_J24_init at hw
  refine gh_aload_n hx hb dJ24_init_0 rfl (gh_at hl 0 rfl) ?_
  refine W.objInit M.1.1 M.1.2.1 M.1.2.2.2.1 (gh_Mts M _ q905) (gh_Mts M _ q91) (gh_Mts M _ q92) rfl (hl.1.1.trans M.1.2.2.1.symm) rfl dJ24_init_1 (Nat.le_of_ble_eq_true rfl) (Nat.le_trans (Nat.add_le_add_right (Nat.add_le_add_left gh_r0 _) _) (Nat.le_of_ble_eq_true rfl)) ?_
  exact gh_vret M G hr hw (by exact Nat.le_of_ble_eq_true rfl) (by exact Nat.le_of_ble_eq_true rfl) dJ24_init_4
/-! java/lang/Integer.<init> (I)V -/
theorem fl_J25_205 : gh_FL RJ25 205 [(15, 0)] := by
  intro args s hts tb q hq
  simp only [List.mem_cons, List.not_mem_nil, or_false] at hq
  subst hq
  exact ⟨_, "java/lang/Integer", rfl, by decide, Or.inl (hts _ q906), (fun x h => h)⟩
theorem fp_J25_205 : gh_FP RJ25 205 [(15, 0)] (.int) true := by
  refine ⟨fl_J25_205, fun q hq => ?_⟩
  simp only [List.mem_cons, List.not_mem_nil, or_false] at hq
  subst hq
  exact ⟨_, rfl, rfl, by decide +kernel, fun _ => rfl⟩
def rm_J25_init : Room := { frames := 3, cells := 0, slots := 0, locals := 100 }
def wp_J25_init (κ : Nat → Nat) (v0 : Nat) (v1 : Int32) (Q : gh_H → Prop) (X : String → gh_H → Prop) (h : gh_H) : Prop := (wp_J24_init κ v0 (fun h1 => (gh_PV h1 (some v0) [(15, 0)] (.int v1) (fun h2 => (Q h2)))) X h)
set_option maxHeartbeats 4000000 in
theorem met_J25_init (l : Launch) (D : gh_D) (v0 : Nat) (v1 : Int32) (Q : gh_H → Prop) (X : String → gh_H → Prop) (h : gh_H) (sz : Nat) (hw : wp_J25_init D.2.2 v0 v1 Q X h) (hst : l.stackTraces = false) : vx_Met l yJ25_init (ws_ yJ25_init cJ25_init 2 none) rm_J25_init (gh_Pc D h sz [.ref v0, .int v1]) (gh_Qv Q D h sz) (gh_X X D h sz) 0 0 (gh_A h sz) := by
  refine vx_ofW (by decide) rfl (fun p e s m args below meth c s₁ B hml hex hP => ?_)
  obtain ⟨rfl, rfl, hK, hT, hE, G⟩ := gh_start hP
  have M : gh_M D p l s m _ meth c RJ25 cJ25_init 2 (gh_A h s.heap.size) := ⟨⟨B.exec, B.bytes, hml, findClass_of_methodNamed B.named, fun w hw => atoms_spec (ws := ws_ yJ25_init cJ25_init 2 none) B.pre w (List.mem_cons_of_mem _ hw)⟩, hK, hT, hE, B.notSynchronized, hst⟩
  have hr := B.returns
  have hname : meth.name = "<init>" := (name_of_methodNamed B.named B.method).1
  have hx := M.1.1
  have hb := M.1.2.1
  refine gh_enter (vs := [(1, .ref v0), (1, .int v1)]) (gh_w1 rfl (gh_w1 rfl gh_wn)) (Nat.le_of_ble_eq_true rfl) (fun ls hl => ?_)
  replace hl : gh_L ls 2 [(0, 1, va_rf (some v0)), (1, 1, .int v1)] := hl
  unfold wp_J25_init at hw
  refine gh_aload_n hx hb dJ25_init_0 rfl (gh_at hl 0 rfl) ?_
  refine gh_kv G (vx_runI M.1 (met_J24_init l D _ _ _ _ _ hw M.2.2.2.2.2) (cwI 0 (gh_Mts M) (lw_meth q904) rfl rfl rfl (gh_Mts M _ q75) (gh_Mts M _ q902) (gh_Mts M _ q903) rfl ⟨by decide, by decide, rfl⟩ ⟨Nat.le_of_ble_eq_true rfl, Nat.le_of_ble_eq_true rfl⟩) (gh_pre M G (As := .ref v0 :: [])) rfl rfl hl.1.1 rfl (lv_room (Nat.le_of_ble_eq_true rfl)) dJ25_init_1 ⟨(Nat.le_of_ble_eq_true rfl), (Nat.le_of_ble_eq_true rfl)⟩) (gh_out M hex (by exact Nat.le_of_ble_eq_true rfl) (by exact Nat.le_of_ble_eq_true rfl)) (fun h1 H locs hw G => ?_)
  refine gh_aload_n hx hb dJ25_init_4 rfl (gh_at hl 0 rfl) ?_
  refine lv_iload_n hx hb dJ25_init_5 rfl (gh_at hl 1 rfl) ?_
  refine gh_putF M G hname hw fp_J25_205 rfl rfl dJ25_init_6 (fun h2 H locs hw G => ?_)
  exact gh_vret M G hr hw (by exact Nat.le_of_ble_eq_true rfl) (by exact Nat.le_of_ble_eq_true rfl) dJ25_init_9
/-! java/lang/Integer.valueOf (I)Ljava/lang/Integer; -/
theorem nd_J25 : ∀ j, j < 1 → defaultValue (tyJ25 j) = vp_V [.int 0] j := by
  intro j hj
  rcases (show j = 0 by omega) with rfl <;> rfl
def rm_J25_valueOf : Room := { frames := 4, cells := 1, slots := 1, locals := 121 }
def wb_J25_valueOf_23 (κ : Nat → Nat)  (Q : Option Nat → gh_H → Prop) (X : String → gh_H → Prop) (v0 : Int32) (h : gh_H) : Prop := (gh_NO h 15 [.int 0] (fun q1 h2 => (wp_J25_init κ q1 v0 (fun h3 => (Q (some q1) h3)) X h2)))
def wp_J25_valueOf (κ : Nat → Nat) (v0 : Int32) (Q : Option Nat → gh_H → Prop) (X : String → gh_H → Prop) (h : gh_H) : Prop := ((v0 < (-128 : Int32) → wb_J25_valueOf_23 κ Q X v0 h) ∧ (¬ v0 < (-128 : Int32) → (((127 : Int32) < v0 → wb_J25_valueOf_23 κ Q X v0 h) ∧ (¬ (127 : Int32) < v0 → (gh_LR h (some (κ 2)) (v0 + (128 : Int32)) (fun x1 => (Q x1 h)))))))
set_option maxHeartbeats 4000000 in
theorem wk_J25_valueOf_23 {D : gh_D} {p : Program} {l : Launch} {e : Env} {s : State} {m : MethodId} {args : Array Value} {below : List Frame} {meth : Method} {c : Code} {h0 : gh_H} (M : gh_M D p l s m args meth c RJ25 cJ25_valueOf 1 (gh_A h0 s.heap.size)) (hr : meth.sig.returnType = (some (.object "java/lang/Integer"))) (hex : ∀ x ∈ c.exceptionTable.toList, False)   {Q : Option Nat → gh_H → Prop} {X : String → gh_H → Prop}   (v0 : Int32) (H : Heap) (locs : List Loc) (ls : Array Slot) (h : gh_H) (G : gh_Inv D h0 (gh_A h0 s.heap.size) s.heap s H locs h) (hl : gh_L ls 1 [(0, 1, .int v0)]) (hw : wb_J25_valueOf_23 D.2.2 Q X v0 h) : W p l e rm_J25_valueOf s m args below meth c H locs 0 0 (vx_MQ below (gh_Qq Q D h0 s.heap.size) (gh_X X D h0 s.heap.size) args s 1 1 (gh_A h0 s.heap.size)) (F0 m 23 ls []) := by
  unfold wb_J25_valueOf_23 at hw
  have hx := M.1.1
  have hb := M.1.2.1
  refine gh_new (N := 1) (r := (RJ25, TJ25, 1)) (ci := 15) (fs := [.int 0]) M G hw tyJ25 tyJ25_ok q897 q898 q76 rfl rfl nd_J25 (Nat.le_of_ble_eq_true rfl) (Nat.le_of_ble_eq_true rfl) dJ25_valueOf_23 (fun q1 h2 H hw G => ?_)
  refine lv_dup hx hb dJ25_valueOf_26 (gh_cat _) ?_
  refine lv_iload_n hx hb dJ25_valueOf_27 rfl (gh_at hl 0 rfl) ?_
  refine gh_kv G (vx_runI M.1 (met_J25_init l D _ _ _ _ _ _ hw M.2.2.2.2.2) (cwI 1 (gh_Mts M) (lw_meth q901) rfl rfl rfl (gh_Mts M _ q76) (gh_Mts M _ q899) (gh_Mts M _ q900) rfl ⟨by decide, by decide, rfl⟩ ⟨Nat.le_of_ble_eq_true rfl, Nat.le_of_ble_eq_true rfl⟩) (gh_pre M G (As := .ref q1 :: [.int v0])) rfl rfl hl.1.1 rfl (lv_room (Nat.le_trans (gh_r1 (gh_cat _) gh_r0) (Nat.le_of_ble_eq_true rfl : 1 ≤ 8))) dJ25_valueOf_28 ⟨(Nat.le_of_ble_eq_true rfl), (Nat.le_of_ble_eq_true rfl)⟩) (gh_out M hex (by exact Nat.le_of_ble_eq_true rfl) (by exact Nat.le_of_ble_eq_true rfl)) (fun h3 H locs hw G => ?_)
  exact gh_aret M G hr (Or.inl ⟨_, rfl⟩) hw (by exact Nat.le_of_ble_eq_true rfl) (by exact Nat.le_of_ble_eq_true rfl) dJ25_valueOf_31
set_option maxHeartbeats 4000000 in
theorem met_J25_valueOf (l : Launch) (D : gh_D) (v0 : Int32) (Q : Option Nat → gh_H → Prop) (X : String → gh_H → Prop) (h : gh_H) (sz : Nat) (hw : wp_J25_valueOf D.2.2 v0 Q X h) (hst : l.stackTraces = false) : vx_Met l yJ25_valueOf (ws_ yJ25_valueOf cJ25_valueOf 1 (some (.object "java/lang/Integer"))) rm_J25_valueOf (gh_Pc D h sz [.int v0]) (gh_Qq Q D h sz) (gh_X X D h sz) 1 1 (gh_A h sz) := by
  refine vx_ofW (by decide) rfl (fun p e s m args below meth c s₁ B hml hex hP => ?_)
  obtain ⟨rfl, rfl, hK, hT, hE, G⟩ := gh_start hP
  have M : gh_M D p l s m _ meth c RJ25 cJ25_valueOf 1 (gh_A h s.heap.size) := ⟨⟨B.exec, B.bytes, hml, findClass_of_methodNamed B.named, fun w hw => atoms_spec (ws := ws_ yJ25_valueOf cJ25_valueOf 1 (some (.object "java/lang/Integer"))) B.pre w (List.mem_cons_of_mem _ hw)⟩, hK, hT, hE, B.notSynchronized, hst⟩
  have hr := B.returns
  have hx := M.1.1
  have hb := M.1.2.1
  refine gh_enter (vs := [(1, .int v0)]) (gh_w1 rfl gh_wn) (Nat.le_of_ble_eq_true rfl) (fun ls hl => ?_)
  replace hl : gh_L ls 1 [(0, 1, .int v0)] := hl
  unfold wp_J25_valueOf at hw
  refine lv_iload_n hx hb dJ25_valueOf_0 rfl (gh_at hl 0 rfl) ?_
  refine lv_bipush (v := (-128 : Int32)) hx hb dJ25_valueOf_1 (by decide) ?_
  refine lv_icmp_lt (tgt := 23) hx hb dJ25_valueOf_3 (by decide) (fun hc => ?_) (fun hc => ?_)
  · replace hw := hw.1 hc
    exact wk_J25_valueOf_23 M hr hex  v0 _ _ _ _ G (gh_sub hl [0] rfl) hw
  · replace hw := hw.2 hc
    refine lv_iload_n hx hb dJ25_valueOf_6 rfl (gh_at hl 0 rfl) ?_
    refine gh_gets (v := .int (127 : Int32)) M G M.2.2.2.1.2.2.1 q893 rfl dJ25_valueOf_7 ?_
    refine lv_icmp_gt (tgt := 23) hx hb dJ25_valueOf_10 (by decide) (fun hc => ?_) (fun hc => ?_)
    · replace hw := hw.1 hc
      exact wk_J25_valueOf_23 M hr hex  v0 _ _ _ _ G (gh_sub hl [0] rfl) hw
    · replace hw := hw.2 hc
      refine gh_gets (v := va_rf (some (D.2.2 2))) M G M.2.2.2.1.2.2.2.1 q895 rfl dJ25_valueOf_13 ?_
      refine lv_iload_n hx hb dJ25_valueOf_16 rfl (gh_at hl 0 rfl) ?_
      refine lv_sipush (v := (128 : Int32)) hx hb dJ25_valueOf_17 (by decide) ?_
      refine lv_iadd hx hb dJ25_valueOf_20 ?_
      refine gh_ral M G hw dJ25_valueOf_21 (fun x1 hw => ?_)
      exact gh_aret M G hr (Or.inl ⟨_, rfl⟩) hw (by exact Nat.le_of_ble_eq_true rfl) (by exact Nat.le_of_ble_eq_true rfl) dJ25_valueOf_22
/-! java/lang/Integer.compare (II)I -/
def rm_J25_compare : Room := { frames := 1, cells := 0, slots := 0, locals := 40 }
def wb_J25_compare_19 (κ : Nat → Nat)  (Q : Int32 → gh_H → Prop) (X : String → gh_H → Prop) (t0 : Int32) (h : gh_H) : Prop := (Q t0 h)
def wp_J25_compare (κ : Nat → Nat) (v0 : Int32) (v1 : Int32) (Q : Int32 → gh_H → Prop) (X : String → gh_H → Prop) (h : gh_H) : Prop := ((v1 ≤ v0 → ((v0 = v1 → wb_J25_compare_19 κ Q X (0 : Int32) h) ∧ (¬ v0 = v1 → wb_J25_compare_19 κ Q X (1 : Int32) h))) ∧ (¬ v1 ≤ v0 → wb_J25_compare_19 κ Q X (-1 : Int32) h))
set_option maxHeartbeats 4000000 in
theorem wk_J25_compare_19 {D : gh_D} {p : Program} {l : Launch} {e : Env} {s : State} {m : MethodId} {args : Array Value} {below : List Frame} {meth : Method} {c : Code} {h0 : gh_H} (M : gh_M D p l s m args meth c RJ25 cJ25_compare 2 (gh_A h0 s.heap.size)) (hr : meth.sig.returnType = (some .int)) (hex : ∀ x ∈ c.exceptionTable.toList, False)   {Q : Int32 → gh_H → Prop} {X : String → gh_H → Prop}   (t0 : Int32) (H : Heap) (locs : List Loc) (ls : Array Slot) (h : gh_H) (G : gh_Inv D h0 (gh_A h0 s.heap.size) s.heap s H locs h) (hl : gh_L ls 2 []) (hw : wb_J25_compare_19 D.2.2 Q X t0 h) : W p l e rm_J25_compare s m args below meth c H locs 0 0 (vx_MQ below (gh_Qi Q D h0 s.heap.size) (gh_X X D h0 s.heap.size) args s 0 0 (gh_A h0 s.heap.size)) (F0 m 19 ls [.int t0]) := by
  unfold wb_J25_compare_19 at hw
  have hx := M.1.1
  have hb := M.1.2.1
  exact gh_iret M G hr rfl hw (by exact Nat.le_of_ble_eq_true rfl) (by exact Nat.le_of_ble_eq_true rfl) dJ25_compare_19
set_option maxHeartbeats 4000000 in
theorem met_J25_compare (l : Launch) (D : gh_D) (v0 : Int32) (v1 : Int32) (Q : Int32 → gh_H → Prop) (X : String → gh_H → Prop) (h : gh_H) (sz : Nat) (hw : wp_J25_compare D.2.2 v0 v1 Q X h) (hst : l.stackTraces = false) : vx_Met l yJ25_compare (ws_ yJ25_compare cJ25_compare 2 (some .int)) rm_J25_compare (gh_Pc D h sz [.int v0, .int v1]) (gh_Qi Q D h sz) (gh_X X D h sz) 0 0 (gh_A h sz) := by
  refine vx_ofW (by decide) rfl (fun p e s m args below meth c s₁ B hml hex hP => ?_)
  obtain ⟨rfl, rfl, hK, hT, hE, G⟩ := gh_start hP
  have M : gh_M D p l s m _ meth c RJ25 cJ25_compare 2 (gh_A h s.heap.size) := ⟨⟨B.exec, B.bytes, hml, findClass_of_methodNamed B.named, fun w hw => atoms_spec (ws := ws_ yJ25_compare cJ25_compare 2 (some .int)) B.pre w (List.mem_cons_of_mem _ hw)⟩, hK, hT, hE, B.notSynchronized, hst⟩
  have hr := B.returns
  have hx := M.1.1
  have hb := M.1.2.1
  refine gh_enter (vs := [(1, .int v0), (1, .int v1)]) (gh_w1 rfl (gh_w1 rfl gh_wn)) (Nat.le_of_ble_eq_true rfl) (fun ls hl => ?_)
  replace hl : gh_L ls 2 [(0, 1, .int v0), (1, 1, .int v1)] := hl
  unfold wp_J25_compare at hw
  refine lv_iload_n hx hb dJ25_compare_0 rfl (gh_at hl 0 rfl) ?_
  refine lv_iload_n hx hb dJ25_compare_1 rfl (gh_at hl 1 rfl) ?_
  refine lv_icmp_ge (tgt := 9) hx hb dJ25_compare_2 (by decide) (fun hc => ?_) (fun hc => ?_)
  · replace hw := hw.1 hc
    refine lv_iload_n hx hb dJ25_compare_9 rfl (gh_at hl 0 rfl) ?_
    refine lv_iload_n hx hb dJ25_compare_10 rfl (gh_at hl 1 rfl) ?_
    refine lv_icmp_ne (tgt := 18) hx hb dJ25_compare_11 (by decide) (fun hc => ?_) (fun hc => ?_)
    · replace hw := hw.2 hc
      refine lv_iconst (v := (1 : Int32)) hx hb dJ25_compare_18 (by decide) ?_
      exact wk_J25_compare_19 M hr hex  (1 : Int32) _ _ _ _ G (gh_sub hl [] rfl) hw
    · replace hw := hw.1 hc
      refine lv_iconst (v := (0 : Int32)) hx hb dJ25_compare_14 (by decide) ?_
      refine lv_goto (tgt := 19) hx hb dJ25_compare_15 (by decide) ?_
      exact wk_J25_compare_19 M hr hex  (0 : Int32) _ _ _ _ G (gh_sub hl [] rfl) hw
  · replace hw := hw.2 hc
    refine lv_iconst (v := (-1 : Int32)) hx hb dJ25_compare_5 (by decide) ?_
    refine lv_goto (tgt := 19) hx hb dJ25_compare_6 (by decide) ?_
    exact wk_J25_compare_19 M hr hex  (-1 : Int32) _ _ _ _ G (gh_sub hl [] rfl) hw
/-! java/lang/Integer.compareTo (Ljava/lang/Integer;)I -/
def rm_J25_compareTo_2 : Room := { frames := 2, cells := 0, slots := 0, locals := 61 }
def wp_J25_compareTo_2 (κ : Nat → Nat) (v0 : Nat) (v1 : Option Nat) (Q : Int32 → gh_H → Prop) (X : String → gh_H → Prop) (h : gh_H) : Prop := (gh_GI h (some v0) [(15, 0)] (fun x1 => (gh_GI h v1 [(15, 0)] (fun x2 => (wp_J25_compare κ x1 x2 (fun r3 h4 => (Q r3 h4)) X h)))))
set_option maxHeartbeats 4000000 in
theorem met_J25_compareTo_2 (l : Launch) (D : gh_D) (v0 : Nat) (v1 : Option Nat) (Q : Int32 → gh_H → Prop) (X : String → gh_H → Prop) (h : gh_H) (sz : Nat) (hw : wp_J25_compareTo_2 D.2.2 v0 v1 Q X h) (hst : l.stackTraces = false) : vx_Met l yJ25_compareTo_2 (ws_ yJ25_compareTo_2 cJ25_compareTo_2 2 (some .int)) rm_J25_compareTo_2 (gh_Pc D h sz [.ref v0, va_rf v1]) (gh_Qi Q D h sz) (gh_X X D h sz) 0 0 (gh_A h sz) := by
  refine vx_ofW (by decide) rfl (fun p e s m args below meth c s₁ B hml hex hP => ?_)
  obtain ⟨rfl, rfl, hK, hT, hE, G⟩ := gh_start hP
  have M : gh_M D p l s m _ meth c RJ25 cJ25_compareTo_2 2 (gh_A h s.heap.size) := ⟨⟨B.exec, B.bytes, hml, findClass_of_methodNamed B.named, fun w hw => atoms_spec (ws := ws_ yJ25_compareTo_2 cJ25_compareTo_2 2 (some .int)) B.pre w (List.mem_cons_of_mem _ hw)⟩, hK, hT, hE, B.notSynchronized, hst⟩
  have hr := B.returns
  have hx := M.1.1
  have hb := M.1.2.1
  refine gh_enter (vs := [(1, .ref v0), (1, va_rf v1)]) (gh_w1 rfl (gh_w1 (gh_cat _) gh_wn)) (Nat.le_of_ble_eq_true rfl) (fun ls hl => ?_)
  replace hl : gh_L ls 2 [(0, 1, va_rf (some v0)), (1, 1, va_rf v1)] := hl
  unfold wp_J25_compareTo_2 at hw
  refine gh_aload_n hx hb dJ25_compareTo_2_0 rfl (gh_at hl 0 rfl) ?_
  refine gh_getI M G hw fl_J25_205 dJ25_compareTo_2_1 (fun x1 hw => ?_)
  refine gh_aload_n hx hb dJ25_compareTo_2_4 rfl (gh_at hl 1 rfl) ?_
  refine gh_getI M G hw fl_J25_205 dJ25_compareTo_2_5 (fun x2 hw => ?_)
  refine gh_ki G (vx_runS M.1 (met_J25_compare l D _ _ _ _ _ _ hw M.2.2.2.2.2) (va_cwS 2 (gh_Mts M) (lw_S q979 q980 q76 q981) rfl rfl rfl ⟨by decide, by decide, rfl⟩ ⟨Nat.le_of_ble_eq_true rfl, Nat.le_of_ble_eq_true rfl⟩) (gh_pre M G (As := [.int x1, .int x2])) rfl rfl hl.1.1 rfl (lv_room (Nat.le_of_ble_eq_true rfl)) dJ25_compareTo_2_8 ⟨(Nat.le_of_ble_eq_true rfl), (Nat.le_of_ble_eq_true rfl)⟩) (gh_out M hex (by exact Nat.le_of_ble_eq_true rfl) (by exact Nat.le_of_ble_eq_true rfl)) (fun r3 h4 H locs hw G => ?_)
  exact gh_iret M G hr rfl hw (by exact Nat.le_of_ble_eq_true rfl) (by exact Nat.le_of_ble_eq_true rfl) dJ25_compareTo_2_11
/-! java/lang/Integer.compareTo (Ljava/lang/Object;)I -/
def rm_J25_compareTo : Room := { frames := 3, cells := 0, slots := 0, locals := 82 }
def wp_J25_compareTo (κ : Nat → Nat) (v0 : Nat) (v1 : Option Nat) (Q : Int32 → gh_H → Prop) (X : String → gh_H → Prop) (h : gh_H) : Prop := (gh_CK h v1 [15] (gh_RC h (some v0) 15 (fun _ => (wp_J25_compareTo_2 κ v0 v1 (fun r2 h3 => (Q r2 h3)) X h))))
set_option maxHeartbeats 4000000 in
theorem met_J25_compareTo (l : Launch) (D : gh_D) (v0 : Nat) (v1 : Option Nat) (Q : Int32 → gh_H → Prop) (X : String → gh_H → Prop) (h : gh_H) (sz : Nat) (hw : wp_J25_compareTo D.2.2 v0 v1 Q X h) (hst : l.stackTraces = false) : vx_Met l yJ25_compareTo (ws_ yJ25_compareTo cJ25_compareTo 2 (some .int)) rm_J25_compareTo (gh_Pc D h sz [.ref v0, va_rf v1]) (gh_Qi Q D h sz) (gh_X X D h sz) 0 0 (gh_A h sz) := by
  refine vx_ofW (by decide) rfl (fun p e s m args below meth c s₁ B hml hex hP => ?_)
  obtain ⟨rfl, rfl, hK, hT, hE, G⟩ := gh_start hP
  have M : gh_M D p l s m _ meth c RJ25 cJ25_compareTo 2 (gh_A h s.heap.size) := ⟨⟨B.exec, B.bytes, hml, findClass_of_methodNamed B.named, fun w hw => atoms_spec (ws := ws_ yJ25_compareTo cJ25_compareTo 2 (some .int)) B.pre w (List.mem_cons_of_mem _ hw)⟩, hK, hT, hE, B.notSynchronized, hst⟩
  have hr := B.returns
  have hx := M.1.1
  have hb := M.1.2.1
  refine gh_enter (vs := [(1, .ref v0), (1, va_rf v1)]) (gh_w1 rfl (gh_w1 (gh_cat _) gh_wn)) (Nat.le_of_ble_eq_true rfl) (fun ls hl => ?_)
  replace hl : gh_L ls 2 [(0, 1, va_rf (some v0)), (1, 1, va_rf v1)] := hl
  unfold wp_J25_compareTo at hw
  refine gh_aload_n hx hb dJ25_compareTo_0 rfl (gh_at hl 0 rfl) ?_
  refine gh_aload_n hx hb dJ25_compareTo_1 rfl (gh_at hl 1 rfl) ?_
  refine gh_cast (cis := [15]) M G hw q897 (List.forall_mem_cons.mpr ⟨⟨_, rfl, Or.inl ⟨rfl, rfl⟩⟩, fun _ h => absurd h List.not_mem_nil⟩) dJ25_compareTo_2 (fun hw => ?_)
  obtain ⟨a1, lba1, fsa1, hra1, haa1, hw⟩ := hw
  rw [← Option.some.inj hra1] at haa1
  refine gh_ki G (vx_runV M.1 (met_J25_compareTo_2 l D _ _ _ _ _ _ hw M.2.2.2.2.2) (cwV 1 (gh_Mts M) (lw_V q975 q976 q977 q76 q978) rfl rfl rfl ⟨rfl, by decide, by decide, rfl⟩ ⟨Nat.le_of_ble_eq_true rfl, Nat.le_of_ble_eq_true rfl⟩) (gh_preV (As := [va_rf v1]) M G (gh_rec M G haa1 rfl)) rfl rfl hl.1.1 rfl (lv_room (Nat.le_of_ble_eq_true rfl)) dJ25_compareTo_5 ⟨(Nat.le_of_ble_eq_true rfl), (Nat.le_of_ble_eq_true rfl)⟩) (gh_out M hex (by exact Nat.le_of_ble_eq_true rfl) (by exact Nat.le_of_ble_eq_true rfl)) (fun r2 h3 H locs hw G => ?_)
  exact gh_iret M G hr rfl hw (by exact Nat.le_of_ble_eq_true rfl) (by exact Nat.le_of_ble_eq_true rfl) dJ25_compareTo_8
/-! java/util/TreeMap.compare (Ljava/lang/Object;Ljava/lang/Object;)I -/
def rm_J6_compare : Room := { frames := 4, cells := 0, slots := 0, locals := 103 }
def wp_J6_compare (κ : Nat → Nat) (v0 : Nat) (v1 : Option Nat) (v2 : Option Nat) (Q : Int32 → gh_H → Prop) (X : String → gh_H → Prop) (h : gh_H) : Prop := (gh_GR h (some v0) [(11, 2)] (fun x1 => ((x1 = none → (gh_CK h v1 [15, 16, 17, 18] (gh_RC h v1 15 (fun a3 => (wp_J25_compareTo κ a3 v2 (fun r4 h5 => (Q r4 h5)) X h))))) ∧ (¬ x1 = none → (gh_GR h (some v0) [(11, 2)] (fun x2 => False))))))
set_option maxHeartbeats 4000000 in
theorem met_J6_compare (l : Launch) (D : gh_D) (v0 : Nat) (v1 : Option Nat) (v2 : Option Nat) (Q : Int32 → gh_H → Prop) (X : String → gh_H → Prop) (h : gh_H) (sz : Nat) (hw : wp_J6_compare D.2.2 v0 v1 v2 Q X h) (hst : l.stackTraces = false) : vx_Met l yJ6_compare (ws_ yJ6_compare cJ6_compare 3 (some .int)) rm_J6_compare (gh_Pc D h sz [.ref v0, va_rf v1, va_rf v2]) (gh_Qi Q D h sz) (gh_X X D h sz) 0 0 (gh_A h sz) := by
  refine vx_ofW (by decide) rfl (fun p e s m args below meth c s₁ B hml hex hP => ?_)
  obtain ⟨rfl, rfl, hK, hT, hE, G⟩ := gh_start hP
  have M : gh_M D p l s m _ meth c RJ6 cJ6_compare 3 (gh_A h s.heap.size) := ⟨⟨B.exec, B.bytes, hml, findClass_of_methodNamed B.named, fun w hw => atoms_spec (ws := ws_ yJ6_compare cJ6_compare 3 (some .int)) B.pre w (List.mem_cons_of_mem _ hw)⟩, hK, hT, hE, B.notSynchronized, hst⟩
  have hr := B.returns
  have hx := M.1.1
  have hb := M.1.2.1
  refine gh_enter (vs := [(1, .ref v0), (1, va_rf v1), (1, va_rf v2)]) (gh_w1 rfl (gh_w1 (gh_cat _) (gh_w1 (gh_cat _) gh_wn))) (Nat.le_of_ble_eq_true rfl) (fun ls hl => ?_)
  replace hl : gh_L ls 3 [(0, 1, va_rf (some v0)), (1, 1, va_rf v1), (2, 1, va_rf v2)] := hl
  unfold wp_J6_compare at hw
  refine gh_aload_n hx hb dJ6_compare_0 rfl (gh_at hl 0 rfl) ?_
  refine gh_getR M G hw fl_J6_16 dJ6_compare_1 (fun x1 hw => ?_)
  refine gh_ifnonnull (tgt := 20) hx hb dJ6_compare_4 (by decide) (fun hc => ?_) (fun hc => ?_)
  · replace hw := hw.2 hc
    refine gh_aload_n hx hb dJ6_compare_20 rfl (gh_at hl 0 rfl) ?_
    refine gh_getR M G hw fl_J6_16 dJ6_compare_21 (fun x2 hw => ?_)
    refine gh_aload_n hx hb dJ6_compare_24 rfl (gh_at hl 1 rfl) ?_
    refine gh_aload_n hx hb dJ6_compare_25 rfl (gh_at hl 2 rfl) ?_
    exact hw.elim
  · replace hw := hw.1 hc
    refine gh_aload_n hx hb dJ6_compare_7 rfl (gh_at hl 1 rfl) ?_
    refine gh_cast (cis := [15, 16, 17, 18]) M G hw q936 (List.forall_mem_cons.mpr ⟨⟨_, rfl, Or.inr (List.mem_of_getElem? (i := 53) rfl)⟩, List.forall_mem_cons.mpr ⟨⟨_, rfl, Or.inr (List.mem_of_getElem? (i := 133) rfl)⟩, List.forall_mem_cons.mpr ⟨⟨_, rfl, Or.inr (List.mem_of_getElem? (i := 138) rfl)⟩, List.forall_mem_cons.mpr ⟨⟨_, rfl, Or.inr (List.mem_of_getElem? (i := 143) rfl)⟩, fun _ h => absurd h List.not_mem_nil⟩⟩⟩⟩) dJ6_compare_8 (fun hw => ?_)
    refine gh_aload_n hx hb dJ6_compare_11 rfl (gh_at hl 2 rfl) ?_
    obtain ⟨a3, lba3, fsa3, rfl, haa3, hw⟩ := hw
    refine gh_kFi G (vx_runF (C := "java/lang/Integer") (M.2.1.1.1 15 _ rfl).2 M.1 (met_J25_compareTo l D _ _ _ _ _ _ hw M.2.2.2.2.2) (va_cwF 1 (gh_Mts M) (gh_gF q938 q970 q972 q76 q974) rfl rfl rfl (M.2.2.1.2.1 _ (List.mem_of_getElem? (i := 14) rfl)) ⟨by decide, by decide, rfl⟩ ⟨Nat.le_of_ble_eq_true rfl, Nat.le_of_ble_eq_true rfl⟩) (gh_preV (As := [va_rf v2]) M G (gh_rec M G haa3 rfl)) rfl rfl hl.1.1 rfl (lv_room (Nat.le_of_ble_eq_true rfl)) dJ6_compare_12 ⟨(Nat.le_of_ble_eq_true rfl), (Nat.le_of_ble_eq_true rfl)⟩) (gh_out M hex (by exact Nat.le_of_ble_eq_true rfl) (by exact Nat.le_of_ble_eq_true rfl)) (fun r4 h5 H locs hw G => ?_)
    refine lv_goto (tgt := 31) hx hb dJ6_compare_17 (by decide) ?_
    exact gh_iret M G hr rfl hw (by exact Nat.le_of_ble_eq_true rfl) (by exact Nat.le_of_ble_eq_true rfl) dJ6_compare_31
/-! java/util/TreeMap$Entry.<init> (Ljava/lang/Object;Ljava/lang/Object;Ljava/util/TreeMap$Entry;)V -/
theorem fl_J26_9 : gh_FL RJ26 9 [(12, 5)] := by
  intro args s hts tb q hq
  simp only [List.mem_cons, List.not_mem_nil, or_false] at hq
  subst hq
  exact ⟨_, "java/util/TreeMap$Entry", rfl, by decide, Or.inl (hts _ q1020), (fun x h => h)⟩
theorem fp_J26_9 : gh_FP RJ26 9 [(12, 5)] (.boolean) false := by
  refine ⟨fl_J26_9, fun q hq => ?_⟩
  simp only [List.mem_cons, List.not_mem_nil, or_false] at hq
  subst hq
  exact ⟨_, rfl, rfl, by decide +kernel, fun h => by cases h⟩
theorem fl_J26_15 : gh_FL RJ26 15 [(12, 0)] := by
  intro args s hts tb q hq
  simp only [List.mem_cons, List.not_mem_nil, or_false] at hq
  subst hq
  exact ⟨_, "java/util/TreeMap$Entry", rfl, by decide, Or.inl (hts _ q1009), (fun x h => h)⟩
theorem fp_J26_15 : gh_FP RJ26 15 [(12, 0)] (.object "java/lang/Object") false := by
  refine ⟨fl_J26_15, fun q hq => ?_⟩
  simp only [List.mem_cons, List.not_mem_nil, or_false] at hq
  subst hq
  exact ⟨_, rfl, rfl, by decide +kernel, fun h => by cases h⟩
theorem fl_J26_19 : gh_FL RJ26 19 [(12, 1)] := by
  intro args s hts tb q hq
  simp only [List.mem_cons, List.not_mem_nil, or_false] at hq
  subst hq
  exact ⟨_, "java/util/TreeMap$Entry", rfl, by decide, Or.inl (hts _ q1012), (fun x h => h)⟩
theorem fp_J26_19 : gh_FP RJ26 19 [(12, 1)] (.object "java/lang/Object") false := by
  refine ⟨fl_J26_19, fun q hq => ?_⟩
  simp only [List.mem_cons, List.not_mem_nil, or_false] at hq
  subst hq
  exact ⟨_, rfl, rfl, by decide +kernel, fun h => by cases h⟩
theorem fl_J26_22 : gh_FL RJ26 22 [(12, 4)] := by
  intro args s hts tb q hq
  simp only [List.mem_cons, List.not_mem_nil, or_false] at hq
  subst hq
  exact ⟨_, "java/util/TreeMap$Entry", rfl, by decide, Or.inl (hts _ q1018), (fun x h => h)⟩
theorem fp_J26_22 : gh_FP RJ26 22 [(12, 4)] (.object "java/util/TreeMap$Entry") false := by
  refine ⟨fl_J26_22, fun q hq => ?_⟩
  simp only [List.mem_cons, List.not_mem_nil, or_false] at hq
  subst hq
  exact ⟨_, rfl, rfl, by decide +kernel, fun h => by cases h⟩
def rm_J26_init : Room := { frames := 2, cells := 0, slots := 0, locals := 80 }
def wp_J26_init (κ : Nat → Nat) (v0 : Nat) (v1 : Option Nat) (v2 : Option Nat) (v3 : Option Nat) (Q : gh_H → Prop) (X : String → gh_H → Prop) (h : gh_H) : Prop := ((narrow .boolean (.int (1 : Int32)) = .int (1 : Int32) ∧ fits .boolean (.int (1 : Int32)) = true) ∧ (gh_PV h (some v0) [(12, 5)] (.int (1 : Int32)) (fun h1 => (gh_PV h1 (some v0) [(12, 0)] (va_rf v1) (fun h2 => (gh_PV h2 (some v0) [(12, 1)] (va_rf v2) (fun h3 => (gh_PV h3 (some v0) [(12, 4)] (va_rf v3) (fun h4 => (Q h4))))))))))
set_option maxHeartbeats 4000000 in
theorem met_J26_init (l : Launch) (D : gh_D) (v0 : Nat) (v1 : Option Nat) (v2 : Option Nat) (v3 : Option Nat) (Q : gh_H → Prop) (X : String → gh_H → Prop) (h : gh_H) (sz : Nat) (hw : wp_J26_init D.2.2 v0 v1 v2 v3 Q X h) (hst : l.stackTraces = false) : vx_Met l yJ26_init (ws_ yJ26_init cJ26_init 4 none) rm_J26_init (gh_Pc D h sz [.ref v0, va_rf v1, va_rf v2, va_rf v3]) (gh_Qv Q D h sz) (gh_X X D h sz) 0 0 (gh_A h sz) := by
  refine vx_ofW (by decide) rfl (fun p e s m args below meth c s₁ B hml hex hP => ?_)
  obtain ⟨rfl, rfl, hK, hT, hE, G⟩ := gh_start hP
  have M : gh_M D p l s m _ meth c RJ26 cJ26_init 4 (gh_A h s.heap.size) := ⟨⟨B.exec, B.bytes, hml, findClass_of_methodNamed B.named, fun w hw => atoms_spec (ws := ws_ yJ26_init cJ26_init 4 none) B.pre w (List.mem_cons_of_mem _ hw)⟩, hK, hT, hE, B.notSynchronized, hst⟩
  have hr := B.returns
  have hname : meth.name = "<init>" := (name_of_methodNamed B.named B.method).1
  have hx := M.1.1
  have hb := M.1.2.1
  refine gh_enter (vs := [(1, .ref v0), (1, va_rf v1), (1, va_rf v2), (1, va_rf v3)]) (gh_w1 rfl (gh_w1 (gh_cat _) (gh_w1 (gh_cat _) (gh_w1 (gh_cat _) gh_wn)))) (Nat.le_of_ble_eq_true rfl) (fun ls hl => ?_)
  replace hl : gh_L ls 4 [(0, 1, va_rf (some v0)), (1, 1, va_rf v1), (2, 1, va_rf v2), (3, 1, va_rf v3)] := hl
  unfold wp_J26_init at hw
  refine gh_aload_n hx hb dJ26_init_0 rfl (gh_at hl 0 rfl) ?_
  refine W.objInit M.1.1 M.1.2.1 M.1.2.2.2.1 (gh_Mts M _ q1008) (gh_Mts M _ q91) (gh_Mts M _ q92) rfl (hl.1.1.trans M.1.2.2.1.symm) rfl dJ26_init_1 (Nat.le_of_ble_eq_true rfl) (Nat.le_trans (Nat.add_le_add_right (Nat.add_le_add_left gh_r0 _) _) (Nat.le_of_ble_eq_true rfl)) ?_
  refine gh_aload_n hx hb dJ26_init_4 rfl (gh_at hl 0 rfl) ?_
  refine lv_iconst (v := (1 : Int32)) hx hb dJ26_init_5 (by decide) ?_
  obtain ⟨hn, hw⟩ := hw
  refine gh_put M G hw fp_J26_9 hn.1 hn.2 dJ26_init_6 (fun h1 H locs hw G => ?_)
  refine gh_aload_n hx hb dJ26_init_9 rfl (gh_at hl 0 rfl) ?_
  refine gh_aload_n hx hb dJ26_init_10 rfl (gh_at hl 1 rfl) ?_
  refine gh_put M G hw fp_J26_15 (gh_narR _ _) (gh_fitR _ _) dJ26_init_11 (fun h2 H locs hw G => ?_)
  refine gh_aload_n hx hb dJ26_init_14 rfl (gh_at hl 0 rfl) ?_
  refine gh_aload_n hx hb dJ26_init_15 rfl (gh_at hl 2 rfl) ?_
  refine gh_put M G hw fp_J26_19 (gh_narR _ _) (gh_fitR _ _) dJ26_init_16 (fun h3 H locs hw G => ?_)
  refine gh_aload_n hx hb dJ26_init_19 rfl (gh_at hl 0 rfl) ?_
  refine gh_aload_n hx hb dJ26_init_20 rfl (gh_at hl 3 rfl) ?_
  refine gh_put M G hw fp_J26_22 (gh_narR _ _) (gh_fitR _ _) dJ26_init_21 (fun h4 H locs hw G => ?_)
  exact gh_vret M G hr hw (by exact Nat.le_of_ble_eq_true rfl) (by exact Nat.le_of_ble_eq_true rfl) dJ26_init_24
/-! java/util/TreeMap.addEntryToEmptyMap (Ljava/lang/Object;Ljava/lang/Object;)V -/
theorem nd_J26 : ∀ j, j < 6 → defaultValue (tyJ26 j) = vp_V [va_rf none, va_rf none, va_rf none, va_rf none, va_rf none, .int 0] j := by
  intro j hj
  rcases (show j = 0 ∨ j = 1 ∨ j = 2 ∨ j = 3 ∨ j = 4 ∨ j = 5 by omega) with rfl | rfl | rfl | rfl | rfl | rfl <;> rfl
theorem fl_J6_101 : gh_FL RJ6 101 [(11, 3)] := by
  intro args s hts tb q hq
  simp only [List.mem_cons, List.not_mem_nil, or_false] at hq
  subst hq
  exact ⟨_, "java/util/TreeMap", rfl, by decide, Or.inl (hts _ q137), (fun x h => h)⟩
theorem fp_J6_101 : gh_FP RJ6 101 [(11, 3)] (.object "java/util/TreeMap$Entry") false := by
  refine ⟨fl_J6_101, fun q hq => ?_⟩
  simp only [List.mem_cons, List.not_mem_nil, or_false] at hq
  subst hq
  exact ⟨_, rfl, rfl, by decide +kernel, fun h => by cases h⟩
def rm_J6_addEntryToEmptyMap : Room := { frames := 5, cells := 1, slots := 6, locals := 125 }
def wp_J6_addEntryToEmptyMap (κ : Nat → Nat) (v0 : Nat) (v1 : Option Nat) (v2 : Option Nat) (Q : gh_H → Prop) (X : String → gh_H → Prop) (h : gh_H) : Prop := (gh_RC h (some v0) 11 (fun _ => (wp_J6_compare κ v0 v1 v1 (fun r2 h3 => (gh_NO h3 12 [va_rf none, va_rf none, va_rf none, va_rf none, va_rf none, .int 0] (fun q4 h5 => (wp_J26_init κ q4 v1 v2 none (fun h6 => (gh_PV h6 (some v0) [(11, 3)] (va_rf (some q4)) (fun h7 => (gh_PV h7 (some v0) [(11, 4)] (.int (1 : Int32)) (fun h8 => (gh_GI h8 (some v0) [(11, 5)] (fun x9 => (gh_PV h8 (some v0) [(11, 5)] (.int (x9 + (1 : Int32))) (fun h10 => (Q h10)))))))))) X h5)))) X h)))
set_option maxHeartbeats 4000000 in
theorem met_J6_addEntryToEmptyMap (l : Launch) (D : gh_D) (v0 : Nat) (v1 : Option Nat) (v2 : Option Nat) (Q : gh_H → Prop) (X : String → gh_H → Prop) (h : gh_H) (sz : Nat) (hw : wp_J6_addEntryToEmptyMap D.2.2 v0 v1 v2 Q X h) (hst : l.stackTraces = false) : vx_Met l yJ6_addEntryToEmptyMap (ws_ yJ6_addEntryToEmptyMap cJ6_addEntryToEmptyMap 3 none) rm_J6_addEntryToEmptyMap (gh_Pc D h sz [.ref v0, va_rf v1, va_rf v2]) (gh_Qv Q D h sz) (gh_X X D h sz) 1 6 (gh_A h sz) := by
  refine vx_ofW (by decide) rfl (fun p e s m args below meth c s₁ B hml hex hP => ?_)
  obtain ⟨rfl, rfl, hK, hT, hE, G⟩ := gh_start hP
  have M : gh_M D p l s m _ meth c RJ6 cJ6_addEntryToEmptyMap 3 (gh_A h s.heap.size) := ⟨⟨B.exec, B.bytes, hml, findClass_of_methodNamed B.named, fun w hw => atoms_spec (ws := ws_ yJ6_addEntryToEmptyMap cJ6_addEntryToEmptyMap 3 none) B.pre w (List.mem_cons_of_mem _ hw)⟩, hK, hT, hE, B.notSynchronized, hst⟩
  have hr := B.returns
  have hx := M.1.1
  have hb := M.1.2.1
  refine gh_enter (vs := [(1, .ref v0), (1, va_rf v1), (1, va_rf v2)]) (gh_w1 rfl (gh_w1 (gh_cat _) (gh_w1 (gh_cat _) gh_wn))) (Nat.le_of_ble_eq_true rfl) (fun ls hl => ?_)
  replace hl : gh_L ls 3 [(0, 1, va_rf (some v0)), (1, 1, va_rf v1), (2, 1, va_rf v2)] := hl
  unfold wp_J6_addEntryToEmptyMap at hw
  refine gh_aload_n hx hb dJ6_addEntryToEmptyMap_0 rfl (gh_at hl 0 rfl) ?_
  refine gh_aload_n hx hb dJ6_addEntryToEmptyMap_1 rfl (gh_at hl 1 rfl) ?_
  refine gh_aload_n hx hb dJ6_addEntryToEmptyMap_2 rfl (gh_at hl 1 rfl) ?_
  obtain ⟨a1, lba1, fsa1, hra1, haa1, hw⟩ := hw
  rw [← Option.some.inj hra1] at haa1
  refine gh_ki G (vx_runV M.1 (met_J6_compare l D _ _ _ _ _ _ _ hw M.2.2.2.2.2) (cwV 2 (gh_Mts M) (lw_V q932 q933 q934 q48 q935) rfl rfl rfl ⟨rfl, by decide, by decide, rfl⟩ ⟨Nat.le_of_ble_eq_true rfl, Nat.le_of_ble_eq_true rfl⟩) (gh_preV (As := [va_rf v1, va_rf v1]) M G (gh_rec M G haa1 rfl)) rfl rfl hl.1.1 rfl (lv_room (Nat.le_of_ble_eq_true rfl)) dJ6_addEntryToEmptyMap_3 ⟨(Nat.le_of_ble_eq_true rfl), (Nat.le_of_ble_eq_true rfl)⟩) (gh_out M hex (by exact Nat.le_of_ble_eq_true rfl) (by exact Nat.le_of_ble_eq_true rfl)) (fun r2 h3 H locs hw G => ?_)
  refine lv_pop hx hb dJ6_addEntryToEmptyMap_6 rfl ?_
  refine gh_aload_n hx hb dJ6_addEntryToEmptyMap_7 rfl (gh_at hl 0 rfl) ?_
  refine gh_new (N := 6) (r := (RJ26, TJ26, 6)) (ci := 12) (fs := [va_rf none, va_rf none, va_rf none, va_rf none, va_rf none, .int 0]) M G hw tyJ26 tyJ26_ok q1003 q1004 q78 rfl rfl nd_J26 (Nat.le_of_ble_eq_true rfl) (Nat.le_of_ble_eq_true rfl) dJ6_addEntryToEmptyMap_8 (fun q4 h5 H hw G => ?_)
  refine lv_dup hx hb dJ6_addEntryToEmptyMap_11 (gh_cat _) ?_
  refine gh_aload_n hx hb dJ6_addEntryToEmptyMap_12 rfl (gh_at hl 1 rfl) ?_
  refine gh_aload_n hx hb dJ6_addEntryToEmptyMap_13 rfl (gh_at hl 2 rfl) ?_
  refine gh_null hx hb dJ6_addEntryToEmptyMap_14 ?_
  refine gh_kv G (vx_runI M.1 (met_J26_init l D _ _ _ _ _ _ _ _ hw M.2.2.2.2.2) (cwI 3 (gh_Mts M) (lw_meth q1007) rfl rfl rfl (gh_Mts M _ q78) (gh_Mts M _ q1005) (gh_Mts M _ q1006) rfl ⟨by decide, by decide, rfl⟩ ⟨Nat.le_of_ble_eq_true rfl, Nat.le_of_ble_eq_true rfl⟩) (gh_pre M G (As := .ref q4 :: [va_rf v1, va_rf v2, va_rf none])) rfl rfl hl.1.1 rfl (lv_room (Nat.le_trans (gh_r1 (gh_cat _) (gh_r1 (gh_cat _) gh_r0)) (Nat.le_of_ble_eq_true rfl : 2 ≤ 8))) dJ6_addEntryToEmptyMap_15 ⟨(Nat.le_of_ble_eq_true rfl), (Nat.le_of_ble_eq_true rfl)⟩) (gh_out M hex (by exact Nat.le_of_ble_eq_true rfl) (by exact Nat.le_of_ble_eq_true rfl)) (fun h6 H locs hw G => ?_)
  refine gh_put M G hw fp_J6_101 (gh_narR _ _) (gh_fitR _ _) dJ6_addEntryToEmptyMap_18 (fun h7 H locs hw G => ?_)
  refine gh_aload_n hx hb dJ6_addEntryToEmptyMap_21 rfl (gh_at hl 0 rfl) ?_
  refine lv_iconst (v := (1 : Int32)) hx hb dJ6_addEntryToEmptyMap_22 (by decide) ?_
  refine gh_put M G hw fp_J6_7 rfl rfl dJ6_addEntryToEmptyMap_23 (fun h8 H locs hw G => ?_)
  refine gh_aload_n hx hb dJ6_addEntryToEmptyMap_26 rfl (gh_at hl 0 rfl) ?_
  refine lv_dup hx hb dJ6_addEntryToEmptyMap_27 (gh_cat _) ?_
  refine gh_getI M G hw fl_J6_13 dJ6_addEntryToEmptyMap_28 (fun x9 hw => ?_)
  refine lv_iconst (v := (1 : Int32)) hx hb dJ6_addEntryToEmptyMap_31 (by decide) ?_
  refine lv_iadd hx hb dJ6_addEntryToEmptyMap_32 ?_
  refine gh_put M G hw fp_J6_13 rfl rfl dJ6_addEntryToEmptyMap_33 (fun h10 H locs hw G => ?_)
  exact gh_vret M G hr hw (by exact Nat.le_of_ble_eq_true rfl) (by exact Nat.le_of_ble_eq_true rfl) dJ6_addEntryToEmptyMap_36
/-! java/util/Objects.requireNonNull (Ljava/lang/Object;)Ljava/lang/Object; -/
def rm_J17_requireNonNull : Room := { frames := 1, cells := 0, slots := 0, locals := 40 }
def wp_J17_requireNonNull (κ : Nat → Nat) (v0 : Option Nat) (Q : Option Nat → gh_H → Prop) (X : String → gh_H → Prop) (h : gh_H) : Prop := ((v0 = none → False) ∧ (¬ v0 = none → (Q v0 h)))
set_option maxHeartbeats 4000000 in
theorem met_J17_requireNonNull (l : Launch) (D : gh_D) (v0 : Option Nat) (Q : Option Nat → gh_H → Prop) (X : String → gh_H → Prop) (h : gh_H) (sz : Nat) (hw : wp_J17_requireNonNull D.2.2 v0 Q X h) (hst : l.stackTraces = false) : vx_Met l yJ17_requireNonNull (ws_ yJ17_requireNonNull cJ17_requireNonNull 1 (some (.object "java/lang/Object"))) rm_J17_requireNonNull (gh_Pc D h sz [va_rf v0]) (gh_Qq Q D h sz) (gh_X X D h sz) 0 0 (gh_A h sz) := by
  refine vx_ofW (by decide) rfl (fun p e s m args below meth c s₁ B hml hex hP => ?_)
  obtain ⟨rfl, rfl, hK, hT, hE, G⟩ := gh_start hP
  have M : gh_M D p l s m _ meth c RJ17 cJ17_requireNonNull 1 (gh_A h s.heap.size) := ⟨⟨B.exec, B.bytes, hml, findClass_of_methodNamed B.named, fun w hw => atoms_spec (ws := ws_ yJ17_requireNonNull cJ17_requireNonNull 1 (some (.object "java/lang/Object"))) B.pre w (List.mem_cons_of_mem _ hw)⟩, hK, hT, hE, B.notSynchronized, hst⟩
  have hr := B.returns
  have hx := M.1.1
  have hb := M.1.2.1
  refine gh_enter (vs := [(1, va_rf v0)]) (gh_w1 (gh_cat _) gh_wn) (Nat.le_of_ble_eq_true rfl) (fun ls hl => ?_)
  replace hl : gh_L ls 1 [(0, 1, va_rf v0)] := hl
  unfold wp_J17_requireNonNull at hw
  refine gh_aload_n hx hb dJ17_requireNonNull_0 rfl (gh_at hl 0 rfl) ?_
  refine gh_ifnonnull (tgt := 12) hx hb dJ17_requireNonNull_1 (by decide) (fun hc => ?_) (fun hc => ?_)
  · replace hw := hw.2 hc
    refine gh_aload_n hx hb dJ17_requireNonNull_12 rfl (gh_at hl 0 rfl) ?_
    exact gh_aret M G hr (Or.inl ⟨_, rfl⟩) hw (by exact Nat.le_of_ble_eq_true rfl) (by exact Nat.le_of_ble_eq_true rfl) dJ17_requireNonNull_13
  · replace hw := hw.1 hc
    exact hw.elim
/-! java/util/TreeMap.parentOf (Ljava/util/TreeMap$Entry;)Ljava/util/TreeMap$Entry; -/
theorem fl_J6_124 : gh_FL RJ6 124 [(12, 4)] := by
  intro args s hts tb q hq
  simp only [List.mem_cons, List.not_mem_nil, or_false] at hq
  subst hq
  exact ⟨_, "java/util/TreeMap$Entry", rfl, by decide, Or.inl (hts _ q1019), (fun x h => h)⟩
def rm_J6_parentOf : Room := { frames := 1, cells := 0, slots := 0, locals := 40 }
def wb_J6_parentOf_12 (κ : Nat → Nat)  (Q : Option Nat → gh_H → Prop) (X : String → gh_H → Prop) (t0 : Option Nat) (h : gh_H) : Prop := (Q t0 h)
def wp_J6_parentOf (κ : Nat → Nat) (v0 : Option Nat) (Q : Option Nat → gh_H → Prop) (X : String → gh_H → Prop) (h : gh_H) : Prop := ((v0 = none → wb_J6_parentOf_12 κ Q X none h) ∧ (¬ v0 = none → (gh_GR h v0 [(12, 4)] (fun x1 => wb_J6_parentOf_12 κ Q X x1 h))))
set_option maxHeartbeats 4000000 in
theorem wk_J6_parentOf_12 {D : gh_D} {p : Program} {l : Launch} {e : Env} {s : State} {m : MethodId} {args : Array Value} {below : List Frame} {meth : Method} {c : Code} {h0 : gh_H} (M : gh_M D p l s m args meth c RJ6 cJ6_parentOf 1 (gh_A h0 s.heap.size)) (hr : meth.sig.returnType = (some (.object "java/util/TreeMap$Entry"))) (hex : ∀ x ∈ c.exceptionTable.toList, False)   {Q : Option Nat → gh_H → Prop} {X : String → gh_H → Prop}   (t0 : Option Nat) (H : Heap) (locs : List Loc) (ls : Array Slot) (h : gh_H) (G : gh_Inv D h0 (gh_A h0 s.heap.size) s.heap s H locs h) (hl : gh_L ls 1 []) (hw : wb_J6_parentOf_12 D.2.2 Q X t0 h) : W p l e rm_J6_parentOf s m args below meth c H locs 0 0 (vx_MQ below (gh_Qq Q D h0 s.heap.size) (gh_X X D h0 s.heap.size) args s 0 0 (gh_A h0 s.heap.size)) (F0 m 12 ls [va_rf t0]) := by
  unfold wb_J6_parentOf_12 at hw
  have hx := M.1.1
  have hb := M.1.2.1
  exact gh_aret M G hr (Or.inl ⟨_, rfl⟩) hw (by exact Nat.le_of_ble_eq_true rfl) (by exact Nat.le_of_ble_eq_true rfl) dJ6_parentOf_12
set_option maxHeartbeats 4000000 in
theorem met_J6_parentOf (l : Launch) (D : gh_D) (v0 : Option Nat) (Q : Option Nat → gh_H → Prop) (X : String → gh_H → Prop) (h : gh_H) (sz : Nat) (hw : wp_J6_parentOf D.2.2 v0 Q X h) (hst : l.stackTraces = false) : vx_Met l yJ6_parentOf (ws_ yJ6_parentOf cJ6_parentOf 1 (some (.object "java/util/TreeMap$Entry"))) rm_J6_parentOf (gh_Pc D h sz [va_rf v0]) (gh_Qq Q D h sz) (gh_X X D h sz) 0 0 (gh_A h sz) := by
  refine vx_ofW (by decide) rfl (fun p e s m args below meth c s₁ B hml hex hP => ?_)
  obtain ⟨rfl, rfl, hK, hT, hE, G⟩ := gh_start hP
  have M : gh_M D p l s m _ meth c RJ6 cJ6_parentOf 1 (gh_A h s.heap.size) := ⟨⟨B.exec, B.bytes, hml, findClass_of_methodNamed B.named, fun w hw => atoms_spec (ws := ws_ yJ6_parentOf cJ6_parentOf 1 (some (.object "java/util/TreeMap$Entry"))) B.pre w (List.mem_cons_of_mem _ hw)⟩, hK, hT, hE, B.notSynchronized, hst⟩
  have hr := B.returns
  have hx := M.1.1
  have hb := M.1.2.1
  refine gh_enter (vs := [(1, va_rf v0)]) (gh_w1 (gh_cat _) gh_wn) (Nat.le_of_ble_eq_true rfl) (fun ls hl => ?_)
  replace hl : gh_L ls 1 [(0, 1, va_rf v0)] := hl
  unfold wp_J6_parentOf at hw
  refine gh_aload_n hx hb dJ6_parentOf_0 rfl (gh_at hl 0 rfl) ?_
  refine gh_ifnonnull (tgt := 8) hx hb dJ6_parentOf_1 (by decide) (fun hc => ?_) (fun hc => ?_)
  · replace hw := hw.2 hc
    refine gh_aload_n hx hb dJ6_parentOf_8 rfl (gh_at hl 0 rfl) ?_
    refine gh_getR M G hw fl_J6_124 dJ6_parentOf_9 (fun x1 hw => ?_)
    exact wk_J6_parentOf_12 M hr hex  x1 _ _ _ _ G (gh_sub hl [] rfl) hw
  · replace hw := hw.1 hc
    refine gh_null hx hb dJ6_parentOf_4 ?_
    refine lv_goto (tgt := 12) hx hb dJ6_parentOf_5 (by decide) ?_
    exact wk_J6_parentOf_12 M hr hex  none _ _ _ _ G (gh_sub hl [] rfl) hw
/-! java/util/TreeMap.leftOf (Ljava/util/TreeMap$Entry;)Ljava/util/TreeMap$Entry; -/
theorem fl_J6_111 : gh_FL RJ6 111 [(12, 2)] := by
  intro args s hts tb q hq
  simp only [List.mem_cons, List.not_mem_nil, or_false] at hq
  subst hq
  exact ⟨_, "java/util/TreeMap$Entry", rfl, by decide, Or.inl (hts _ q1015), (fun x h => h)⟩
def rm_J6_leftOf : Room := { frames := 1, cells := 0, slots := 0, locals := 40 }
def wb_J6_leftOf_12 (κ : Nat → Nat)  (Q : Option Nat → gh_H → Prop) (X : String → gh_H → Prop) (t0 : Option Nat) (h : gh_H) : Prop := (Q t0 h)
def wp_J6_leftOf (κ : Nat → Nat) (v0 : Option Nat) (Q : Option Nat → gh_H → Prop) (X : String → gh_H → Prop) (h : gh_H) : Prop := ((v0 = none → wb_J6_leftOf_12 κ Q X none h) ∧ (¬ v0 = none → (gh_GR h v0 [(12, 2)] (fun x1 => wb_J6_leftOf_12 κ Q X x1 h))))
set_option maxHeartbeats 4000000 in
theorem wk_J6_leftOf_12 {D : gh_D} {p : Program} {l : Launch} {e : Env} {s : State} {m : MethodId} {args : Array Value} {below : List Frame} {meth : Method} {c : Code} {h0 : gh_H} (M : gh_M D p l s m args meth c RJ6 cJ6_leftOf 1 (gh_A h0 s.heap.size)) (hr : meth.sig.returnType = (some (.object "java/util/TreeMap$Entry"))) (hex : ∀ x ∈ c.exceptionTable.toList, False)   {Q : Option Nat → gh_H → Prop} {X : String → gh_H → Prop}   (t0 : Option Nat) (H : Heap) (locs : List Loc) (ls : Array Slot) (h : gh_H) (G : gh_Inv D h0 (gh_A h0 s.heap.size) s.heap s H locs h) (hl : gh_L ls 1 []) (hw : wb_J6_leftOf_12 D.2.2 Q X t0 h) : W p l e rm_J6_leftOf s m args below meth c H locs 0 0 (vx_MQ below (gh_Qq Q D h0 s.heap.size) (gh_X X D h0 s.heap.size) args s 0 0 (gh_A h0 s.heap.size)) (F0 m 12 ls [va_rf t0]) := by
  unfold wb_J6_leftOf_12 at hw
  have hx := M.1.1
  have hb := M.1.2.1
  exact gh_aret M G hr (Or.inl ⟨_, rfl⟩) hw (by exact Nat.le_of_ble_eq_true rfl) (by exact Nat.le_of_ble_eq_true rfl) dJ6_leftOf_12
set_option maxHeartbeats 4000000 in
theorem met_J6_leftOf (l : Launch) (D : gh_D) (v0 : Option Nat) (Q : Option Nat → gh_H → Prop) (X : String → gh_H → Prop) (h : gh_H) (sz : Nat) (hw : wp_J6_leftOf D.2.2 v0 Q X h) (hst : l.stackTraces = false) : vx_Met l yJ6_leftOf (ws_ yJ6_leftOf cJ6_leftOf 1 (some (.object "java/util/TreeMap$Entry"))) rm_J6_leftOf (gh_Pc D h sz [va_rf v0]) (gh_Qq Q D h sz) (gh_X X D h sz) 0 0 (gh_A h sz) := by
  refine vx_ofW (by decide) rfl (fun p e s m args below meth c s₁ B hml hex hP => ?_)
  obtain ⟨rfl, rfl, hK, hT, hE, G⟩ := gh_start hP
  have M : gh_M D p l s m _ meth c RJ6 cJ6_leftOf 1 (gh_A h s.heap.size) := ⟨⟨B.exec, B.bytes, hml, findClass_of_methodNamed B.named, fun w hw => atoms_spec (ws := ws_ yJ6_leftOf cJ6_leftOf 1 (some (.object "java/util/TreeMap$Entry"))) B.pre w (List.mem_cons_of_mem _ hw)⟩, hK, hT, hE, B.notSynchronized, hst⟩
  have hr := B.returns
  have hx := M.1.1
  have hb := M.1.2.1
  refine gh_enter (vs := [(1, va_rf v0)]) (gh_w1 (gh_cat _) gh_wn) (Nat.le_of_ble_eq_true rfl) (fun ls hl => ?_)
  replace hl : gh_L ls 1 [(0, 1, va_rf v0)] := hl
  unfold wp_J6_leftOf at hw
  refine gh_aload_n hx hb dJ6_leftOf_0 rfl (gh_at hl 0 rfl) ?_
  refine gh_ifnonnull (tgt := 8) hx hb dJ6_leftOf_1 (by decide) (fun hc => ?_) (fun hc => ?_)
  · replace hw := hw.2 hc
    refine gh_aload_n hx hb dJ6_leftOf_8 rfl (gh_at hl 0 rfl) ?_
    refine gh_getR M G hw fl_J6_111 dJ6_leftOf_9 (fun x1 hw => ?_)
    exact wk_J6_leftOf_12 M hr hex  x1 _ _ _ _ G (gh_sub hl [] rfl) hw
  · replace hw := hw.1 hc
    refine gh_null hx hb dJ6_leftOf_4 ?_
    refine lv_goto (tgt := 12) hx hb dJ6_leftOf_5 (by decide) ?_
    exact wk_J6_leftOf_12 M hr hex  none _ _ _ _ G (gh_sub hl [] rfl) hw
/-! java/util/TreeMap.rightOf (Ljava/util/TreeMap$Entry;)Ljava/util/TreeMap$Entry; -/
theorem fl_J6_114 : gh_FL RJ6 114 [(12, 3)] := by
  intro args s hts tb q hq
  simp only [List.mem_cons, List.not_mem_nil, or_false] at hq
  subst hq
  exact ⟨_, "java/util/TreeMap$Entry", rfl, by decide, Or.inl (hts _ q1017), (fun x h => h)⟩
def rm_J6_rightOf : Room := { frames := 1, cells := 0, slots := 0, locals := 40 }
def wb_J6_rightOf_12 (κ : Nat → Nat)  (Q : Option Nat → gh_H → Prop) (X : String → gh_H → Prop) (t0 : Option Nat) (h : gh_H) : Prop := (Q t0 h)
def wp_J6_rightOf (κ : Nat → Nat) (v0 : Option Nat) (Q : Option Nat → gh_H → Prop) (X : String → gh_H → Prop) (h : gh_H) : Prop := ((v0 = none → wb_J6_rightOf_12 κ Q X none h) ∧ (¬ v0 = none → (gh_GR h v0 [(12, 3)] (fun x1 => wb_J6_rightOf_12 κ Q X x1 h))))
set_option maxHeartbeats 4000000 in
theorem wk_J6_rightOf_12 {D : gh_D} {p : Program} {l : Launch} {e : Env} {s : State} {m : MethodId} {args : Array Value} {below : List Frame} {meth : Method} {c : Code} {h0 : gh_H} (M : gh_M D p l s m args meth c RJ6 cJ6_rightOf 1 (gh_A h0 s.heap.size)) (hr : meth.sig.returnType = (some (.object "java/util/TreeMap$Entry"))) (hex : ∀ x ∈ c.exceptionTable.toList, False)   {Q : Option Nat → gh_H → Prop} {X : String → gh_H → Prop}   (t0 : Option Nat) (H : Heap) (locs : List Loc) (ls : Array Slot) (h : gh_H) (G : gh_Inv D h0 (gh_A h0 s.heap.size) s.heap s H locs h) (hl : gh_L ls 1 []) (hw : wb_J6_rightOf_12 D.2.2 Q X t0 h) : W p l e rm_J6_rightOf s m args below meth c H locs 0 0 (vx_MQ below (gh_Qq Q D h0 s.heap.size) (gh_X X D h0 s.heap.size) args s 0 0 (gh_A h0 s.heap.size)) (F0 m 12 ls [va_rf t0]) := by
  unfold wb_J6_rightOf_12 at hw
  have hx := M.1.1
  have hb := M.1.2.1
  exact gh_aret M G hr (Or.inl ⟨_, rfl⟩) hw (by exact Nat.le_of_ble_eq_true rfl) (by exact Nat.le_of_ble_eq_true rfl) dJ6_rightOf_12
set_option maxHeartbeats 4000000 in
theorem met_J6_rightOf (l : Launch) (D : gh_D) (v0 : Option Nat) (Q : Option Nat → gh_H → Prop) (X : String → gh_H → Prop) (h : gh_H) (sz : Nat) (hw : wp_J6_rightOf D.2.2 v0 Q X h) (hst : l.stackTraces = false) : vx_Met l yJ6_rightOf (ws_ yJ6_rightOf cJ6_rightOf 1 (some (.object "java/util/TreeMap$Entry"))) rm_J6_rightOf (gh_Pc D h sz [va_rf v0]) (gh_Qq Q D h sz) (gh_X X D h sz) 0 0 (gh_A h sz) := by
  refine vx_ofW (by decide) rfl (fun p e s m args below meth c s₁ B hml hex hP => ?_)
  obtain ⟨rfl, rfl, hK, hT, hE, G⟩ := gh_start hP
  have M : gh_M D p l s m _ meth c RJ6 cJ6_rightOf 1 (gh_A h s.heap.size) := ⟨⟨B.exec, B.bytes, hml, findClass_of_methodNamed B.named, fun w hw => atoms_spec (ws := ws_ yJ6_rightOf cJ6_rightOf 1 (some (.object "java/util/TreeMap$Entry"))) B.pre w (List.mem_cons_of_mem _ hw)⟩, hK, hT, hE, B.notSynchronized, hst⟩
  have hr := B.returns
  have hx := M.1.1
  have hb := M.1.2.1
  refine gh_enter (vs := [(1, va_rf v0)]) (gh_w1 (gh_cat _) gh_wn) (Nat.le_of_ble_eq_true rfl) (fun ls hl => ?_)
  replace hl : gh_L ls 1 [(0, 1, va_rf v0)] := hl
  unfold wp_J6_rightOf at hw
  refine gh_aload_n hx hb dJ6_rightOf_0 rfl (gh_at hl 0 rfl) ?_
  refine gh_ifnonnull (tgt := 8) hx hb dJ6_rightOf_1 (by decide) (fun hc => ?_) (fun hc => ?_)
  · replace hw := hw.2 hc
    refine gh_aload_n hx hb dJ6_rightOf_8 rfl (gh_at hl 0 rfl) ?_
    refine gh_getR M G hw fl_J6_114 dJ6_rightOf_9 (fun x1 hw => ?_)
    exact wk_J6_rightOf_12 M hr hex  x1 _ _ _ _ G (gh_sub hl [] rfl) hw
  · replace hw := hw.1 hc
    refine gh_null hx hb dJ6_rightOf_4 ?_
    refine lv_goto (tgt := 12) hx hb dJ6_rightOf_5 (by decide) ?_
    exact wk_J6_rightOf_12 M hr hex  none _ _ _ _ G (gh_sub hl [] rfl) hw
/-! java/util/TreeMap.colorOf (Ljava/util/TreeMap$Entry;)Z -/
theorem fl_J6_290 : gh_FL RJ6 290 [(12, 5)] := by
  intro args s hts tb q hq
  simp only [List.mem_cons, List.not_mem_nil, or_false] at hq
  subst hq
  exact ⟨_, "java/util/TreeMap$Entry", rfl, by decide, Or.inl (hts _ q1021), (fun x h => h)⟩
def rm_J6_colorOf : Room := { frames := 1, cells := 0, slots := 0, locals := 40 }
def wb_J6_colorOf_12 (κ : Nat → Nat)  (Q : Int32 → gh_H → Prop) (X : String → gh_H → Prop) (t0 : Int32) (h : gh_H) : Prop := (narrow .boolean (.int t0) = .int t0 ∧ Q t0 h)
def wp_J6_colorOf (κ : Nat → Nat) (v0 : Option Nat) (Q : Int32 → gh_H → Prop) (X : String → gh_H → Prop) (h : gh_H) : Prop := ((v0 = none → wb_J6_colorOf_12 κ Q X (1 : Int32) h) ∧ (¬ v0 = none → (gh_GI h v0 [(12, 5)] (fun x1 => wb_J6_colorOf_12 κ Q X x1 h))))
set_option maxHeartbeats 4000000 in
theorem wk_J6_colorOf_12 {D : gh_D} {p : Program} {l : Launch} {e : Env} {s : State} {m : MethodId} {args : Array Value} {below : List Frame} {meth : Method} {c : Code} {h0 : gh_H} (M : gh_M D p l s m args meth c RJ6 cJ6_colorOf 1 (gh_A h0 s.heap.size)) (hr : meth.sig.returnType = (some .boolean)) (hex : ∀ x ∈ c.exceptionTable.toList, False)   {Q : Int32 → gh_H → Prop} {X : String → gh_H → Prop}   (t0 : Int32) (H : Heap) (locs : List Loc) (ls : Array Slot) (h : gh_H) (G : gh_Inv D h0 (gh_A h0 s.heap.size) s.heap s H locs h) (hl : gh_L ls 1 []) (hw : wb_J6_colorOf_12 D.2.2 Q X t0 h) : W p l e rm_J6_colorOf s m args below meth c H locs 0 0 (vx_MQ below (gh_Qi Q D h0 s.heap.size) (gh_X X D h0 s.heap.size) args s 0 0 (gh_A h0 s.heap.size)) (F0 m 12 ls [.int t0]) := by
  unfold wb_J6_colorOf_12 at hw
  have hx := M.1.1
  have hb := M.1.2.1
  exact gh_iret M G hr hw.1 hw.2 (by exact Nat.le_of_ble_eq_true rfl) (by exact Nat.le_of_ble_eq_true rfl) dJ6_colorOf_12
set_option maxHeartbeats 4000000 in
theorem met_J6_colorOf (l : Launch) (D : gh_D) (v0 : Option Nat) (Q : Int32 → gh_H → Prop) (X : String → gh_H → Prop) (h : gh_H) (sz : Nat) (hw : wp_J6_colorOf D.2.2 v0 Q X h) (hst : l.stackTraces = false) : vx_Met l yJ6_colorOf (ws_ yJ6_colorOf cJ6_colorOf 1 (some .boolean)) rm_J6_colorOf (gh_Pc D h sz [va_rf v0]) (gh_Qi Q D h sz) (gh_X X D h sz) 0 0 (gh_A h sz) := by
  refine vx_ofW (by decide) rfl (fun p e s m args below meth c s₁ B hml hex hP => ?_)
  obtain ⟨rfl, rfl, hK, hT, hE, G⟩ := gh_start hP
  have M : gh_M D p l s m _ meth c RJ6 cJ6_colorOf 1 (gh_A h s.heap.size) := ⟨⟨B.exec, B.bytes, hml, findClass_of_methodNamed B.named, fun w hw => atoms_spec (ws := ws_ yJ6_colorOf cJ6_colorOf 1 (some .boolean)) B.pre w (List.mem_cons_of_mem _ hw)⟩, hK, hT, hE, B.notSynchronized, hst⟩
  have hr := B.returns
  have hx := M.1.1
  have hb := M.1.2.1
  refine gh_enter (vs := [(1, va_rf v0)]) (gh_w1 (gh_cat _) gh_wn) (Nat.le_of_ble_eq_true rfl) (fun ls hl => ?_)
  replace hl : gh_L ls 1 [(0, 1, va_rf v0)] := hl
  unfold wp_J6_colorOf at hw
  refine gh_aload_n hx hb dJ6_colorOf_0 rfl (gh_at hl 0 rfl) ?_
  refine gh_ifnonnull (tgt := 8) hx hb dJ6_colorOf_1 (by decide) (fun hc => ?_) (fun hc => ?_)
  · replace hw := hw.2 hc
    refine gh_aload_n hx hb dJ6_colorOf_8 rfl (gh_at hl 0 rfl) ?_
    refine gh_getI M G hw fl_J6_290 dJ6_colorOf_9 (fun x1 hw => ?_)
    exact wk_J6_colorOf_12 M hr hex  x1 _ _ _ _ G (gh_sub hl [] rfl) hw
  · replace hw := hw.1 hc
    refine lv_iconst (v := (1 : Int32)) hx hb dJ6_colorOf_4 (by decide) ?_
    refine lv_goto (tgt := 12) hx hb dJ6_colorOf_5 (by decide) ?_
    exact wk_J6_colorOf_12 M hr hex  (1 : Int32) _ _ _ _ G (gh_sub hl [] rfl) hw
/-! java/util/TreeMap.setColor (Ljava/util/TreeMap$Entry;Z)V -/
theorem fp_J6_290 : gh_FP RJ6 290 [(12, 5)] (.boolean) false := by
  refine ⟨fl_J6_290, fun q hq => ?_⟩
  simp only [List.mem_cons, List.not_mem_nil, or_false] at hq
  subst hq
  exact ⟨_, rfl, rfl, by decide +kernel, fun h => by cases h⟩
def rm_J6_setColor : Room := { frames := 1, cells := 0, slots := 0, locals := 40 }
def wb_J6_setColor_9 (κ : Nat → Nat)  (Q : gh_H → Prop) (X : String → gh_H → Prop)  (h : gh_H) : Prop := (Q h)
def wp_J6_setColor (κ : Nat → Nat) (v0 : Option Nat) (v1 : Int32) (Q : gh_H → Prop) (X : String → gh_H → Prop) (h : gh_H) : Prop := ((v0 = none → wb_J6_setColor_9 κ Q X h) ∧ (¬ v0 = none → ((narrow .boolean (.int v1) = .int v1 ∧ fits .boolean (.int v1) = true) ∧ (gh_PV h v0 [(12, 5)] (.int v1) (fun h1 => wb_J6_setColor_9 κ Q X h1)))))
set_option maxHeartbeats 4000000 in
theorem wk_J6_setColor_9 {D : gh_D} {p : Program} {l : Launch} {e : Env} {s : State} {m : MethodId} {args : Array Value} {below : List Frame} {meth : Method} {c : Code} {h0 : gh_H} (M : gh_M D p l s m args meth c RJ6 cJ6_setColor 2 (gh_A h0 s.heap.size)) (hr : meth.sig.returnType = none) (hex : ∀ x ∈ c.exceptionTable.toList, False)   {Q : gh_H → Prop} {X : String → gh_H → Prop}    (H : Heap) (locs : List Loc) (ls : Array Slot) (h : gh_H) (G : gh_Inv D h0 (gh_A h0 s.heap.size) s.heap s H locs h) (hl : gh_L ls 2 []) (hw : wb_J6_setColor_9 D.2.2 Q X h) : W p l e rm_J6_setColor s m args below meth c H locs 0 0 (vx_MQ below (gh_Qv Q D h0 s.heap.size) (gh_X X D h0 s.heap.size) args s 0 0 (gh_A h0 s.heap.size)) (F0 m 9 ls []) := by
  unfold wb_J6_setColor_9 at hw
  have hx := M.1.1
  have hb := M.1.2.1
  exact gh_vret M G hr hw (by exact Nat.le_of_ble_eq_true rfl) (by exact Nat.le_of_ble_eq_true rfl) dJ6_setColor_9
set_option maxHeartbeats 4000000 in
theorem met_J6_setColor (l : Launch) (D : gh_D) (v0 : Option Nat) (v1 : Int32) (Q : gh_H → Prop) (X : String → gh_H → Prop) (h : gh_H) (sz : Nat) (hw : wp_J6_setColor D.2.2 v0 v1 Q X h) (hst : l.stackTraces = false) : vx_Met l yJ6_setColor (ws_ yJ6_setColor cJ6_setColor 2 none) rm_J6_setColor (gh_Pc D h sz [va_rf v0, .int v1]) (gh_Qv Q D h sz) (gh_X X D h sz) 0 0 (gh_A h sz) := by
  refine vx_ofW (by decide) rfl (fun p e s m args below meth c s₁ B hml hex hP => ?_)
  obtain ⟨rfl, rfl, hK, hT, hE, G⟩ := gh_start hP
  have M : gh_M D p l s m _ meth c RJ6 cJ6_setColor 2 (gh_A h s.heap.size) := ⟨⟨B.exec, B.bytes, hml, findClass_of_methodNamed B.named, fun w hw => atoms_spec (ws := ws_ yJ6_setColor cJ6_setColor 2 none) B.pre w (List.mem_cons_of_mem _ hw)⟩, hK, hT, hE, B.notSynchronized, hst⟩
  have hr := B.returns
  have hx := M.1.1
  have hb := M.1.2.1
  refine gh_enter (vs := [(1, va_rf v0), (1, .int v1)]) (gh_w1 (gh_cat _) (gh_w1 rfl gh_wn)) (Nat.le_of_ble_eq_true rfl) (fun ls hl => ?_)
  replace hl : gh_L ls 2 [(0, 1, va_rf v0), (1, 1, .int v1)] := hl
  unfold wp_J6_setColor at hw
  refine gh_aload_n hx hb dJ6_setColor_0 rfl (gh_at hl 0 rfl) ?_
  refine gh_ifnull (tgt := 9) hx hb dJ6_setColor_1 (by decide) (fun hc => ?_) (fun hc => ?_)
  · replace hw := hw.1 hc
    exact wk_J6_setColor_9 M hr hex   _ _ _ _ G (gh_sub hl [] rfl) hw
  · replace hw := hw.2 hc
    refine gh_aload_n hx hb dJ6_setColor_4 rfl (gh_at hl 0 rfl) ?_
    refine lv_iload_n hx hb dJ6_setColor_5 rfl (gh_at hl 1 rfl) ?_
    obtain ⟨hn, hw⟩ := hw
    refine gh_put M G hw fp_J6_290 hn.1 hn.2 dJ6_setColor_6 (fun h1 H locs hw G => ?_)
    exact wk_J6_setColor_9 M hr hex   _ _ _ _ G (gh_sub hl [] rfl) hw
/-! java/util/TreeMap.rotateLeft (Ljava/util/TreeMap$Entry;)V -/
theorem fp_J6_111 : gh_FP RJ6 111 [(12, 2)] (.object "java/util/TreeMap$Entry") false := by
  refine ⟨fl_J6_111, fun q hq => ?_⟩
  simp only [List.mem_cons, List.not_mem_nil, or_false] at hq
  subst hq
  exact ⟨_, rfl, rfl, by decide +kernel, fun h => by cases h⟩
theorem fp_J6_124 : gh_FP RJ6 124 [(12, 4)] (.object "java/util/TreeMap$Entry") false := by
  refine ⟨fl_J6_124, fun q hq => ?_⟩
  simp only [List.mem_cons, List.not_mem_nil, or_false] at hq
  subst hq
  exact ⟨_, rfl, rfl, by decide +kernel, fun h => by cases h⟩
theorem fp_J6_114 : gh_FP RJ6 114 [(12, 3)] (.object "java/util/TreeMap$Entry") false := by
  refine ⟨fl_J6_114, fun q hq => ?_⟩
  simp only [List.mem_cons, List.not_mem_nil, or_false] at hq
  subst hq
  exact ⟨_, rfl, rfl, by decide +kernel, fun h => by cases h⟩
def rm_J6_rotateLeft : Room := { frames := 1, cells := 0, slots := 0, locals := 40 }
def wb_J6_rotateLeft_95 (κ : Nat → Nat)  (Q : gh_H → Prop) (X : String → gh_H → Prop)  (h : gh_H) : Prop := (Q h)
def wb_J6_rotateLeft_85 (κ : Nat → Nat)  (Q : gh_H → Prop) (X : String → gh_H → Prop) (v1 : Option Nat) (v2 : Option Nat) (h : gh_H) : Prop := (gh_PV h v2 [(12, 2)] (va_rf v1) (fun h1 => (gh_PV h1 v1 [(12, 4)] (va_rf v2) (fun h2 => wb_J6_rotateLeft_95 κ Q X h2))))
def wb_J6_rotateLeft_32 (κ : Nat → Nat)  (Q : gh_H → Prop) (X : String → gh_H → Prop) (v0 : Nat) (v1 : Option Nat) (v2 : Option Nat) (h : gh_H) : Prop := (gh_GR h v1 [(12, 4)] (fun x1 => (gh_PV h v2 [(12, 4)] (va_rf x1) (fun h2 => (gh_GR h2 v1 [(12, 4)] (fun x3 => ((x3 = none → (gh_PV h2 (some v0) [(11, 3)] (va_rf v2) (fun h10 => wb_J6_rotateLeft_85 κ Q X v1 v2 h10))) ∧ (¬ x3 = none → (gh_GR h2 v1 [(12, 4)] (fun x4 => (gh_GR h2 x4 [(12, 2)] (fun x5 => ((x5 = v1 → (gh_GR h2 v1 [(12, 4)] (fun x8 => (gh_PV h2 x8 [(12, 2)] (va_rf v2) (fun h9 => wb_J6_rotateLeft_85 κ Q X v1 v2 h9))))) ∧ (¬ x5 = v1 → (gh_GR h2 v1 [(12, 4)] (fun x6 => (gh_PV h2 x6 [(12, 3)] (va_rf v2) (fun h7 => wb_J6_rotateLeft_85 κ Q X v1 v2 h7))))))))))))))))))
def wp_J6_rotateLeft (κ : Nat → Nat) (v0 : Nat) (v1 : Option Nat) (Q : gh_H → Prop) (X : String → gh_H → Prop) (h : gh_H) : Prop := ((v1 = none → wb_J6_rotateLeft_95 κ Q X h) ∧ (¬ v1 = none → (gh_GR h v1 [(12, 3)] (fun x1 => (gh_GR h x1 [(12, 2)] (fun x2 => (gh_PV h v1 [(12, 3)] (va_rf x2) (fun h3 => (gh_GR h3 x1 [(12, 2)] (fun x4 => ((x4 = none → wb_J6_rotateLeft_32 κ Q X v0 v1 x1 h3) ∧ (¬ x4 = none → (gh_GR h3 x1 [(12, 2)] (fun x5 => (gh_PV h3 x5 [(12, 4)] (va_rf v1) (fun h6 => wb_J6_rotateLeft_32 κ Q X v0 v1 x1 h6))))))))))))))))
set_option maxHeartbeats 4000000 in
theorem wk_J6_rotateLeft_95 {D : gh_D} {p : Program} {l : Launch} {e : Env} {s : State} {m : MethodId} {args : Array Value} {below : List Frame} {meth : Method} {c : Code} {h0 : gh_H} (M : gh_M D p l s m args meth c RJ6 cJ6_rotateLeft 3 (gh_A h0 s.heap.size)) (hr : meth.sig.returnType = none) (hex : ∀ x ∈ c.exceptionTable.toList, False)   {Q : gh_H → Prop} {X : String → gh_H → Prop}    (H : Heap) (locs : List Loc) (ls : Array Slot) (h : gh_H) (G : gh_Inv D h0 (gh_A h0 s.heap.size) s.heap s H locs h) (hl : gh_L ls 3 []) (hw : wb_J6_rotateLeft_95 D.2.2 Q X h) : W p l e rm_J6_rotateLeft s m args below meth c H locs 0 0 (vx_MQ below (gh_Qv Q D h0 s.heap.size) (gh_X X D h0 s.heap.size) args s 0 0 (gh_A h0 s.heap.size)) (F0 m 95 ls []) := by
  unfold wb_J6_rotateLeft_95 at hw
  have hx := M.1.1
  have hb := M.1.2.1
  exact gh_vret M G hr hw (by exact Nat.le_of_ble_eq_true rfl) (by exact Nat.le_of_ble_eq_true rfl) dJ6_rotateLeft_95
set_option maxHeartbeats 4000000 in
theorem wk_J6_rotateLeft_85 {D : gh_D} {p : Program} {l : Launch} {e : Env} {s : State} {m : MethodId} {args : Array Value} {below : List Frame} {meth : Method} {c : Code} {h0 : gh_H} (M : gh_M D p l s m args meth c RJ6 cJ6_rotateLeft 3 (gh_A h0 s.heap.size)) (hr : meth.sig.returnType = none) (hex : ∀ x ∈ c.exceptionTable.toList, False)   {Q : gh_H → Prop} {X : String → gh_H → Prop}   (v1 : Option Nat) (v2 : Option Nat) (H : Heap) (locs : List Loc) (ls : Array Slot) (h : gh_H) (G : gh_Inv D h0 (gh_A h0 s.heap.size) s.heap s H locs h) (hl : gh_L ls 3 [(1, 1, va_rf v1), (2, 1, va_rf v2)]) (hw : wb_J6_rotateLeft_85 D.2.2 Q X v1 v2 h) : W p l e rm_J6_rotateLeft s m args below meth c H locs 0 0 (vx_MQ below (gh_Qv Q D h0 s.heap.size) (gh_X X D h0 s.heap.size) args s 0 0 (gh_A h0 s.heap.size)) (F0 m 85 ls []) := by
  unfold wb_J6_rotateLeft_85 at hw
  have hx := M.1.1
  have hb := M.1.2.1
  refine gh_aload_n hx hb dJ6_rotateLeft_85 rfl (gh_at hl 1 rfl) ?_
  refine gh_aload_n hx hb dJ6_rotateLeft_86 rfl (gh_at hl 0 rfl) ?_
  refine gh_put M G hw fp_J6_111 (gh_narR _ _) (gh_fitR _ _) dJ6_rotateLeft_87 (fun h1 H locs hw G => ?_)
  refine gh_aload_n hx hb dJ6_rotateLeft_90 rfl (gh_at hl 0 rfl) ?_
  refine gh_aload_n hx hb dJ6_rotateLeft_91 rfl (gh_at hl 1 rfl) ?_
  refine gh_put M G hw fp_J6_124 (gh_narR _ _) (gh_fitR _ _) dJ6_rotateLeft_92 (fun h2 H locs hw G => ?_)
  exact wk_J6_rotateLeft_95 M hr hex   _ _ _ _ G (gh_sub hl [] rfl) hw
set_option maxHeartbeats 4000000 in
theorem wk_J6_rotateLeft_32 {D : gh_D} {p : Program} {l : Launch} {e : Env} {s : State} {m : MethodId} {args : Array Value} {below : List Frame} {meth : Method} {c : Code} {h0 : gh_H} (M : gh_M D p l s m args meth c RJ6 cJ6_rotateLeft 3 (gh_A h0 s.heap.size)) (hr : meth.sig.returnType = none) (hex : ∀ x ∈ c.exceptionTable.toList, False)   {Q : gh_H → Prop} {X : String → gh_H → Prop}   (v0 : Nat) (v1 : Option Nat) (v2 : Option Nat) (H : Heap) (locs : List Loc) (ls : Array Slot) (h : gh_H) (G : gh_Inv D h0 (gh_A h0 s.heap.size) s.heap s H locs h) (hl : gh_L ls 3 [(0, 1, va_rf (some v0)), (1, 1, va_rf v1), (2, 1, va_rf v2)]) (hw : wb_J6_rotateLeft_32 D.2.2 Q X v0 v1 v2 h) : W p l e rm_J6_rotateLeft s m args below meth c H locs 0 0 (vx_MQ below (gh_Qv Q D h0 s.heap.size) (gh_X X D h0 s.heap.size) args s 0 0 (gh_A h0 s.heap.size)) (F0 m 32 ls []) := by
  unfold wb_J6_rotateLeft_32 at hw
  have hx := M.1.1
  have hb := M.1.2.1
  refine gh_aload_n hx hb dJ6_rotateLeft_32 rfl (gh_at hl 2 rfl) ?_
  refine gh_aload_n hx hb dJ6_rotateLeft_33 rfl (gh_at hl 1 rfl) ?_
  refine gh_getR M G hw fl_J6_124 dJ6_rotateLeft_34 (fun x1 hw => ?_)
  refine gh_put M G hw fp_J6_124 (gh_narR _ _) (gh_fitR _ _) dJ6_rotateLeft_37 (fun h2 H locs hw G => ?_)
  refine gh_aload_n hx hb dJ6_rotateLeft_40 rfl (gh_at hl 1 rfl) ?_
  refine gh_getR M G hw fl_J6_124 dJ6_rotateLeft_41 (fun x3 hw => ?_)
  refine gh_ifnonnull (tgt := 55) hx hb dJ6_rotateLeft_44 (by decide) (fun hc => ?_) (fun hc => ?_)
  · replace hw := hw.2 hc
    refine gh_aload_n hx hb dJ6_rotateLeft_55 rfl (gh_at hl 1 rfl) ?_
    refine gh_getR M G hw fl_J6_124 dJ6_rotateLeft_56 (fun x4 hw => ?_)
    refine gh_getR M G hw fl_J6_111 dJ6_rotateLeft_59 (fun x5 hw => ?_)
    refine gh_aload_n hx hb dJ6_rotateLeft_62 rfl (gh_at hl 1 rfl) ?_
    refine lv_acmp_ne (rx := x5) (ry := v1) (tgt := 77) hx hb dJ6_rotateLeft_63 (by decide) (fun hc => ?_) (fun hc => ?_)
    · replace hw := hw.2 hc
      refine gh_aload_n hx hb dJ6_rotateLeft_77 rfl (gh_at hl 1 rfl) ?_
      refine gh_getR M G hw fl_J6_124 dJ6_rotateLeft_78 (fun x6 hw => ?_)
      refine gh_aload_n hx hb dJ6_rotateLeft_81 rfl (gh_at hl 2 rfl) ?_
      refine gh_put M G hw fp_J6_114 (gh_narR _ _) (gh_fitR _ _) dJ6_rotateLeft_82 (fun h7 H locs hw G => ?_)
      exact wk_J6_rotateLeft_85 M hr hex  v1 v2 _ _ _ _ G (gh_sub hl [1, 2] rfl) hw
    · replace hw := hw.1 hc
      refine gh_aload_n hx hb dJ6_rotateLeft_66 rfl (gh_at hl 1 rfl) ?_
      refine gh_getR M G hw fl_J6_124 dJ6_rotateLeft_67 (fun x8 hw => ?_)
      refine gh_aload_n hx hb dJ6_rotateLeft_70 rfl (gh_at hl 2 rfl) ?_
      refine gh_put M G hw fp_J6_111 (gh_narR _ _) (gh_fitR _ _) dJ6_rotateLeft_71 (fun h9 H locs hw G => ?_)
      refine lv_goto (tgt := 85) hx hb dJ6_rotateLeft_74 (by decide) ?_
      exact wk_J6_rotateLeft_85 M hr hex  v1 v2 _ _ _ _ G (gh_sub hl [1, 2] rfl) hw
  · replace hw := hw.1 hc
    refine gh_aload_n hx hb dJ6_rotateLeft_47 rfl (gh_at hl 0 rfl) ?_
    refine gh_aload_n hx hb dJ6_rotateLeft_48 rfl (gh_at hl 2 rfl) ?_
    refine gh_put M G hw fp_J6_101 (gh_narR _ _) (gh_fitR _ _) dJ6_rotateLeft_49 (fun h10 H locs hw G => ?_)
    refine lv_goto (tgt := 85) hx hb dJ6_rotateLeft_52 (by decide) ?_
    exact wk_J6_rotateLeft_85 M hr hex  v1 v2 _ _ _ _ G (gh_sub hl [1, 2] rfl) hw
set_option maxHeartbeats 4000000 in
theorem met_J6_rotateLeft (l : Launch) (D : gh_D) (v0 : Nat) (v1 : Option Nat) (Q : gh_H → Prop) (X : String → gh_H → Prop) (h : gh_H) (sz : Nat) (hw : wp_J6_rotateLeft D.2.2 v0 v1 Q X h) (hst : l.stackTraces = false) : vx_Met l yJ6_rotateLeft (ws_ yJ6_rotateLeft cJ6_rotateLeft 3 none) rm_J6_rotateLeft (gh_Pc D h sz [.ref v0, va_rf v1]) (gh_Qv Q D h sz) (gh_X X D h sz) 0 0 (gh_A h sz) := by
  refine vx_ofW (by decide) rfl (fun p e s m args below meth c s₁ B hml hex hP => ?_)
  obtain ⟨rfl, rfl, hK, hT, hE, G⟩ := gh_start hP
  have M : gh_M D p l s m _ meth c RJ6 cJ6_rotateLeft 3 (gh_A h s.heap.size) := ⟨⟨B.exec, B.bytes, hml, findClass_of_methodNamed B.named, fun w hw => atoms_spec (ws := ws_ yJ6_rotateLeft cJ6_rotateLeft 3 none) B.pre w (List.mem_cons_of_mem _ hw)⟩, hK, hT, hE, B.notSynchronized, hst⟩
  have hr := B.returns
  have hx := M.1.1
  have hb := M.1.2.1
  refine gh_enter (vs := [(1, .ref v0), (1, va_rf v1)]) (gh_w1 rfl (gh_w1 (gh_cat _) gh_wn)) (Nat.le_of_ble_eq_true rfl) (fun ls hl => ?_)
  replace hl : gh_L ls 3 [(0, 1, va_rf (some v0)), (1, 1, va_rf v1)] := hl
  unfold wp_J6_rotateLeft at hw
  refine gh_aload_n hx hb dJ6_rotateLeft_0 rfl (gh_at hl 1 rfl) ?_
  refine gh_ifnull (tgt := 95) hx hb dJ6_rotateLeft_1 (by decide) (fun hc => ?_) (fun hc => ?_)
  · replace hw := hw.1 hc
    exact wk_J6_rotateLeft_95 M hr hex   _ _ _ _ G (gh_sub hl [] rfl) hw
  · replace hw := hw.2 hc
    refine gh_aload_n hx hb dJ6_rotateLeft_4 rfl (gh_at hl 1 rfl) ?_
    refine gh_getR M G hw fl_J6_114 dJ6_rotateLeft_5 (fun x1 hw => ?_)
    refine gh_astore_n (lv' := [(2, 1, va_rf x1), (0, 1, va_rf (some v0)), (1, 1, va_rf v1)]) hx hb dJ6_rotateLeft_8 rfl hl (by decide) rfl (fun ls hl => ?_)
    refine gh_aload_n hx hb dJ6_rotateLeft_9 rfl (gh_at hl 2 rfl) ?_
    refine gh_aload_n hx hb dJ6_rotateLeft_10 rfl (gh_at hl 0 rfl) ?_
    refine gh_getR M G hw fl_J6_111 dJ6_rotateLeft_11 (fun x2 hw => ?_)
    refine gh_put M G hw fp_J6_114 (gh_narR _ _) (gh_fitR _ _) dJ6_rotateLeft_14 (fun h3 H locs hw G => ?_)
    refine gh_aload_n hx hb dJ6_rotateLeft_17 rfl (gh_at hl 0 rfl) ?_
    refine gh_getR M G hw fl_J6_111 dJ6_rotateLeft_18 (fun x4 hw => ?_)
    refine gh_ifnull (tgt := 32) hx hb dJ6_rotateLeft_21 (by decide) (fun hc => ?_) (fun hc => ?_)
    · replace hw := hw.1 hc
      exact wk_J6_rotateLeft_32 M hr hex  v0 v1 x1 _ _ _ _ G (gh_sub hl [1, 2, 0] rfl) hw
    · replace hw := hw.2 hc
      refine gh_aload_n hx hb dJ6_rotateLeft_24 rfl (gh_at hl 0 rfl) ?_
      refine gh_getR M G hw fl_J6_111 dJ6_rotateLeft_25 (fun x5 hw => ?_)
      refine gh_aload_n hx hb dJ6_rotateLeft_28 rfl (gh_at hl 2 rfl) ?_
      refine gh_put M G hw fp_J6_124 (gh_narR _ _) (gh_fitR _ _) dJ6_rotateLeft_29 (fun h6 H locs hw G => ?_)
      exact wk_J6_rotateLeft_32 M hr hex  v0 v1 x1 _ _ _ _ G (gh_sub hl [1, 2, 0] rfl) hw
