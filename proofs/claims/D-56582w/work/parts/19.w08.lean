set_option maxRecDepth 100000
/-! java/util/TreeMap.remove (Ljava/lang/Object;)Ljava/lang/Object; -/
def rm_J6_remove : Room := { frames := 5, cells := 0, slots := 0, locals := 127 }
def wp_J6_remove (κ : Nat → Nat) (v0 : Nat) (v1 : Option Nat) (Q : Option Nat → gh_H → Prop) (X : String → gh_H → Prop) (h : gh_H) : Prop := (gh_RC h (some v0) 11 (fun _ => (wp_J6_getEntry κ v0 v1 (fun r2 h3 => ((r2 = none → (Q none h3)) ∧ (¬ r2 = none → (gh_GR h3 r2 [(12, 1)] (fun x4 => (gh_RC h3 (some v0) 11 (fun _ => (wp_J6_deleteEntry κ v0 r2 (fun h6 => (Q x4 h6)) X h3)))))))) X h)))
set_option maxHeartbeats 4000000 in
theorem met_J6_remove (l : Launch) (D : gh_D) (v0 : Nat) (v1 : Option Nat) (Q : Option Nat → gh_H → Prop) (X : String → gh_H → Prop) (h : gh_H) (sz : Nat) (hw : wp_J6_remove D.2.2 v0 v1 Q X h) (hst : l.stackTraces = false) : vx_Met l yJ6_remove (ws_ yJ6_remove cJ6_remove 4 (some (.object "java/lang/Object"))) rm_J6_remove (gh_Pc D h sz [.ref v0, va_rf v1]) (gh_Qq Q D h sz) (gh_X X D h sz) 0 0 (gh_A h sz) := by
  refine vx_ofW (by decide) rfl (fun p e s m args below meth c s₁ B hml hex hP => ?_)
  obtain ⟨rfl, rfl, hK, hT, hE, G⟩ := gh_start hP
  have M : gh_M D p l s m _ meth c RJ6 cJ6_remove 4 (gh_A h s.heap.size) := ⟨⟨B.exec, B.bytes, hml, findClass_of_methodNamed B.named, fun w hw => atoms_spec (ws := ws_ yJ6_remove cJ6_remove 4 (some (.object "java/lang/Object"))) B.pre w (List.mem_cons_of_mem _ hw)⟩, hK, hT, hE, B.notSynchronized, hst⟩
  have hr := B.returns
  have hx := M.1.1
  have hb := M.1.2.1
  refine gh_enter (vs := [(1, .ref v0), (1, va_rf v1)]) (gh_w1 rfl (gh_w1 (gh_cat _) gh_wn)) (Nat.le_of_ble_eq_true rfl) (fun ls hl => ?_)
  replace hl : gh_L ls 4 [(0, 1, va_rf (some v0)), (1, 1, va_rf v1)] := hl
  unfold wp_J6_remove at hw
  refine gh_aload_n hx hb dJ6_remove_0 rfl (gh_at hl 0 rfl) ?_
  refine gh_aload_n hx hb dJ6_remove_1 rfl (gh_at hl 1 rfl) ?_
  obtain ⟨a1, lba1, fsa1, hra1, haa1, hw⟩ := hw
  rw [← Option.some.inj hra1] at haa1
  refine gh_kq G (vx_runV M.1 (met_J6_getEntry l D _ _ _ _ _ _ hw M.2.2.2.2.2) (cwV 1 (gh_Mts M) (lw_V q1244 q1245 q1246 q48 q1247) rfl rfl rfl ⟨rfl, by decide, by decide, rfl⟩ ⟨Nat.le_of_ble_eq_true rfl, Nat.le_of_ble_eq_true rfl⟩) (gh_preV (As := [va_rf v1]) M G (gh_rec M G haa1 rfl)) rfl rfl hl.1.1 rfl (lv_room (Nat.le_of_ble_eq_true rfl)) dJ6_remove_2 ⟨(Nat.le_of_ble_eq_true rfl), (Nat.le_of_ble_eq_true rfl)⟩) (gh_out M hex (by exact Nat.le_of_ble_eq_true rfl) (by exact Nat.le_of_ble_eq_true rfl)) (fun r2 h3 H locs hw G => ?_)
  refine gh_astore_n (lv' := [(2, 1, va_rf r2), (0, 1, va_rf (some v0)), (1, 1, va_rf v1)]) hx hb dJ6_remove_5 rfl hl (by decide) rfl (fun ls hl => ?_)
  refine gh_aload_n hx hb dJ6_remove_6 rfl (gh_at hl 0 rfl) ?_
  refine gh_ifnonnull (tgt := 12) hx hb dJ6_remove_7 (by decide) (fun hc => ?_) (fun hc => ?_)
  · replace hw := hw.2 hc
    refine gh_aload_n hx hb dJ6_remove_12 rfl (gh_at hl 0 rfl) ?_
    refine gh_getR M G hw fl_J6_58 dJ6_remove_13 (fun x4 hw => ?_)
    refine gh_astore_n (lv' := [(3, 1, va_rf x4), (2, 1, va_rf r2), (0, 1, va_rf (some v0)), (1, 1, va_rf v1)]) hx hb dJ6_remove_16 rfl hl (by decide) rfl (fun ls hl => ?_)
    refine gh_aload_n hx hb dJ6_remove_17 rfl (gh_at hl 2 rfl) ?_
    refine gh_aload_n hx hb dJ6_remove_18 rfl (gh_at hl 1 rfl) ?_
    obtain ⟨a5, lba5, fsa5, hra5, haa5, hw⟩ := hw
    rw [← Option.some.inj hra5] at haa5
    refine gh_kv G (vx_runV M.1 (met_J6_deleteEntry l D _ _ _ _ _ _ hw M.2.2.2.2.2) (cwV 1 (gh_Mts M) (lw_V q1252 q1254 qs16 q48 q1255) rfl rfl rfl ⟨rfl, by decide, by decide, rfl⟩ ⟨Nat.le_of_ble_eq_true rfl, Nat.le_of_ble_eq_true rfl⟩) (gh_preV (As := [va_rf r2]) M G (gh_rec M G haa5 rfl)) rfl rfl hl.1.1 rfl (lv_room (Nat.le_of_ble_eq_true rfl)) dJ6_remove_19 ⟨(Nat.le_of_ble_eq_true rfl), (Nat.le_of_ble_eq_true rfl)⟩) (gh_out M hex (by exact Nat.le_of_ble_eq_true rfl) (by exact Nat.le_of_ble_eq_true rfl)) (fun h6 H locs hw G => ?_)
    refine gh_aload_n hx hb dJ6_remove_22 rfl (gh_at hl 0 rfl) ?_
    exact gh_aret M G hr (Or.inl ⟨_, rfl⟩) hw (by exact Nat.le_of_ble_eq_true rfl) (by exact Nat.le_of_ble_eq_true rfl) dJ6_remove_23
  · replace hw := hw.1 hc
    refine gh_null hx hb dJ6_remove_10 ?_
    exact gh_aret M G hr (Or.inl ⟨_, rfl⟩) hw (by exact Nat.le_of_ble_eq_true rfl) (by exact Nat.le_of_ble_eq_true rfl) dJ6_remove_11
/-! java/util/TreeSet.remove (Ljava/lang/Object;)Z -/
def rm_J4_remove : Room := { frames := 6, cells := 0, slots := 0, locals := 150 }
def wb_J4_remove_21 (κ : Nat → Nat)  (Q : Int32 → gh_H → Prop) (X : String → gh_H → Prop) (t0 : Int32) (h : gh_H) : Prop := (narrow .boolean (.int t0) = .int t0 ∧ Q t0 h)
def wp_J4_remove (κ : Nat → Nat) (v0 : Nat) (v1 : Option Nat) (Q : Int32 → gh_H → Prop) (X : String → gh_H → Prop) (h : gh_H) : Prop := (gh_GR h (some v0) [(10, 0)] (fun x1 => (gh_RC h x1 11 (fun a2 => (wp_J6_remove κ a2 v1 (fun r3 h4 => ((r3 = (some (κ 3)) → wb_J4_remove_21 κ Q X (1 : Int32) h4) ∧ (¬ r3 = (some (κ 3)) → wb_J4_remove_21 κ Q X (0 : Int32) h4))) X h)))))
set_option maxHeartbeats 4000000 in
theorem wk_J4_remove_21 {D : gh_D} {p : Program} {l : Launch} {e : Env} {s : State} {m : MethodId} {args : Array Value} {below : List Frame} {meth : Method} {c : Code} {h0 : gh_H} (M : gh_M D p l s m args meth c RJ4 cJ4_remove 2 (gh_A h0 s.heap.size)) (hr : meth.sig.returnType = (some .boolean)) (hex : ∀ x ∈ c.exceptionTable.toList, False)   {Q : Int32 → gh_H → Prop} {X : String → gh_H → Prop}   (t0 : Int32) (H : Heap) (locs : List Loc) (ls : Array Slot) (h : gh_H) (G : gh_Inv D h0 (gh_A h0 s.heap.size) s.heap s H locs h) (hl : gh_L ls 2 []) (hw : wb_J4_remove_21 D.2.2 Q X t0 h) : W p l e rm_J4_remove s m args below meth c H locs 0 0 (vx_MQ below (gh_Qi Q D h0 s.heap.size) (gh_X X D h0 s.heap.size) args s 0 0 (gh_A h0 s.heap.size)) (F0 m 21 ls [.int t0]) := by
  unfold wb_J4_remove_21 at hw
  have hx := M.1.1
  have hb := M.1.2.1
  exact gh_iret M G hr hw.1 hw.2 (by exact Nat.le_of_ble_eq_true rfl) (by exact Nat.le_of_ble_eq_true rfl) dJ4_remove_21
set_option maxHeartbeats 4000000 in
theorem met_J4_remove (l : Launch) (D : gh_D) (v0 : Nat) (v1 : Option Nat) (Q : Int32 → gh_H → Prop) (X : String → gh_H → Prop) (h : gh_H) (sz : Nat) (hw : wp_J4_remove D.2.2 v0 v1 Q X h) (hst : l.stackTraces = false) : vx_Met l yJ4_remove (ws_ yJ4_remove cJ4_remove 2 (some .boolean)) rm_J4_remove (gh_Pc D h sz [.ref v0, va_rf v1]) (gh_Qi Q D h sz) (gh_X X D h sz) 0 0 (gh_A h sz) := by
  refine vx_ofW (by decide) rfl (fun p e s m args below meth c s₁ B hml hex hP => ?_)
  obtain ⟨rfl, rfl, hK, hT, hE, G⟩ := gh_start hP
  have M : gh_M D p l s m _ meth c RJ4 cJ4_remove 2 (gh_A h s.heap.size) := ⟨⟨B.exec, B.bytes, hml, findClass_of_methodNamed B.named, fun w hw => atoms_spec (ws := ws_ yJ4_remove cJ4_remove 2 (some .boolean)) B.pre w (List.mem_cons_of_mem _ hw)⟩, hK, hT, hE, B.notSynchronized, hst⟩
  have hr := B.returns
  have hx := M.1.1
  have hb := M.1.2.1
  refine gh_enter (vs := [(1, .ref v0), (1, va_rf v1)]) (gh_w1 rfl (gh_w1 (gh_cat _) gh_wn)) (Nat.le_of_ble_eq_true rfl) (fun ls hl => ?_)
  replace hl : gh_L ls 2 [(0, 1, va_rf (some v0)), (1, 1, va_rf v1)] := hl
  unfold wp_J4_remove at hw
  refine gh_aload_n hx hb dJ4_remove_0 rfl (gh_at hl 0 rfl) ?_
  refine gh_getR M G hw fl_J4_7 dJ4_remove_1 (fun x1 hw => ?_)
  refine gh_aload_n hx hb dJ4_remove_4 rfl (gh_at hl 1 rfl) ?_
  obtain ⟨a2, lba2, fsa2, rfl, haa2, hw⟩ := hw
  refine gh_kFq G (gh_runIU (C := "java/util/TreeMap") M (met_J6_remove l D _ _ _ _ _ _ hw M.2.2.2.2.2) (lw_meth q1243) rfl rfl rfl ⟨Nat.le_of_ble_eq_true rfl, Nat.le_of_ble_eq_true rfl⟩ (List.mem_of_getElem? (i := 4) rfl) (List.mem_of_getElem? (i := 2) rfl) (List.mem_of_getElem? (i := 193) rfl) (List.mem_of_getElem? (i := 192) rfl) q1239 (by decide) q1241 q48 (List.mem_of_getElem? (i := 107) rfl) (List.mem_of_getElem? (i := 106) rfl) (List.mem_of_getElem? (i := 99) rfl) rfl (gh_preV (As := [va_rf v1]) M G (gh_rec M G haa2 rfl)) rfl hl.1.1 rfl (Nat.le_of_ble_eq_true rfl) dJ4_remove_5 ⟨(Nat.le_of_ble_eq_true rfl), (Nat.le_of_ble_eq_true rfl)⟩) (gh_out M hex (by exact Nat.le_of_ble_eq_true rfl) (by exact Nat.le_of_ble_eq_true rfl)) (fun r3 h4 H locs hw G => ?_)
  refine gh_gets (v := va_rf (some (D.2.2 3))) M G M.2.2.2.1.2.2.2.2.1 q914 rfl dJ4_remove_10 ?_
  refine lv_acmp_ne (rx := r3) (ry := (some (D.2.2 3))) (tgt := 20) hx hb dJ4_remove_13 (by decide) (fun hc => ?_) (fun hc => ?_)
  · replace hw := hw.2 hc
    refine lv_iconst (v := (0 : Int32)) hx hb dJ4_remove_20 (by decide) ?_
    exact wk_J4_remove_21 M hr hex  (0 : Int32) _ _ _ _ G (gh_sub hl [] rfl) hw
  · replace hw := hw.1 hc
    refine lv_iconst (v := (1 : Int32)) hx hb dJ4_remove_16 (by decide) ?_
    refine lv_goto (tgt := 21) hx hb dJ4_remove_17 (by decide) ?_
    exact wk_J4_remove_21 M hr hex  (1 : Int32) _ _ _ _ G (gh_sub hl [] rfl) hw
/-! java/util/TreeMap.containsKey (Ljava/lang/Object;)Z -/
def rm_J6_containsKey : Room := { frames := 5, cells := 0, slots := 0, locals := 127 }
def wb_J6_containsKey_13 (κ : Nat → Nat)  (Q : Int32 → gh_H → Prop) (X : String → gh_H → Prop) (t0 : Int32) (h : gh_H) : Prop := (narrow .boolean (.int t0) = .int t0 ∧ Q t0 h)
def wp_J6_containsKey (κ : Nat → Nat) (v0 : Nat) (v1 : Option Nat) (Q : Int32 → gh_H → Prop) (X : String → gh_H → Prop) (h : gh_H) : Prop := (gh_RC h (some v0) 11 (fun _ => (wp_J6_getEntry κ v0 v1 (fun r2 h3 => ((r2 = none → wb_J6_containsKey_13 κ Q X (0 : Int32) h3) ∧ (¬ r2 = none → wb_J6_containsKey_13 κ Q X (1 : Int32) h3))) X h)))
set_option maxHeartbeats 4000000 in
theorem wk_J6_containsKey_13 {D : gh_D} {p : Program} {l : Launch} {e : Env} {s : State} {m : MethodId} {args : Array Value} {below : List Frame} {meth : Method} {c : Code} {h0 : gh_H} (M : gh_M D p l s m args meth c RJ6 cJ6_containsKey 2 (gh_A h0 s.heap.size)) (hr : meth.sig.returnType = (some .boolean)) (hex : ∀ x ∈ c.exceptionTable.toList, False)   {Q : Int32 → gh_H → Prop} {X : String → gh_H → Prop}   (t0 : Int32) (H : Heap) (locs : List Loc) (ls : Array Slot) (h : gh_H) (G : gh_Inv D h0 (gh_A h0 s.heap.size) s.heap s H locs h) (hl : gh_L ls 2 []) (hw : wb_J6_containsKey_13 D.2.2 Q X t0 h) : W p l e rm_J6_containsKey s m args below meth c H locs 0 0 (vx_MQ below (gh_Qi Q D h0 s.heap.size) (gh_X X D h0 s.heap.size) args s 0 0 (gh_A h0 s.heap.size)) (F0 m 13 ls [.int t0]) := by
  unfold wb_J6_containsKey_13 at hw
  have hx := M.1.1
  have hb := M.1.2.1
  exact gh_iret M G hr hw.1 hw.2 (by exact Nat.le_of_ble_eq_true rfl) (by exact Nat.le_of_ble_eq_true rfl) dJ6_containsKey_13
set_option maxHeartbeats 4000000 in
theorem met_J6_containsKey (l : Launch) (D : gh_D) (v0 : Nat) (v1 : Option Nat) (Q : Int32 → gh_H → Prop) (X : String → gh_H → Prop) (h : gh_H) (sz : Nat) (hw : wp_J6_containsKey D.2.2 v0 v1 Q X h) (hst : l.stackTraces = false) : vx_Met l yJ6_containsKey (ws_ yJ6_containsKey cJ6_containsKey 2 (some .boolean)) rm_J6_containsKey (gh_Pc D h sz [.ref v0, va_rf v1]) (gh_Qi Q D h sz) (gh_X X D h sz) 0 0 (gh_A h sz) := by
  refine vx_ofW (by decide) rfl (fun p e s m args below meth c s₁ B hml hex hP => ?_)
  obtain ⟨rfl, rfl, hK, hT, hE, G⟩ := gh_start hP
  have M : gh_M D p l s m _ meth c RJ6 cJ6_containsKey 2 (gh_A h s.heap.size) := ⟨⟨B.exec, B.bytes, hml, findClass_of_methodNamed B.named, fun w hw => atoms_spec (ws := ws_ yJ6_containsKey cJ6_containsKey 2 (some .boolean)) B.pre w (List.mem_cons_of_mem _ hw)⟩, hK, hT, hE, B.notSynchronized, hst⟩
  have hr := B.returns
  have hx := M.1.1
  have hb := M.1.2.1
  refine gh_enter (vs := [(1, .ref v0), (1, va_rf v1)]) (gh_w1 rfl (gh_w1 (gh_cat _) gh_wn)) (Nat.le_of_ble_eq_true rfl) (fun ls hl => ?_)
  replace hl : gh_L ls 2 [(0, 1, va_rf (some v0)), (1, 1, va_rf v1)] := hl
  unfold wp_J6_containsKey at hw
  refine gh_aload_n hx hb dJ6_containsKey_0 rfl (gh_at hl 0 rfl) ?_
  refine gh_aload_n hx hb dJ6_containsKey_1 rfl (gh_at hl 1 rfl) ?_
  obtain ⟨a1, lba1, fsa1, hra1, haa1, hw⟩ := hw
  rw [← Option.some.inj hra1] at haa1
  refine gh_kq G (vx_runV M.1 (met_J6_getEntry l D _ _ _ _ _ _ hw M.2.2.2.2.2) (cwV 1 (gh_Mts M) (lw_V q1244 q1245 q1246 q48 q1247) rfl rfl rfl ⟨rfl, by decide, by decide, rfl⟩ ⟨Nat.le_of_ble_eq_true rfl, Nat.le_of_ble_eq_true rfl⟩) (gh_preV (As := [va_rf v1]) M G (gh_rec M G haa1 rfl)) rfl rfl hl.1.1 rfl (lv_room (Nat.le_of_ble_eq_true rfl)) dJ6_containsKey_2 ⟨(Nat.le_of_ble_eq_true rfl), (Nat.le_of_ble_eq_true rfl)⟩) (gh_out M hex (by exact Nat.le_of_ble_eq_true rfl) (by exact Nat.le_of_ble_eq_true rfl)) (fun r2 h3 H locs hw G => ?_)
  refine gh_ifnull (tgt := 12) hx hb dJ6_containsKey_5 (by decide) (fun hc => ?_) (fun hc => ?_)
  · replace hw := hw.1 hc
    refine lv_iconst (v := (0 : Int32)) hx hb dJ6_containsKey_12 (by decide) ?_
    exact wk_J6_containsKey_13 M hr hex  (0 : Int32) _ _ _ _ G (gh_sub hl [] rfl) hw
  · replace hw := hw.2 hc
    refine lv_iconst (v := (1 : Int32)) hx hb dJ6_containsKey_8 (by decide) ?_
    refine lv_goto (tgt := 13) hx hb dJ6_containsKey_9 (by decide) ?_
    exact wk_J6_containsKey_13 M hr hex  (1 : Int32) _ _ _ _ G (gh_sub hl [] rfl) hw
/-! java/util/TreeSet.contains (Ljava/lang/Object;)Z -/
def rm_J4_contains : Room := { frames := 6, cells := 0, slots := 0, locals := 148 }
def wp_J4_contains (κ : Nat → Nat) (v0 : Nat) (v1 : Option Nat) (Q : Int32 → gh_H → Prop) (X : String → gh_H → Prop) (h : gh_H) : Prop := (gh_GR h (some v0) [(10, 0)] (fun x1 => (gh_RC h x1 11 (fun a2 => (wp_J6_containsKey κ a2 v1 (fun r3 h4 => (narrow .boolean (.int r3) = .int r3 ∧ Q r3 h4)) X h)))))
set_option maxHeartbeats 4000000 in
theorem met_J4_contains (l : Launch) (D : gh_D) (v0 : Nat) (v1 : Option Nat) (Q : Int32 → gh_H → Prop) (X : String → gh_H → Prop) (h : gh_H) (sz : Nat) (hw : wp_J4_contains D.2.2 v0 v1 Q X h) (hst : l.stackTraces = false) : vx_Met l yJ4_contains (ws_ yJ4_contains cJ4_contains 2 (some .boolean)) rm_J4_contains (gh_Pc D h sz [.ref v0, va_rf v1]) (gh_Qi Q D h sz) (gh_X X D h sz) 0 0 (gh_A h sz) := by
  refine vx_ofW (by decide) rfl (fun p e s m args below meth c s₁ B hml hex hP => ?_)
  obtain ⟨rfl, rfl, hK, hT, hE, G⟩ := gh_start hP
  have M : gh_M D p l s m _ meth c RJ4 cJ4_contains 2 (gh_A h s.heap.size) := ⟨⟨B.exec, B.bytes, hml, findClass_of_methodNamed B.named, fun w hw => atoms_spec (ws := ws_ yJ4_contains cJ4_contains 2 (some .boolean)) B.pre w (List.mem_cons_of_mem _ hw)⟩, hK, hT, hE, B.notSynchronized, hst⟩
  have hr := B.returns
  have hx := M.1.1
  have hb := M.1.2.1
  refine gh_enter (vs := [(1, .ref v0), (1, va_rf v1)]) (gh_w1 rfl (gh_w1 (gh_cat _) gh_wn)) (Nat.le_of_ble_eq_true rfl) (fun ls hl => ?_)
  replace hl : gh_L ls 2 [(0, 1, va_rf (some v0)), (1, 1, va_rf v1)] := hl
  unfold wp_J4_contains at hw
  refine gh_aload_n hx hb dJ4_contains_0 rfl (gh_at hl 0 rfl) ?_
  refine gh_getR M G hw fl_J4_7 dJ4_contains_1 (fun x1 hw => ?_)
  refine gh_aload_n hx hb dJ4_contains_4 rfl (gh_at hl 1 rfl) ?_
  obtain ⟨a2, lba2, fsa2, rfl, haa2, hw⟩ := hw
  refine gh_kFi G (gh_runIU (C := "java/util/TreeMap") M (met_J6_containsKey l D _ _ _ _ _ _ hw M.2.2.2.2.2) (lw_meth q1388) rfl rfl rfl ⟨Nat.le_of_ble_eq_true rfl, Nat.le_of_ble_eq_true rfl⟩ (List.mem_of_getElem? (i := 6) rfl) (List.mem_of_getElem? (i := 3) rfl) (List.mem_of_getElem? (i := 195) rfl) (List.mem_of_getElem? (i := 194) rfl) q1384 (by decide) q1386 q48 (List.mem_of_getElem? (i := 109) rfl) (List.mem_of_getElem? (i := 108) rfl) (List.mem_of_getElem? (i := 99) rfl) rfl (gh_preV (As := [va_rf v1]) M G (gh_rec M G haa2 rfl)) rfl hl.1.1 rfl (Nat.le_of_ble_eq_true rfl) dJ4_contains_5 ⟨(Nat.le_of_ble_eq_true rfl), (Nat.le_of_ble_eq_true rfl)⟩) (gh_out M hex (by exact Nat.le_of_ble_eq_true rfl) (by exact Nat.le_of_ble_eq_true rfl)) (fun r3 h4 H locs hw G => ?_)
  exact gh_iret M G hr hw.1 hw.2 (by exact Nat.le_of_ble_eq_true rfl) (by exact Nat.le_of_ble_eq_true rfl) dJ4_contains_10
/-! java/util/TreeMap$PrivateEntryIterator.remove ()V -/
theorem fl_J27_45 : gh_FL RJ27 45 [(12, 2)] := by
  intro args s hts tb q hq
  simp only [List.mem_cons, List.not_mem_nil, or_false] at hq
  subst hq
  exact ⟨_, "java/util/TreeMap$Entry", rfl, by decide, Or.inl (hts _ q1014), (fun x h => h)⟩
theorem fl_J27_50 : gh_FL RJ27 50 [(12, 3)] := by
  intro args s hts tb q hq
  simp only [List.mem_cons, List.not_mem_nil, or_false] at hq
  subst hq
  exact ⟨_, "java/util/TreeMap$Entry", rfl, by decide, Or.inl (hts _ q1016), (fun x h => h)⟩
theorem at_J27_44 {args : Array Value} {s : State} (hts : ∀ w ∈ lw_all, w.before args s = true) (tb : gh_Tb s) : ∀ w ∈ (vx_at0 RJ27 44 "java/lang/IllegalStateException" ["java/lang/RuntimeException", "java/lang/Exception"]), w.before args s = true := by
  refine vx_hat (B := [Cond.declares ({ cls := "java/lang/RuntimeException", name := "<init>", desc := "()V" } : MethodName), Cond.declares ({ cls := "java/lang/Exception", name := "<init>", desc := "()V" } : MethodName), Cond.declares ({ cls := "java/lang/Throwable", name := "<init>", desc := "()V" } : MethodName), Cond.castable "java/lang/IllegalStateException" "java/lang/IllegalStateException"]) (fun w hw => hts w (lw_in _ [51, 291, 300, 309, 312, 314, 292, 293, 91, 92, 294, 299, 310, 327, 281, 328, 283, 329, 285, 295, 297, 287, 316, 317, 318, 319, 319, 320, 321, 322, 322, 323, 324, 292, 1318, 270, 278, 279, 280, 282, 284, 286, 290, 289, 288] (by decide +kernel) (by decide +kernel) w hw)) (by decide +kernel) ?_
  exact vx_c (va_Nw.use rfl (tb.1 _ (List.mem_of_getElem? (i := 116) rfl))) (vx_c (va_Nw.use rfl (tb.1 _ (List.mem_of_getElem? (i := 114) rfl))) (vx_c (va_Nw.use rfl (tb.1 _ (List.mem_of_getElem? (i := 111) rfl))) (vx_c (va_Nw.use rfl (tb.1 _ (List.mem_of_getElem? (i := 4) rfl))) (vx_n))))
theorem at_J27_44_g : ∀ w ∈ Cond.classLink RJ27 42 "java/lang/IllegalStateException" :: Cond.initialized "java/lang/IllegalStateException" :: (vx_at0 RJ27 44 "java/lang/IllegalStateException" ["java/lang/RuntimeException", "java/lang/Exception"]), vx_ot w = true := by decide +kernel
def rm_J27_remove : Room := { frames := 6, cells := 1, slots := 6, locals := 106 }
def wb_J27_remove_65 (κ : Nat → Nat)  (Q : gh_H → Prop) (X : String → gh_H → Prop) (v0 : Nat) (h : gh_H) : Prop := (gh_GR h (some v0) [(13, 3)] (fun x1 => (gh_GR h (some v0) [(13, 1)] (fun x2 => (gh_RC h x1 11 (fun a3 => (wp_J6_deleteEntry κ a3 x2 (fun h4 => (gh_GR h4 (some v0) [(13, 3)] (fun x5 => (gh_GI h4 x5 [(11, 5)] (fun x6 => (gh_PV h4 (some v0) [(13, 2)] (.int x6) (fun h7 => (gh_PV h7 (some v0) [(13, 1)] (va_rf none) (fun h8 => (Q h8)))))))))) X h)))))))
def wp_J27_remove (κ : Nat → Nat) (v0 : Nat) (Q : gh_H → Prop) (X : String → gh_H → Prop) (h : gh_H) : Prop := (gh_GR h (some v0) [(13, 1)] (fun x1 => ((x1 = none → (X "java/lang/IllegalStateException" h)) ∧ (¬ x1 = none → (gh_GR h (some v0) [(13, 3)] (fun x2 => (gh_GI h x2 [(11, 5)] (fun x3 => (gh_GI h (some v0) [(13, 2)] (fun x4 => ((x3 = x4 → (gh_GR h (some v0) [(13, 1)] (fun x5 => (gh_GR h x5 [(12, 2)] (fun x6 => ((x6 = none → wb_J27_remove_65 κ Q X v0 h) ∧ (¬ x6 = none → (gh_GR h (some v0) [(13, 1)] (fun x7 => (gh_GR h x7 [(12, 3)] (fun x8 => ((x8 = none → wb_J27_remove_65 κ Q X v0 h) ∧ (¬ x8 = none → (gh_GR h (some v0) [(13, 1)] (fun x9 => (gh_PV h (some v0) [(13, 0)] (va_rf x9) (fun h10 => wb_J27_remove_65 κ Q X v0 h10))))))))))))))))) ∧ (¬ x3 = x4 → False))))))))))))
set_option maxHeartbeats 4000000 in
theorem wk_J27_remove_65 {D : gh_D} {p : Program} {l : Launch} {e : Env} {s : State} {m : MethodId} {args : Array Value} {below : List Frame} {meth : Method} {c : Code} {h0 : gh_H} (M : gh_M D p l s m args meth c RJ27 cJ27_remove 1 (gh_A h0 s.heap.size)) (hr : meth.sig.returnType = none) (hex : ∀ x ∈ c.exceptionTable.toList, False)   {Q : gh_H → Prop} {X : String → gh_H → Prop}   (v0 : Nat) (H : Heap) (locs : List Loc) (ls : Array Slot) (h : gh_H) (G : gh_Inv D h0 (gh_A h0 s.heap.size) s.heap s H locs h) (hl : gh_L ls 1 [(0, 1, va_rf (some v0))]) (hw : wb_J27_remove_65 D.2.2 Q X v0 h) : W p l e rm_J27_remove s m args below meth c H locs 0 0 (vx_MQ below (gh_Qv Q D h0 s.heap.size) (gh_X X D h0 s.heap.size) args s 1 6 (gh_A h0 s.heap.size)) (F0 m 65 ls []) := by
  unfold wb_J27_remove_65 at hw
  have hx := M.1.1
  have hb := M.1.2.1
  refine gh_aload_n hx hb dJ27_remove_65 rfl (gh_at hl 0 rfl) ?_
  refine gh_getR M G hw fl_J27_1 dJ27_remove_66 (fun x1 hw => ?_)
  refine gh_aload_n hx hb dJ27_remove_69 rfl (gh_at hl 0 rfl) ?_
  refine gh_getR M G hw fl_J27_22 dJ27_remove_70 (fun x2 hw => ?_)
  obtain ⟨a3, lba3, fsa3, rfl, haa3, hw⟩ := hw
  refine gh_kv G (vx_runVN M.1 (met_J6_deleteEntry l D _ _ _ _ _ _ hw M.2.2.2.2.2) ⟨va_cnB (host := "java/util/TreeMap") 1 (gh_Mts M) (lw_meth q1255) rfl rfl rfl (M.2.2.1.1 _ (List.mem_of_getElem? (i := 62) rfl)) (gh_Mts M _ q48) ⟨by decide, by decide, rfl⟩ ⟨Nat.le_of_ble_eq_true rfl, Nat.le_of_ble_eq_true rfl⟩, gh_Mts M _ q1254, gh_Mts M _ qs16⟩ (gh_preV (As := [va_rf x2]) M G (gh_rec M G haa3 rfl)) rfl rfl hl.1.1 rfl (lv_room (Nat.le_of_ble_eq_true rfl)) dJ27_remove_73 ⟨(Nat.le_of_ble_eq_true rfl), (Nat.le_of_ble_eq_true rfl)⟩) (gh_out M hex (by exact Nat.le_of_ble_eq_true rfl) (by exact Nat.le_of_ble_eq_true rfl)) (fun h4 H locs hw G => ?_)
  refine gh_aload_n hx hb dJ27_remove_76 rfl (gh_at hl 0 rfl) ?_
  refine gh_aload_n hx hb dJ27_remove_77 rfl (gh_at hl 0 rfl) ?_
  refine gh_getR M G hw fl_J27_1 dJ27_remove_78 (fun x5 hw => ?_)
  refine gh_getI M G hw fl_J27_13 dJ27_remove_81 (fun x6 hw => ?_)
  refine gh_put M G hw fp_J27_19 rfl rfl dJ27_remove_84 (fun h7 H locs hw G => ?_)
  refine gh_aload_n hx hb dJ27_remove_87 rfl (gh_at hl 0 rfl) ?_
  refine gh_null hx hb dJ27_remove_88 ?_
  refine gh_put M G hw fp_J27_22 (gh_narR _ _) (gh_fitR _ _) dJ27_remove_89 (fun h8 H locs hw G => ?_)
  exact gh_vret M G hr hw (by exact Nat.le_of_ble_eq_true rfl) (by exact Nat.le_of_ble_eq_true rfl) dJ27_remove_92
set_option maxHeartbeats 4000000 in
theorem met_J27_remove (l : Launch) (D : gh_D) (v0 : Nat) (Q : gh_H → Prop) (X : String → gh_H → Prop) (h : gh_H) (sz : Nat) (hw : wp_J27_remove D.2.2 v0 Q X h) (hst : l.stackTraces = false) : vx_Met l yJ27_remove (ws_ yJ27_remove cJ27_remove 1 none) rm_J27_remove (gh_Pc D h sz [.ref v0]) (gh_Qv Q D h sz) (gh_X X D h sz) 1 6 (gh_A h sz) := by
  refine vx_ofW (by decide) rfl (fun p e s m args below meth c s₁ B hml hex hP => ?_)
  obtain ⟨rfl, rfl, hK, hT, hE, G⟩ := gh_start hP
  have M : gh_M D p l s m _ meth c RJ27 cJ27_remove 1 (gh_A h s.heap.size) := ⟨⟨B.exec, B.bytes, hml, findClass_of_methodNamed B.named, fun w hw => atoms_spec (ws := ws_ yJ27_remove cJ27_remove 1 none) B.pre w (List.mem_cons_of_mem _ hw)⟩, hK, hT, hE, B.notSynchronized, hst⟩
  have hr := B.returns
  have hx := M.1.1
  have hb := M.1.2.1
  refine gh_enter (vs := [(1, .ref v0)]) (gh_w1 rfl gh_wn) (Nat.le_of_ble_eq_true rfl) (fun ls hl => ?_)
  replace hl : gh_L ls 1 [(0, 1, va_rf (some v0))] := hl
  unfold wp_J27_remove at hw
  refine gh_aload_n hx hb dJ27_remove_0 rfl (gh_at hl 0 rfl) ?_
  refine gh_getR M G hw fl_J27_22 dJ27_remove_1 (fun x1 hw => ?_)
  refine gh_ifnonnull (tgt := 15) hx hb dJ27_remove_4 (by decide) (fun hc => ?_) (fun hc => ?_)
  · replace hw := hw.2 hc
    refine gh_aload_n hx hb dJ27_remove_15 rfl (gh_at hl 0 rfl) ?_
    refine gh_getR M G hw fl_J27_1 dJ27_remove_16 (fun x2 hw => ?_)
    refine gh_getI M G hw fl_J27_13 dJ27_remove_19 (fun x3 hw => ?_)
    refine gh_aload_n hx hb dJ27_remove_22 rfl (gh_at hl 0 rfl) ?_
    refine gh_getI M G hw fl_J27_19 dJ27_remove_23 (fun x4 hw => ?_)
    refine lv_icmp_eq (tgt := 37) hx hb dJ27_remove_26 (by decide) (fun hc => ?_) (fun hc => ?_)
    · replace hw := hw.1 hc
      refine gh_aload_n hx hb dJ27_remove_37 rfl (gh_at hl 0 rfl) ?_
      refine gh_getR M G hw fl_J27_22 dJ27_remove_38 (fun x5 hw => ?_)
      refine gh_getR M G hw fl_J27_45 dJ27_remove_41 (fun x6 hw => ?_)
      refine gh_ifnull (tgt := 65) hx hb dJ27_remove_44 (by decide) (fun hc => ?_) (fun hc => ?_)
      · replace hw := hw.1 hc
        exact wk_J27_remove_65 M hr hex  v0 _ _ _ _ G (gh_sub hl [0] rfl) hw
      · replace hw := hw.2 hc
        refine gh_aload_n hx hb dJ27_remove_47 rfl (gh_at hl 0 rfl) ?_
        refine gh_getR M G hw fl_J27_22 dJ27_remove_48 (fun x7 hw => ?_)
        refine gh_getR M G hw fl_J27_50 dJ27_remove_51 (fun x8 hw => ?_)
        refine gh_ifnull (tgt := 65) hx hb dJ27_remove_54 (by decide) (fun hc => ?_) (fun hc => ?_)
        · replace hw := hw.1 hc
          exact wk_J27_remove_65 M hr hex  v0 _ _ _ _ G (gh_sub hl [0] rfl) hw
        · replace hw := hw.2 hc
          refine gh_aload_n hx hb dJ27_remove_57 rfl (gh_at hl 0 rfl) ?_
          refine gh_aload_n hx hb dJ27_remove_58 rfl (gh_at hl 0 rfl) ?_
          refine gh_getR M G hw fl_J27_22 dJ27_remove_59 (fun x9 hw => ?_)
          refine gh_put M G hw fp_J27_26 (gh_narR _ _) (gh_fitR _ _) dJ27_remove_62 (fun h10 H locs hw G => ?_)
          exact wk_J27_remove_65 M hr hex  v0 _ _ _ _ G (gh_sub hl [0] rfl) hw
    · replace hw := hw.2 hc
      exact hw.elim
  · replace hw := hw.1 hc
    exact gh_throw (names := ["java/lang/RuntimeException", "java/lang/Exception"]) M G hex hw (by decide +kernel) (by decide +kernel) q1317 q54 (at_J27_44 (gh_Mts M) M.2.2.1) at_J27_44_g hl.1.1 dJ27_remove_7 dJ27_remove_10 dJ27_remove_11 dJ27_remove_14 (Nat.le_of_ble_eq_true rfl) (Nat.le_trans (Nat.add_le_add_right gh_r0 _) (Nat.le_of_ble_eq_true rfl)) (Nat.le_of_ble_eq_true rfl) (Nat.le_of_ble_eq_true rfl) (Nat.le_of_ble_eq_true rfl) (Nat.le_of_ble_eq_true rfl)
/-! java/util/AbstractSet.removeAll (Ljava/util/Collection;)Z -/
def rm_J3_removeAll : Room := { frames := 8, cells := 404, slots := 2417, locals := 184 }
def wb_J3_removeAll_99 (κ : Nat → Nat)  (Q : Int32 → gh_H → Prop) (X : String → gh_H → Prop) (v2 : Int32) (h : gh_H) : Prop := (narrow .boolean (.int v2) = .int v2 ∧ Q v2 h)
def wb_J3_removeAll_64 (κ : Nat → Nat) (K64 : Nat → Option Nat → Int32 → Option Nat → gh_H → Prop) (it64 : Nat) (Q : Int32 → gh_H → Prop) (X : String → gh_H → Prop) (v1 : Option Nat) (v2 : Int32) (v3 : Option Nat) (h : gh_H) : Prop := (gh_RC h v3 13 (fun a1 => (wp_J27_hasNext κ a1 (fun r2 h3 => ((r2 = 0 → wb_J3_removeAll_99 κ Q X v2 h3) ∧ (¬ r2 = 0 → (gh_RC h3 (some a1) 13 (fun _ => (wp_J28_next κ a1 (fun r5 h6 => (gh_RC h6 v1 10 (fun a7 => (wp_J4_contains κ a7 r5 (fun r8 h9 => ((r8 = 0 → K64 (it64 + 1) (some a7) v2 (some a1) h9) ∧ (¬ r8 = 0 → (gh_RC h9 (some a1) 13 (fun _ => (wp_J27_remove κ a1 (fun h11 => K64 (it64 + 1) (some a7) (1 : Int32) (some a1) h11) X h9)))))) X h6)))) X h3)))))) X h)))
def wl_J3_removeAll_64 (κ : Nat → Nat)  (Q : Int32 → gh_H → Prop) (X : String → gh_H → Prop) : Nat → Nat → Option Nat → Int32 → Option Nat → gh_H → Prop
  | 0 => fun _ _ _ _ _ => False
  | n + 1 => fun it64 v1 v2 v3 h => it64 ≤ 200 ∧ wb_J3_removeAll_64 κ (wl_J3_removeAll_64 κ Q X n) it64 Q X v1 v2 v3 h
def wb_J3_removeAll_27 (κ : Nat → Nat) (K27 : Nat → Nat → Int32 → Option Nat → gh_H → Prop) (it27 : Nat) (Q : Int32 → gh_H → Prop) (X : String → gh_H → Prop) (v0 : Nat) (v2 : Int32) (v3 : Option Nat) (h : gh_H) : Prop := (gh_RC h v3 13 (fun a1 => (wp_J27_hasNext κ a1 (fun r2 h3 => ((r2 = 0 → wb_J3_removeAll_99 κ Q X v2 h3) ∧ (¬ r2 = 0 → (gh_RC h3 (some a1) 13 (fun _ => (wp_J28_next κ a1 (fun r5 h6 => (gh_RC h6 (some v0) 10 (fun _ => (wp_J4_remove κ v0 r5 (fun r8 h9 => K27 (it27 + 1) v0 (v2 ||| r8) (some a1) h9) X h6)))) X h3)))))) X h)))
def wl_J3_removeAll_27 (κ : Nat → Nat)  (Q : Int32 → gh_H → Prop) (X : String → gh_H → Prop) : Nat → Nat → Nat → Int32 → Option Nat → gh_H → Prop
  | 0 => fun _ _ _ _ _ => False
  | n + 1 => fun it27 v0 v2 v3 h => it27 ≤ 200 ∧ wb_J3_removeAll_27 κ (wl_J3_removeAll_27 κ Q X n) it27 Q X v0 v2 v3 h
def wp_J3_removeAll (κ : Nat → Nat) (v0 : Nat) (v1 : Option Nat) (Q : Int32 → gh_H → Prop) (X : String → gh_H → Prop) (h : gh_H) : Prop := (wp_J17_requireNonNull κ v1 (fun r1 h2 => (gh_RC h2 (some v0) 10 (fun _ => (wp_J4_size κ v0 (fun r4 h5 => (gh_RC h5 v1 10 (fun a6 => (wp_J4_size κ a6 (fun r7 h8 => ((r4 ≤ r7 → (gh_RC h8 (some v0) 10 (fun _ => (wp_J4_iterator κ v0 (fun r10 h11 => (∃ n : Nat, wl_J3_removeAll_64 κ Q X n 0 (some a6) (0 : Int32) r10 h11)) X h8)))) ∧ (¬ r4 ≤ r7 → (gh_RC h8 (some a6) 10 (fun _ => (wp_J4_iterator κ a6 (fun r13 h14 => (∃ n : Nat, wl_J3_removeAll_27 κ Q X n 0 v0 (0 : Int32) r13 h14)) X h8)))))) X h5)))) X h2)))) X h)
set_option maxHeartbeats 4000000 in
theorem wk_J3_removeAll_99 {D : gh_D} {p : Program} {l : Launch} {e : Env} {s : State} {m : MethodId} {args : Array Value} {below : List Frame} {meth : Method} {c : Code} {h0 : gh_H} (M : gh_M D p l s m args meth c RJ3 cJ3_removeAll 5 (gh_A h0 s.heap.size)) (hr : meth.sig.returnType = (some .boolean)) (hex : ∀ x ∈ c.exceptionTable.toList, False)   {Q : Int32 → gh_H → Prop} {X : String → gh_H → Prop}   (v2 : Int32) (H : Heap) (locs : List Loc) (ls : Array Slot) (h : gh_H) (G : gh_Inv D h0 (gh_A h0 s.heap.size) s.heap s H locs h) (hl : gh_L ls 5 [(2, 1, .int v2)]) (hw : wb_J3_removeAll_99 D.2.2 Q X v2 h) : W p l e rm_J3_removeAll s m args below meth c H locs 402 2405 (vx_MQ below (gh_Qi Q D h0 s.heap.size) (gh_X X D h0 s.heap.size) args s 404 2417 (gh_A h0 s.heap.size)) (F0 m 99 ls []) := by
  unfold wb_J3_removeAll_99 at hw
  have hx := M.1.1
  have hb := M.1.2.1
  refine lv_iload_n hx hb dJ3_removeAll_99 rfl (gh_at hl 0 rfl) ?_
  exact gh_iret M G hr hw.1 hw.2 (by exact Nat.le_of_ble_eq_true rfl) (by exact Nat.le_of_ble_eq_true rfl) dJ3_removeAll_100
set_option maxHeartbeats 4000000 in
theorem wk1_J3_removeAll_64 {D : gh_D} {p : Program} {l : Launch} {e : Env} {s : State} {m : MethodId} {args : Array Value} {below : List Frame} {meth : Method} {c : Code} {h0 : gh_H} (M : gh_M D p l s m args meth c RJ3 cJ3_removeAll 5 (gh_A h0 s.heap.size)) (hr : meth.sig.returnType = (some .boolean)) (hex : ∀ x ∈ c.exceptionTable.toList, False) {K64 : Nat → Option Nat → Int32 → Option Nat → gh_H → Prop} {it64 : Nat} {Q : Int32 → gh_H → Prop} {X : String → gh_H → Prop} (k64 : ∀ (it64 : Nat) (v1 : Option Nat) (v2 : Int32) (v3 : Option Nat) (H : Heap) (locs : List Loc) (ls : Array Slot) (h : gh_H) (_ : gh_Inv D h0 (gh_A h0 s.heap.size) s.heap s H locs h) (_ : gh_L ls 5 [(1, 1, va_rf v1), (2, 1, .int v2), (3, 1, va_rf v3)]) (_ : K64 it64 v1 v2 v3 h), W p l e rm_J3_removeAll s m args below meth c H locs (2 + it64 * 2) (5 + it64 * 12) (vx_MQ below (gh_Qi Q D h0 s.heap.size) (gh_X X D h0 s.heap.size) args s 404 2417 (gh_A h0 s.heap.size)) (F0 m 64 ls [])) (hit64 : it64 ≤ 200) (v1 : Option Nat) (v2 : Int32) (v3 : Option Nat) (H : Heap) (locs : List Loc) (ls : Array Slot) (h : gh_H) (G : gh_Inv D h0 (gh_A h0 s.heap.size) s.heap s H locs h) (hl : gh_L ls 5 [(1, 1, va_rf v1), (2, 1, .int v2), (3, 1, va_rf v3)]) (hw : wb_J3_removeAll_64 D.2.2 K64 it64 Q X v1 v2 v3 h) : W p l e rm_J3_removeAll s m args below meth c H locs (2 + it64 * 2) (5 + it64 * 12) (vx_MQ below (gh_Qi Q D h0 s.heap.size) (gh_X X D h0 s.heap.size) args s 404 2417 (gh_A h0 s.heap.size)) (F0 m 64 ls []) := by
  unfold wb_J3_removeAll_64 at hw
  have hx := M.1.1
  have hb := M.1.2.1
  refine gh_aload_n hx hb dJ3_removeAll_64 rfl (gh_at hl 2 rfl) ?_
  obtain ⟨a1, lba1, fsa1, rfl, haa1, hw⟩ := hw
  refine gh_kFi G (vx_runF (C := "java/util/TreeMap$KeyIterator") (M.2.1.1.1 13 _ rfl).2 M.1 (met_J27_hasNext l D _ _ _ _ _ hw M.2.2.2.2.2) (va_cwF 0 (gh_Mts M) (gh_gF q1226 q574 q576 q79 q578) rfl rfl rfl (M.2.2.1.2.1 _ (List.mem_of_getElem? (i := 15) rfl)) ⟨by decide, by decide, rfl⟩ ⟨Nat.le_of_ble_eq_true rfl, Nat.le_of_ble_eq_true rfl⟩) (gh_preV (As := []) M G (gh_rec M G haa1 rfl)) rfl rfl hl.1.1 rfl (lv_room (Nat.le_of_ble_eq_true rfl)) dJ3_removeAll_65 ⟨(by show _ ≤ 404; omega), (by show _ ≤ 2417; omega)⟩) (gh_out M hex (by omega) (by omega)) (fun r2 h3 H locs hw G => ?_)
  refine W.widen (k := 2 + it64 * 2) (n := 5 + it64 * 12) (by omega) (by omega) ?_
  refine lv_if_eq (tgt := 99) hx hb dJ3_removeAll_70 (by decide) (fun hc => ?_) (fun hc => ?_)
  · replace hw := hw.1 hc
    refine W.widen (k := 402) (n := 2405) (by omega) (by omega) ?_
    exact wk_J3_removeAll_99 M hr hex  v2 _ _ _ _ G (gh_sub hl [1] rfl) hw
  · replace hw := hw.2 hc
    refine gh_aload_n hx hb dJ3_removeAll_73 rfl (gh_at hl 0 rfl) ?_
    refine gh_aload_n hx hb dJ3_removeAll_74 rfl (gh_at hl 2 rfl) ?_
    obtain ⟨a4, lba4, fsa4, hra4, haa4, hw⟩ := hw
    rw [← Option.some.inj hra4] at haa4
    refine gh_kFq G (vx_runF (C := "java/util/TreeMap$KeyIterator") (M.2.1.1.1 13 _ rfl).2 M.1 (met_J28_next l D _ _ _ _ _ hw M.2.2.2.2.2) (va_cwF 0 (gh_Mts M) (gh_gF q1228 q607 q609 q80 q611) rfl rfl rfl (M.2.2.1.2.1 _ (List.mem_of_getElem? (i := 16) rfl)) ⟨by decide, by decide, rfl⟩ ⟨Nat.le_of_ble_eq_true rfl, Nat.le_of_ble_eq_true rfl⟩) (gh_preV (As := []) M G (gh_rec M G haa4 rfl)) rfl rfl hl.1.1 rfl (lv_room (Nat.le_trans (gh_r1 (gh_cat _) gh_r0) (Nat.le_of_ble_eq_true rfl : 1 ≤ 8))) dJ3_removeAll_75 ⟨(by show _ ≤ 404; omega), (by show _ ≤ 2417; omega)⟩) (gh_out M hex (by omega) (by omega)) (fun r5 h6 H locs hw G => ?_)
    refine W.widen (k := 3 + it64 * 2) (n := 11 + it64 * 12) (by omega) (by omega) ?_
    obtain ⟨a7, lba7, fsa7, rfl, haa7, hw⟩ := hw
    refine gh_kFi G (vx_runF (C := "java/util/TreeSet") (M.2.1.1.1 10 _ rfl).2 M.1 (met_J4_contains l D _ _ _ _ _ _ hw M.2.2.2.2.2) (va_cwF 1 (gh_Mts M) (gh_gF q1359 q1389 q1391 q46 q1393) rfl rfl rfl (M.2.2.1.2.1 _ (List.mem_of_getElem? (i := 26) rfl)) ⟨by decide, by decide, rfl⟩ ⟨Nat.le_of_ble_eq_true rfl, Nat.le_of_ble_eq_true rfl⟩) (gh_preV (As := [va_rf r5]) M G (gh_rec M G haa7 rfl)) rfl rfl hl.1.1 rfl (lv_room (Nat.le_of_ble_eq_true rfl)) dJ3_removeAll_80 ⟨(by show _ ≤ 404; omega), (by show _ ≤ 2417; omega)⟩) (gh_out M hex (by omega) (by omega)) (fun r8 h9 H locs hw G => ?_)
    refine W.widen (k := 3 + it64 * 2) (n := 11 + it64 * 12) (by omega) (by omega) ?_
    refine lv_if_eq (tgt := 64) hx hb dJ3_removeAll_85 (by decide) (fun hc => ?_) (fun hc => ?_)
    · replace hw := hw.1 hc
      refine W.widen (k := 2 + (it64 + 1) * 2) (n := 5 + (it64 + 1) * 12) (by omega) (by omega) ?_
      exact k64 (it64 + 1) (some a7) v2 (some a1) _ _ _ _ G (gh_sub hl [0, 1, 2] rfl) hw
    · replace hw := hw.2 hc
      refine gh_aload_n hx hb dJ3_removeAll_88 rfl (gh_at hl 2 rfl) ?_
      obtain ⟨a10, lba10, fsa10, hra10, haa10, hw⟩ := hw
      rw [← Option.some.inj hra10] at haa10
      refine gh_kFv G (vx_runF (C := "java/util/TreeMap$KeyIterator") (M.2.1.1.1 13 _ rfl).2 M.1 (met_J27_remove l D _ _ _ _ _ hw M.2.2.2.2.2) (va_cwF 0 (gh_Mts M) (gh_gF q1396 q1312 q1314 q79 q1316) rfl rfl rfl (M.2.2.1.2.1 _ (List.mem_of_getElem? (i := 17) rfl)) ⟨by decide, by decide, rfl⟩ ⟨Nat.le_of_ble_eq_true rfl, Nat.le_of_ble_eq_true rfl⟩) (gh_preV (As := []) M G (gh_rec M G haa10 rfl)) rfl rfl hl.1.1 rfl (lv_room (Nat.le_of_ble_eq_true rfl)) dJ3_removeAll_89 ⟨(by show _ ≤ 404; omega), (by show _ ≤ 2417; omega)⟩) (gh_out M hex (by omega) (by omega)) (fun h11 H locs hw G => ?_)
      refine W.widen (k := 4 + it64 * 2) (n := 17 + it64 * 12) (by omega) (by omega) ?_
      refine lv_iconst (v := (1 : Int32)) hx hb dJ3_removeAll_94 (by decide) ?_
      refine gh_istore_n (lv' := [(2, 1, .int (1 : Int32)), (1, 1, va_rf (some a7)), (3, 1, va_rf (some a1))]) hx hb dJ3_removeAll_95 rfl hl (by decide) rfl (fun ls hl => ?_)
      refine lv_goto (tgt := 64) hx hb dJ3_removeAll_96 (by decide) ?_
      refine W.widen (k := 2 + (it64 + 1) * 2) (n := 5 + (it64 + 1) * 12) (by omega) (by omega) ?_
      exact k64 (it64 + 1) (some a7) (1 : Int32) (some a1) _ _ _ _ G (gh_sub hl [1, 0, 2] rfl) hw
theorem wk_J3_removeAll_64 {D : gh_D} {p : Program} {l : Launch} {e : Env} {s : State} {m : MethodId} {args : Array Value} {below : List Frame} {meth : Method} {c : Code} {h0 : gh_H} (M : gh_M D p l s m args meth c RJ3 cJ3_removeAll 5 (gh_A h0 s.heap.size)) (hr : meth.sig.returnType = (some .boolean)) (hex : ∀ x ∈ c.exceptionTable.toList, False)   {Q : Int32 → gh_H → Prop} {X : String → gh_H → Prop}   : ∀ (n : Nat) (it64 : Nat) (v1 : Option Nat) (v2 : Int32) (v3 : Option Nat) (H : Heap) (locs : List Loc) (ls : Array Slot) (h : gh_H) (_ : gh_Inv D h0 (gh_A h0 s.heap.size) s.heap s H locs h) (_ : gh_L ls 5 [(1, 1, va_rf v1), (2, 1, .int v2), (3, 1, va_rf v3)]) (_ : wl_J3_removeAll_64 D.2.2 Q X n it64 v1 v2 v3 h), W p l e rm_J3_removeAll s m args below meth c H locs (2 + it64 * 2) (5 + it64 * 12) (vx_MQ below (gh_Qi Q D h0 s.heap.size) (gh_X X D h0 s.heap.size) args s 404 2417 (gh_A h0 s.heap.size)) (F0 m 64 ls []) := by
  intro fu
  induction fu with
  | zero => intro it64 v1 v2 v3 H locs ls h G hl hw; exact False.elim hw
  | succ n1 ih =>
    intro it64 v1 v2 v3 H locs ls h G hl hw
    obtain ⟨hi, hw⟩ := hw
    exact wk1_J3_removeAll_64 M hr hex ih hi v1 v2 v3 _ _ _ _ G hl hw
set_option maxHeartbeats 4000000 in
theorem wk1_J3_removeAll_27 {D : gh_D} {p : Program} {l : Launch} {e : Env} {s : State} {m : MethodId} {args : Array Value} {below : List Frame} {meth : Method} {c : Code} {h0 : gh_H} (M : gh_M D p l s m args meth c RJ3 cJ3_removeAll 5 (gh_A h0 s.heap.size)) (hr : meth.sig.returnType = (some .boolean)) (hex : ∀ x ∈ c.exceptionTable.toList, False) {K27 : Nat → Nat → Int32 → Option Nat → gh_H → Prop} {it27 : Nat} {Q : Int32 → gh_H → Prop} {X : String → gh_H → Prop} (k27 : ∀ (it27 : Nat) (v0 : Nat) (v2 : Int32) (v3 : Option Nat) (H : Heap) (locs : List Loc) (ls : Array Slot) (h : gh_H) (_ : gh_Inv D h0 (gh_A h0 s.heap.size) s.heap s H locs h) (_ : gh_L ls 5 [(0, 1, va_rf (some v0)), (2, 1, .int v2), (3, 1, va_rf v3)]) (_ : K27 it27 v0 v2 v3 h), W p l e rm_J3_removeAll s m args below meth c H locs (2 + it27 * 1) (5 + it27 * 6) (vx_MQ below (gh_Qi Q D h0 s.heap.size) (gh_X X D h0 s.heap.size) args s 404 2417 (gh_A h0 s.heap.size)) (F0 m 27 ls [])) (hit27 : it27 ≤ 200) (v0 : Nat) (v2 : Int32) (v3 : Option Nat) (H : Heap) (locs : List Loc) (ls : Array Slot) (h : gh_H) (G : gh_Inv D h0 (gh_A h0 s.heap.size) s.heap s H locs h) (hl : gh_L ls 5 [(0, 1, va_rf (some v0)), (2, 1, .int v2), (3, 1, va_rf v3)]) (hw : wb_J3_removeAll_27 D.2.2 K27 it27 Q X v0 v2 v3 h) : W p l e rm_J3_removeAll s m args below meth c H locs (2 + it27 * 1) (5 + it27 * 6) (vx_MQ below (gh_Qi Q D h0 s.heap.size) (gh_X X D h0 s.heap.size) args s 404 2417 (gh_A h0 s.heap.size)) (F0 m 27 ls []) := by
  unfold wb_J3_removeAll_27 at hw
  have hx := M.1.1
  have hb := M.1.2.1
  refine gh_aload_n hx hb dJ3_removeAll_27 rfl (gh_at hl 2 rfl) ?_
  obtain ⟨a1, lba1, fsa1, rfl, haa1, hw⟩ := hw
  refine gh_kFi G (vx_runF (C := "java/util/TreeMap$KeyIterator") (M.2.1.1.1 13 _ rfl).2 M.1 (met_J27_hasNext l D _ _ _ _ _ hw M.2.2.2.2.2) (va_cwF 0 (gh_Mts M) (gh_gF q1226 q574 q576 q79 q578) rfl rfl rfl (M.2.2.1.2.1 _ (List.mem_of_getElem? (i := 15) rfl)) ⟨by decide, by decide, rfl⟩ ⟨Nat.le_of_ble_eq_true rfl, Nat.le_of_ble_eq_true rfl⟩) (gh_preV (As := []) M G (gh_rec M G haa1 rfl)) rfl rfl hl.1.1 rfl (lv_room (Nat.le_of_ble_eq_true rfl)) dJ3_removeAll_28 ⟨(by show _ ≤ 404; omega), (by show _ ≤ 2417; omega)⟩) (gh_out M hex (by omega) (by omega)) (fun r2 h3 H locs hw G => ?_)
  refine W.widen (k := 2 + it27 * 1) (n := 5 + it27 * 6) (by omega) (by omega) ?_
  refine lv_if_eq (tgt := 56) hx hb dJ3_removeAll_33 (by decide) (fun hc => ?_) (fun hc => ?_)
  · replace hw := hw.1 hc
    refine lv_goto (tgt := 99) hx hb dJ3_removeAll_56 (by decide) ?_
    refine W.widen (k := 402) (n := 2405) (by omega) (by omega) ?_
    exact wk_J3_removeAll_99 M hr hex  v2 _ _ _ _ G (gh_sub hl [1] rfl) hw
  · replace hw := hw.2 hc
    refine gh_aload_n hx hb dJ3_removeAll_36 rfl (gh_at hl 2 rfl) ?_
    obtain ⟨a4, lba4, fsa4, hra4, haa4, hw⟩ := hw
    rw [← Option.some.inj hra4] at haa4
    refine gh_kFq G (vx_runF (C := "java/util/TreeMap$KeyIterator") (M.2.1.1.1 13 _ rfl).2 M.1 (met_J28_next l D _ _ _ _ _ hw M.2.2.2.2.2) (va_cwF 0 (gh_Mts M) (gh_gF q1228 q607 q609 q80 q611) rfl rfl rfl (M.2.2.1.2.1 _ (List.mem_of_getElem? (i := 16) rfl)) ⟨by decide, by decide, rfl⟩ ⟨Nat.le_of_ble_eq_true rfl, Nat.le_of_ble_eq_true rfl⟩) (gh_preV (As := []) M G (gh_rec M G haa4 rfl)) rfl rfl hl.1.1 rfl (lv_room (Nat.le_of_ble_eq_true rfl)) dJ3_removeAll_37 ⟨(by show _ ≤ 404; omega), (by show _ ≤ 2417; omega)⟩) (gh_out M hex (by omega) (by omega)) (fun r5 h6 H locs hw G => ?_)
    refine W.widen (k := 3 + it27 * 1) (n := 11 + it27 * 6) (by omega) (by omega) ?_
    refine gh_astore (lv' := [(4, 1, va_rf r5), (0, 1, va_rf (some v0)), (2, 1, .int v2), (3, 1, va_rf (some a1))]) hx hb dJ3_removeAll_42 hl (by decide) rfl (fun ls hl => ?_)
    refine lv_iload_n hx hb dJ3_removeAll_44 rfl (gh_at hl 2 rfl) ?_
    refine gh_aload_n hx hb dJ3_removeAll_45 rfl (gh_at hl 1 rfl) ?_
    refine gh_aload hx hb dJ3_removeAll_46 (gh_at hl 0 rfl) ?_
    obtain ⟨a7, lba7, fsa7, hra7, haa7, hw⟩ := hw
    rw [← Option.some.inj hra7] at haa7
    refine gh_ki G (vx_runU (C := "java/util/TreeSet") M.1 (met_J4_remove l D _ _ _ _ _ _ hw M.2.2.2.2.2) (va_cwO 1 (gh_Mts M) (gh_gO q1229 q1230 q1265 q1261 q1262 q46 q1263) rfl rfl rfl q1266 ⟨by decide, by decide, rfl⟩ ⟨Nat.le_of_ble_eq_true rfl, Nat.le_of_ble_eq_true rfl⟩) (gh_preV (As := [va_rf r5]) M G (gh_rec M G haa7 rfl)) rfl rfl hl.1.1 rfl (lv_room (Nat.le_of_ble_eq_true rfl)) dJ3_removeAll_48 ⟨(by show _ ≤ 404; omega), (by show _ ≤ 2417; omega)⟩) (gh_out M hex (by omega) (by omega)) (fun r8 h9 H locs hw G => ?_)
    refine W.widen (k := 3 + it27 * 1) (n := 11 + it27 * 6) (by omega) (by omega) ?_
    refine lv_ior hx hb dJ3_removeAll_51 ?_
    refine gh_istore_n (lv' := [(2, 1, .int (v2 ||| r8)), (4, 1, va_rf r5), (0, 1, va_rf (some v0)), (3, 1, va_rf (some a1))]) hx hb dJ3_removeAll_52 rfl hl (by decide) rfl (fun ls hl => ?_)
    refine lv_goto (tgt := 27) hx hb dJ3_removeAll_53 (by decide) ?_
    refine W.widen (k := 2 + (it27 + 1) * 1) (n := 5 + (it27 + 1) * 6) (by omega) (by omega) ?_
    exact k27 (it27 + 1) v0 (v2 ||| r8) (some a1) _ _ _ _ G (gh_sub hl [2, 0, 3] rfl) hw
theorem wk_J3_removeAll_27 {D : gh_D} {p : Program} {l : Launch} {e : Env} {s : State} {m : MethodId} {args : Array Value} {below : List Frame} {meth : Method} {c : Code} {h0 : gh_H} (M : gh_M D p l s m args meth c RJ3 cJ3_removeAll 5 (gh_A h0 s.heap.size)) (hr : meth.sig.returnType = (some .boolean)) (hex : ∀ x ∈ c.exceptionTable.toList, False)   {Q : Int32 → gh_H → Prop} {X : String → gh_H → Prop}   : ∀ (n : Nat) (it27 : Nat) (v0 : Nat) (v2 : Int32) (v3 : Option Nat) (H : Heap) (locs : List Loc) (ls : Array Slot) (h : gh_H) (_ : gh_Inv D h0 (gh_A h0 s.heap.size) s.heap s H locs h) (_ : gh_L ls 5 [(0, 1, va_rf (some v0)), (2, 1, .int v2), (3, 1, va_rf v3)]) (_ : wl_J3_removeAll_27 D.2.2 Q X n it27 v0 v2 v3 h), W p l e rm_J3_removeAll s m args below meth c H locs (2 + it27 * 1) (5 + it27 * 6) (vx_MQ below (gh_Qi Q D h0 s.heap.size) (gh_X X D h0 s.heap.size) args s 404 2417 (gh_A h0 s.heap.size)) (F0 m 27 ls []) := by
  intro fu
  induction fu with
  | zero => intro it27 v0 v2 v3 H locs ls h G hl hw; exact False.elim hw
  | succ n1 ih =>
    intro it27 v0 v2 v3 H locs ls h G hl hw
    obtain ⟨hi, hw⟩ := hw
    exact wk1_J3_removeAll_27 M hr hex ih hi v0 v2 v3 _ _ _ _ G hl hw
set_option maxHeartbeats 4000000 in
theorem met_J3_removeAll (l : Launch) (D : gh_D) (v0 : Nat) (v1 : Option Nat) (Q : Int32 → gh_H → Prop) (X : String → gh_H → Prop) (h : gh_H) (sz : Nat) (hw : wp_J3_removeAll D.2.2 v0 v1 Q X h) (hst : l.stackTraces = false) : vx_Met l yJ3_removeAll (ws_ yJ3_removeAll cJ3_removeAll 5 (some .boolean)) rm_J3_removeAll (gh_Pc D h sz [.ref v0, va_rf v1]) (gh_Qi Q D h sz) (gh_X X D h sz) 404 2417 (gh_A h sz) := by
  refine vx_ofW (by decide) rfl (fun p e s m args below meth c s₁ B hml hex hP => ?_)
  obtain ⟨rfl, rfl, hK, hT, hE, G⟩ := gh_start hP
  have M : gh_M D p l s m _ meth c RJ3 cJ3_removeAll 5 (gh_A h s.heap.size) := ⟨⟨B.exec, B.bytes, hml, findClass_of_methodNamed B.named, fun w hw => atoms_spec (ws := ws_ yJ3_removeAll cJ3_removeAll 5 (some .boolean)) B.pre w (List.mem_cons_of_mem _ hw)⟩, hK, hT, hE, B.notSynchronized, hst⟩
  have hr := B.returns
  have hx := M.1.1
  have hb := M.1.2.1
  refine gh_enter (vs := [(1, .ref v0), (1, va_rf v1)]) (gh_w1 rfl (gh_w1 (gh_cat _) gh_wn)) (Nat.le_of_ble_eq_true rfl) (fun ls hl => ?_)
  replace hl : gh_L ls 5 [(0, 1, va_rf (some v0)), (1, 1, va_rf v1)] := hl
  unfold wp_J3_removeAll at hw
  refine gh_aload_n hx hb dJ3_removeAll_0 rfl (gh_at hl 1 rfl) ?_
  refine gh_kq G (vx_runS M.1 (met_J17_requireNonNull l D _ _ _ _ _ hw M.2.2.2.2.2) (va_cwS 1 (gh_Mts M) (lw_S q1125 q1036 q63 q1037) rfl rfl rfl ⟨by decide, by decide, rfl⟩ ⟨Nat.le_of_ble_eq_true rfl, Nat.le_of_ble_eq_true rfl⟩) (gh_pre M G (As := [va_rf v1])) rfl rfl hl.1.1 rfl (lv_room (Nat.le_of_ble_eq_true rfl)) dJ3_removeAll_1 ⟨(Nat.le_of_ble_eq_true rfl), (Nat.le_of_ble_eq_true rfl)⟩) (gh_out M hex (by exact Nat.le_of_ble_eq_true rfl) (by exact Nat.le_of_ble_eq_true rfl)) (fun r1 h2 H locs hw G => ?_)
  refine lv_pop hx hb dJ3_removeAll_4 (gh_cat _) ?_
  refine lv_iconst (v := (0 : Int32)) hx hb dJ3_removeAll_5 (by decide) ?_
  refine gh_istore_n (lv' := [(2, 1, .int (0 : Int32)), (0, 1, va_rf (some v0)), (1, 1, va_rf v1)]) hx hb dJ3_removeAll_6 rfl hl (by decide) rfl (fun ls hl => ?_)
  refine gh_aload_n hx hb dJ3_removeAll_7 rfl (gh_at hl 1 rfl) ?_
  obtain ⟨a3, lba3, fsa3, hra3, haa3, hw⟩ := hw
  rw [← Option.some.inj hra3] at haa3
  refine gh_ki G (vx_runU (C := "java/util/TreeSet") M.1 (met_J4_size l D _ _ _ _ _ hw M.2.2.2.2.2) (va_cwA 0 (gh_Mts M) (gh_gU q1126 q1127 q1133 q222 q46 q224) rfl rfl rfl (M.2.2.1.1 _ (List.mem_of_getElem? (i := 0) rfl)) ⟨by decide, by decide, rfl⟩ ⟨Nat.le_of_ble_eq_true rfl, Nat.le_of_ble_eq_true rfl⟩) (gh_preV (As := []) M G (gh_rec M G haa3 rfl)) rfl rfl hl.1.1 rfl (lv_room (Nat.le_of_ble_eq_true rfl)) dJ3_removeAll_8 ⟨(Nat.le_of_ble_eq_true rfl), (Nat.le_of_ble_eq_true rfl)⟩) (gh_out M hex (by exact Nat.le_of_ble_eq_true rfl) (by exact Nat.le_of_ble_eq_true rfl)) (fun r4 h5 H locs hw G => ?_)
  refine gh_aload_n hx hb dJ3_removeAll_11 rfl (gh_at hl 2 rfl) ?_
  obtain ⟨a6, lba6, fsa6, rfl, haa6, hw⟩ := hw
  refine gh_kFi G (vx_runF (C := "java/util/TreeSet") (M.2.1.1.1 10 _ rfl).2 M.1 (met_J4_size l D _ _ _ _ _ hw M.2.2.2.2.2) (va_cwF 0 (gh_Mts M) (gh_gF q1135 q1145 q222 q46 q224) rfl rfl rfl (M.2.2.1.2.1 _ (List.mem_of_getElem? (i := 23) rfl)) ⟨by decide, by decide, rfl⟩ ⟨Nat.le_of_ble_eq_true rfl, Nat.le_of_ble_eq_true rfl⟩) (gh_preV (As := []) M G (gh_rec M G haa6 rfl)) rfl rfl hl.1.1 rfl (lv_room (Nat.le_of_ble_eq_true rfl)) dJ3_removeAll_12 ⟨(Nat.le_of_ble_eq_true rfl), (Nat.le_of_ble_eq_true rfl)⟩) (gh_out M hex (by exact Nat.le_of_ble_eq_true rfl) (by exact Nat.le_of_ble_eq_true rfl)) (fun r7 h8 H locs hw G => ?_)
  refine lv_icmp_le (tgt := 59) hx hb dJ3_removeAll_17 (by decide) (fun hc => ?_) (fun hc => ?_)
  · replace hw := hw.1 hc
    refine gh_aload_n hx hb dJ3_removeAll_59 rfl (gh_at hl 1 rfl) ?_
    obtain ⟨a9, lba9, fsa9, hra9, haa9, hw⟩ := hw
    rw [← Option.some.inj hra9] at haa9
    refine gh_kq G (vx_runU (C := "java/util/TreeSet") M.1 (met_J4_iterator l D _ _ _ _ _ hw M.2.2.2.2.2) (va_cwA 0 (gh_Mts M) (gh_gU q1354 q1355 q1357 q1195 q46 q1197) rfl rfl rfl (M.2.2.1.1 _ (List.mem_of_getElem? (i := 2) rfl)) ⟨by decide, by decide, rfl⟩ ⟨Nat.le_of_ble_eq_true rfl, Nat.le_of_ble_eq_true rfl⟩) (gh_preV (As := []) M G (gh_rec M G haa9 rfl)) rfl rfl hl.1.1 rfl (lv_room (Nat.le_of_ble_eq_true rfl)) dJ3_removeAll_60 ⟨(Nat.le_of_ble_eq_true rfl), (Nat.le_of_ble_eq_true rfl)⟩) (gh_out M hex (by exact Nat.le_of_ble_eq_true rfl) (by exact Nat.le_of_ble_eq_true rfl)) (fun r10 h11 H locs hw G => ?_)
    refine gh_astore_n (lv' := [(3, 1, va_rf r10), (2, 1, .int (0 : Int32)), (0, 1, va_rf (some v0)), (1, 1, va_rf (some a6))]) hx hb dJ3_removeAll_63 rfl hl (by decide) rfl (fun ls hl => ?_)
    obtain ⟨n, hw⟩ := hw
    refine W.widen (k := 2 + 0 * 2) (n := 5 + 0 * 12) (by omega) (by omega) ?_
    exact wk_J3_removeAll_64 M hr hex  n 0 (some a6) (0 : Int32) r10 _ _ _ _ G (gh_sub hl [3, 1, 0] rfl) hw
  · replace hw := hw.2 hc
    refine gh_aload_n hx hb dJ3_removeAll_20 rfl (gh_at hl 2 rfl) ?_
    obtain ⟨a12, lba12, fsa12, hra12, haa12, hw⟩ := hw
    rw [← Option.some.inj hra12] at haa12
    refine gh_kFq G (vx_runF (C := "java/util/TreeSet") (M.2.1.1.1 10 _ rfl).2 M.1 (met_J4_iterator l D _ _ _ _ _ hw M.2.2.2.2.2) (va_cwF 0 (gh_Mts M) (gh_gF q1149 q1193 q1195 q46 q1197) rfl rfl rfl (M.2.2.1.2.1 _ (List.mem_of_getElem? (i := 24) rfl)) ⟨by decide, by decide, rfl⟩ ⟨Nat.le_of_ble_eq_true rfl, Nat.le_of_ble_eq_true rfl⟩) (gh_preV (As := []) M G (gh_rec M G haa12 rfl)) rfl rfl hl.1.1 rfl (lv_room (Nat.le_of_ble_eq_true rfl)) dJ3_removeAll_21 ⟨(Nat.le_of_ble_eq_true rfl), (Nat.le_of_ble_eq_true rfl)⟩) (gh_out M hex (by exact Nat.le_of_ble_eq_true rfl) (by exact Nat.le_of_ble_eq_true rfl)) (fun r13 h14 H locs hw G => ?_)
    refine gh_astore_n (lv' := [(3, 1, va_rf r13), (2, 1, .int (0 : Int32)), (0, 1, va_rf (some v0)), (1, 1, va_rf (some a6))]) hx hb dJ3_removeAll_26 rfl hl (by decide) rfl (fun ls hl => ?_)
    obtain ⟨n, hw⟩ := hw
    refine W.widen (k := 2 + 0 * 1) (n := 5 + 0 * 6) (by omega) (by omega) ?_
    exact wk_J3_removeAll_27 M hr hex  n 0 v0 (0 : Int32) r13 _ _ _ _ G (gh_sub hl [2, 1, 0] rfl) hw
/-! BinderyDesk.platesNeeded (I)I -/
def rm_X1_platesNeeded : Room := { frames := 9, cells := 440, slots := 2551, locals := 219 }
def wb_X1_platesNeeded_29 (κ : Nat → Nat) (K17 : Nat → Nat → Option Nat → Option Nat → Int32 → gh_H → Prop) (K29 : Nat → Nat → Option Nat → Option Nat → Int32 → Int32 → gh_H → Prop) (it17 : Nat) (it29 : Nat) (Q : Int32 → gh_H → Prop) (X : String → gh_H → Prop) (v0 : Nat) (v2 : Option Nat) (v3 : Option Nat) (v4 : Int32) (v5 : Int32) (h : gh_H) : Prop := (((2 : Int32) ≤ v5 → K17 (it17 + 1) v0 v2 v3 (v4 + (1 : Int32)) h) ∧ (¬ (2 : Int32) ≤ v5 → (gh_RC h v2 7 (fun a1 => (wp_X7_plate κ a1 v4 v5 (fun r2 h3 => (wp_J25_valueOf κ r2 (fun r4 h5 => (gh_RC h5 v3 10 (fun a6 => (wp_J4_add κ a6 r4 (fun r7 h8 => K29 (it29 + 1) v0 (some a1) (some a6) v4 (v5 + (1 : Int32)) h8) X h5)))) X h3)) X h)))))
def wl_X1_platesNeeded_29 (κ : Nat → Nat) (K17 : Nat → Nat → Option Nat → Option Nat → Int32 → gh_H → Prop) (it17 : Nat) (Q : Int32 → gh_H → Prop) (X : String → gh_H → Prop) : Nat → Nat → Nat → Option Nat → Option Nat → Int32 → Int32 → gh_H → Prop
  | 0 => fun _ _ _ _ _ _ _ => False
  | n + 1 => fun it29 v0 v2 v3 v4 v5 h => it29 ≤ 2 ∧ wb_X1_platesNeeded_29 κ K17 (wl_X1_platesNeeded_29 κ K17 it17 Q X n) it17 it29 Q X v0 v2 v3 v4 v5 h
def wb_X1_platesNeeded_17 (κ : Nat → Nat) (K17 : Nat → Nat → Option Nat → Option Nat → Int32 → gh_H → Prop) (it17 : Nat) (Q : Int32 → gh_H → Prop) (X : String → gh_H → Prop) (v0 : Nat) (v2 : Option Nat) (v3 : Option Nat) (v4 : Int32) (h : gh_H) : Prop := (gh_RC h v2 7 (fun a1 => (wp_X7_sheets κ a1 (fun r2 h3 => ((r2 ≤ v4 → (gh_GR h3 (some v0) [(0, 4)] (fun x4 => (gh_RC h3 v3 10 (fun a5 => (wp_J3_removeAll κ a5 x4 (fun r6 h7 => (gh_RC h7 (some a5) 10 (fun _ => (wp_J4_size κ a5 (fun r9 h10 => (Q r9 h10)) X h7)))) X h3)))))) ∧ (¬ r2 ≤ v4 → (∃ n : Nat, wl_X1_platesNeeded_29 κ K17 it17 Q X n 0 v0 (some a1) v3 v4 (0 : Int32) h3)))) X h)))
def wl_X1_platesNeeded_17 (κ : Nat → Nat)  (Q : Int32 → gh_H → Prop) (X : String → gh_H → Prop) : Nat → Nat → Nat → Option Nat → Option Nat → Int32 → gh_H → Prop
  | 0 => fun _ _ _ _ _ _ => False
  | n + 1 => fun it17 v0 v2 v3 v4 h => it17 ≤ 8 ∧ wb_X1_platesNeeded_17 κ (wl_X1_platesNeeded_17 κ Q X n) it17 Q X v0 v2 v3 v4 h
def wp_X1_platesNeeded (κ : Nat → Nat) (v0 : Nat) (v1 : Int32) (Q : Int32 → gh_H → Prop) (X : String → gh_H → Prop) (h : gh_H) : Prop := (gh_RC h (some v0) 0 (fun _ => (wp_X1_completeJob κ v0 v1 (fun r2 h3 => (gh_NO h3 10 [va_rf none] (fun q4 h5 => (wp_J4_init κ q4 (fun h6 => (∃ n : Nat, wl_X1_platesNeeded_17 κ Q X n 0 v0 r2 (some q4) (0 : Int32) h6)) X h5)))) X h)))
set_option maxHeartbeats 4000000 in
theorem wk1_X1_platesNeeded_29 {D : gh_D} {p : Program} {l : Launch} {e : Env} {s : State} {m : MethodId} {args : Array Value} {below : List Frame} {meth : Method} {c : Code} {h0 : gh_H} (M : gh_M D p l s m args meth c RX1 cX1_platesNeeded 6 (gh_A h0 s.heap.size)) (hr : meth.sig.returnType = (some .int)) (hex : ∀ x ∈ c.exceptionTable.toList, False) {K17 : Nat → Nat → Option Nat → Option Nat → Int32 → gh_H → Prop} {K29 : Nat → Nat → Option Nat → Option Nat → Int32 → Int32 → gh_H → Prop} {it17 : Nat} {it29 : Nat} {Q : Int32 → gh_H → Prop} {X : String → gh_H → Prop} (k17 : ∀ (it17 : Nat) (v0 : Nat) (v2 : Option Nat) (v3 : Option Nat) (v4 : Int32) (H : Heap) (locs : List Loc) (ls : Array Slot) (h : gh_H) (_ : gh_Inv D h0 (gh_A h0 s.heap.size) s.heap s H locs h) (_ : gh_L ls 6 [(0, 1, va_rf (some v0)), (2, 1, va_rf v2), (3, 1, va_rf v3), (4, 1, .int v4)]) (_ : K17 it17 v0 v2 v3 v4 h), W p l e rm_X1_platesNeeded s m args below meth c H locs (4 + it17 * 4) (22 + it17 * 14) (vx_MQ below (gh_Qi Q D h0 s.heap.size) (gh_X X D h0 s.heap.size) args s 440 2551 (gh_A h0 s.heap.size)) (F0 m 17 ls [])) (k29 : ∀ (it29 : Nat) (v0 : Nat) (v2 : Option Nat) (v3 : Option Nat) (v4 : Int32) (v5 : Int32) (H : Heap) (locs : List Loc) (ls : Array Slot) (h : gh_H) (_ : gh_Inv D h0 (gh_A h0 s.heap.size) s.heap s H locs h) (_ : gh_L ls 6 [(0, 1, va_rf (some v0)), (2, 1, va_rf v2), (3, 1, va_rf v3), (4, 1, .int v4), (5, 1, .int v5)]) (_ : K29 it29 v0 v2 v3 v4 v5 h), W p l e rm_X1_platesNeeded s m args below meth c H locs (4 + it17 * 4 + it29 * 2) (22 + it17 * 14 + it29 * 7) (vx_MQ below (gh_Qi Q D h0 s.heap.size) (gh_X X D h0 s.heap.size) args s 440 2551 (gh_A h0 s.heap.size)) (F0 m 29 ls [])) (hit17 : it17 ≤ 8) (hit29 : it29 ≤ 2) (v0 : Nat) (v2 : Option Nat) (v3 : Option Nat) (v4 : Int32) (v5 : Int32) (H : Heap) (locs : List Loc) (ls : Array Slot) (h : gh_H) (G : gh_Inv D h0 (gh_A h0 s.heap.size) s.heap s H locs h) (hl : gh_L ls 6 [(0, 1, va_rf (some v0)), (2, 1, va_rf v2), (3, 1, va_rf v3), (4, 1, .int v4), (5, 1, .int v5)]) (hw : wb_X1_platesNeeded_29 D.2.2 K17 K29 it17 it29 Q X v0 v2 v3 v4 v5 h) : W p l e rm_X1_platesNeeded s m args below meth c H locs (4 + it17 * 4 + it29 * 2) (22 + it17 * 14 + it29 * 7) (vx_MQ below (gh_Qi Q D h0 s.heap.size) (gh_X X D h0 s.heap.size) args s 440 2551 (gh_A h0 s.heap.size)) (F0 m 29 ls []) := by
  unfold wb_X1_platesNeeded_29 at hw
  have hx := M.1.1
  have hb := M.1.2.1
  refine lv_iload hx hb dX1_platesNeeded_29 (gh_at hl 4 rfl) ?_
  refine lv_iconst (v := (2 : Int32)) hx hb dX1_platesNeeded_31 (by decide) ?_
  refine lv_icmp_ge (tgt := 57) hx hb dX1_platesNeeded_32 (by decide) (fun hc => ?_) (fun hc => ?_)
  · replace hw := hw.1 hc
    refine gh_iinc (k := 3) (v := (v4 + (1 : Int32))) (lv' := [(4, 1, .int (v4 + (1 : Int32))), (0, 1, va_rf (some v0)), (2, 1, va_rf v2), (3, 1, va_rf v3), (5, 1, .int v5)]) hx hb dX1_platesNeeded_57 hl rfl rfl (by decide) rfl (fun ls hl => ?_)
    refine lv_goto (tgt := 17) hx hb dX1_platesNeeded_60 (by decide) ?_
    refine W.widen (k := 4 + (it17 + 1) * 4) (n := 22 + (it17 + 1) * 14) (by omega) (by omega) ?_
    exact k17 (it17 + 1) v0 v2 v3 (v4 + (1 : Int32)) _ _ _ _ G (gh_sub hl [1, 2, 3, 0] rfl) hw
  · replace hw := hw.2 hc
    refine gh_aload_n hx hb dX1_platesNeeded_35 rfl (gh_at hl 2 rfl) ?_
    refine gh_aload_n hx hb dX1_platesNeeded_36 rfl (gh_at hl 1 rfl) ?_
    refine lv_iload hx hb dX1_platesNeeded_37 (gh_at hl 3 rfl) ?_
    refine lv_iload hx hb dX1_platesNeeded_39 (gh_at hl 4 rfl) ?_
    obtain ⟨a1, lba1, fsa1, rfl, haa1, hw⟩ := hw
    refine gh_ki G (vx_runV M.1 (met_X7_plate l D _ _ _ _ _ _ _ hw M.2.2.2.2.2) (cwV 2 (gh_Mts M) (lw_V q881 q882 q883 q71 q884) rfl rfl rfl ⟨rfl, by decide, by decide, rfl⟩ ⟨Nat.le_of_ble_eq_true rfl, Nat.le_of_ble_eq_true rfl⟩) (gh_preV (As := [.int v4, .int v5]) M G (gh_rec M G haa1 rfl)) rfl rfl hl.1.1 rfl (lv_room (Nat.le_trans (gh_r1 (gh_cat _) gh_r0) (Nat.le_of_ble_eq_true rfl : 1 ≤ 8))) dX1_platesNeeded_41 ⟨(by show _ ≤ 440; omega), (by show _ ≤ 2551; omega)⟩) (gh_out M hex (by omega) (by omega)) (fun r2 h3 H locs hw G => ?_)
    refine W.widen (k := 4 + it17 * 4 + it29 * 2) (n := 22 + it17 * 14 + it29 * 7) (by omega) (by omega) ?_
    refine gh_kq G (vx_runS M.1 (met_J25_valueOf l D _ _ _ _ _ hw M.2.2.2.2.2) (va_cwS 1 (gh_Mts M) (lw_S q890 q891 q76 q892) rfl rfl rfl ⟨by decide, by decide, rfl⟩ ⟨Nat.le_of_ble_eq_true rfl, Nat.le_of_ble_eq_true rfl⟩) (gh_pre M G (As := [.int r2])) rfl rfl hl.1.1 rfl (lv_room (Nat.le_trans (gh_r1 (gh_cat _) gh_r0) (Nat.le_of_ble_eq_true rfl : 1 ≤ 8))) dX1_platesNeeded_44 ⟨(by show _ ≤ 440; omega), (by show _ ≤ 2551; omega)⟩) (gh_out M hex (by omega) (by omega)) (fun r4 h5 H locs hw G => ?_)
    refine W.widen (k := 5 + it17 * 4 + it29 * 2) (n := 23 + it17 * 14 + it29 * 7) (by omega) (by omega) ?_
    obtain ⟨a6, lba6, fsa6, rfl, haa6, hw⟩ := hw
    refine gh_ki G (vx_runV M.1 (met_J4_add l D _ _ _ _ _ _ hw M.2.2.2.2.2) (cwV 1 (gh_Mts M) (lw_V q910 q911 q912 q46 q913) rfl rfl rfl ⟨rfl, by decide, by decide, rfl⟩ ⟨Nat.le_of_ble_eq_true rfl, Nat.le_of_ble_eq_true rfl⟩) (gh_preV (As := [va_rf r4]) M G (gh_rec M G haa6 rfl)) rfl rfl hl.1.1 rfl (lv_room (Nat.le_of_ble_eq_true rfl)) dX1_platesNeeded_47 ⟨(by show _ ≤ 440; omega), (by show _ ≤ 2551; omega)⟩) (gh_out M hex (by omega) (by omega)) (fun r7 h8 H locs hw G => ?_)
    refine W.widen (k := 6 + it17 * 4 + it29 * 2) (n := 29 + it17 * 14 + it29 * 7) (by omega) (by omega) ?_
    refine lv_pop hx hb dX1_platesNeeded_50 rfl ?_
    refine gh_iinc (k := 4) (v := (v5 + (1 : Int32))) (lv' := [(5, 1, .int (v5 + (1 : Int32))), (0, 1, va_rf (some v0)), (2, 1, va_rf (some a1)), (3, 1, va_rf (some a6)), (4, 1, .int v4)]) hx hb dX1_platesNeeded_51 hl rfl rfl (by decide) rfl (fun ls hl => ?_)
    refine lv_goto (tgt := 29) hx hb dX1_platesNeeded_54 (by decide) ?_
    refine W.widen (k := 4 + it17 * 4 + (it29 + 1) * 2) (n := 22 + it17 * 14 + (it29 + 1) * 7) (by omega) (by omega) ?_
    exact k29 (it29 + 1) v0 (some a1) (some a6) v4 (v5 + (1 : Int32)) _ _ _ _ G (gh_sub hl [1, 2, 3, 4, 0] rfl) hw
theorem wk_X1_platesNeeded_29 {D : gh_D} {p : Program} {l : Launch} {e : Env} {s : State} {m : MethodId} {args : Array Value} {below : List Frame} {meth : Method} {c : Code} {h0 : gh_H} (M : gh_M D p l s m args meth c RX1 cX1_platesNeeded 6 (gh_A h0 s.heap.size)) (hr : meth.sig.returnType = (some .int)) (hex : ∀ x ∈ c.exceptionTable.toList, False) {K17 : Nat → Nat → Option Nat → Option Nat → Int32 → gh_H → Prop} {it17 : Nat} {Q : Int32 → gh_H → Prop} {X : String → gh_H → Prop} (k17 : ∀ (it17 : Nat) (v0 : Nat) (v2 : Option Nat) (v3 : Option Nat) (v4 : Int32) (H : Heap) (locs : List Loc) (ls : Array Slot) (h : gh_H) (_ : gh_Inv D h0 (gh_A h0 s.heap.size) s.heap s H locs h) (_ : gh_L ls 6 [(0, 1, va_rf (some v0)), (2, 1, va_rf v2), (3, 1, va_rf v3), (4, 1, .int v4)]) (_ : K17 it17 v0 v2 v3 v4 h), W p l e rm_X1_platesNeeded s m args below meth c H locs (4 + it17 * 4) (22 + it17 * 14) (vx_MQ below (gh_Qi Q D h0 s.heap.size) (gh_X X D h0 s.heap.size) args s 440 2551 (gh_A h0 s.heap.size)) (F0 m 17 ls [])) (hit17 : it17 ≤ 8) : ∀ (n : Nat) (it29 : Nat) (v0 : Nat) (v2 : Option Nat) (v3 : Option Nat) (v4 : Int32) (v5 : Int32) (H : Heap) (locs : List Loc) (ls : Array Slot) (h : gh_H) (_ : gh_Inv D h0 (gh_A h0 s.heap.size) s.heap s H locs h) (_ : gh_L ls 6 [(0, 1, va_rf (some v0)), (2, 1, va_rf v2), (3, 1, va_rf v3), (4, 1, .int v4), (5, 1, .int v5)]) (_ : wl_X1_platesNeeded_29 D.2.2 K17 it17 Q X n it29 v0 v2 v3 v4 v5 h), W p l e rm_X1_platesNeeded s m args below meth c H locs (4 + it17 * 4 + it29 * 2) (22 + it17 * 14 + it29 * 7) (vx_MQ below (gh_Qi Q D h0 s.heap.size) (gh_X X D h0 s.heap.size) args s 440 2551 (gh_A h0 s.heap.size)) (F0 m 29 ls []) := by
  intro fu
  induction fu with
  | zero => intro it29 v0 v2 v3 v4 v5 H locs ls h G hl hw; exact False.elim hw
  | succ n1 ih =>
    intro it29 v0 v2 v3 v4 v5 H locs ls h G hl hw
    obtain ⟨hi, hw⟩ := hw
    exact wk1_X1_platesNeeded_29 M hr hex k17 ih hit17 hi v0 v2 v3 v4 v5 _ _ _ _ G hl hw
set_option maxHeartbeats 4000000 in
theorem wk1_X1_platesNeeded_17 {D : gh_D} {p : Program} {l : Launch} {e : Env} {s : State} {m : MethodId} {args : Array Value} {below : List Frame} {meth : Method} {c : Code} {h0 : gh_H} (M : gh_M D p l s m args meth c RX1 cX1_platesNeeded 6 (gh_A h0 s.heap.size)) (hr : meth.sig.returnType = (some .int)) (hex : ∀ x ∈ c.exceptionTable.toList, False) {K17 : Nat → Nat → Option Nat → Option Nat → Int32 → gh_H → Prop} {it17 : Nat} {Q : Int32 → gh_H → Prop} {X : String → gh_H → Prop} (k17 : ∀ (it17 : Nat) (v0 : Nat) (v2 : Option Nat) (v3 : Option Nat) (v4 : Int32) (H : Heap) (locs : List Loc) (ls : Array Slot) (h : gh_H) (_ : gh_Inv D h0 (gh_A h0 s.heap.size) s.heap s H locs h) (_ : gh_L ls 6 [(0, 1, va_rf (some v0)), (2, 1, va_rf v2), (3, 1, va_rf v3), (4, 1, .int v4)]) (_ : K17 it17 v0 v2 v3 v4 h), W p l e rm_X1_platesNeeded s m args below meth c H locs (4 + it17 * 4) (22 + it17 * 14) (vx_MQ below (gh_Qi Q D h0 s.heap.size) (gh_X X D h0 s.heap.size) args s 440 2551 (gh_A h0 s.heap.size)) (F0 m 17 ls [])) (hit17 : it17 ≤ 8) (v0 : Nat) (v2 : Option Nat) (v3 : Option Nat) (v4 : Int32) (H : Heap) (locs : List Loc) (ls : Array Slot) (h : gh_H) (G : gh_Inv D h0 (gh_A h0 s.heap.size) s.heap s H locs h) (hl : gh_L ls 6 [(0, 1, va_rf (some v0)), (2, 1, va_rf v2), (3, 1, va_rf v3), (4, 1, .int v4)]) (hw : wb_X1_platesNeeded_17 D.2.2 K17 it17 Q X v0 v2 v3 v4 h) : W p l e rm_X1_platesNeeded s m args below meth c H locs (4 + it17 * 4) (22 + it17 * 14) (vx_MQ below (gh_Qi Q D h0 s.heap.size) (gh_X X D h0 s.heap.size) args s 440 2551 (gh_A h0 s.heap.size)) (F0 m 17 ls []) := by
  unfold wb_X1_platesNeeded_17 at hw
  have hx := M.1.1
  have hb := M.1.2.1
  refine lv_iload hx hb dX1_platesNeeded_17 (gh_at hl 3 rfl) ?_
  refine gh_aload_n hx hb dX1_platesNeeded_19 rfl (gh_at hl 1 rfl) ?_
  obtain ⟨a1, lba1, fsa1, rfl, haa1, hw⟩ := hw
  refine gh_ki G (vx_runV M.1 (met_X7_sheets l D _ _ _ _ _ hw M.2.2.2.2.2) (cwV 0 (gh_Mts M) (lw_V q814 q644 q645 q71 q646) rfl rfl rfl ⟨rfl, by decide, by decide, rfl⟩ ⟨Nat.le_of_ble_eq_true rfl, Nat.le_of_ble_eq_true rfl⟩) (gh_preV (As := []) M G (gh_rec M G haa1 rfl)) rfl rfl hl.1.1 rfl (lv_room (Nat.le_of_ble_eq_true rfl)) dX1_platesNeeded_20 ⟨(by show _ ≤ 440; omega), (by show _ ≤ 2551; omega)⟩) (gh_out M hex (by omega) (by omega)) (fun r2 h3 H locs hw G => ?_)
  refine W.widen (k := 4 + it17 * 4) (n := 22 + it17 * 14) (by omega) (by omega) ?_
  refine lv_icmp_ge (tgt := 63) hx hb dX1_platesNeeded_23 (by decide) (fun hc => ?_) (fun hc => ?_)
  · replace hw := hw.1 hc
    refine gh_aload_n hx hb dX1_platesNeeded_63 rfl (gh_at hl 2 rfl) ?_
    refine gh_aload_n hx hb dX1_platesNeeded_64 rfl (gh_at hl 0 rfl) ?_
    refine gh_getR M G hw fl_X1_43 dX1_platesNeeded_65 (fun x4 hw => ?_)
    obtain ⟨a5, lba5, fsa5, rfl, haa5, hw⟩ := hw
    refine gh_ki G (vx_runU (C := "java/util/TreeSet") M.1 (met_J3_removeAll l D _ _ _ _ _ _ hw M.2.2.2.2.2) (va_cwU 1 (gh_Mts M) (gh_gU q1119 q1120 q1122 q1123 q45 q1124) rfl rfl rfl rfl ⟨by decide, by decide, rfl⟩ ⟨Nat.le_of_ble_eq_true rfl, Nat.le_of_ble_eq_true rfl⟩) (gh_preV (As := [va_rf x4]) M G (gh_rec M G haa5 rfl)) rfl rfl hl.1.1 rfl (lv_room (Nat.le_of_ble_eq_true rfl)) dX1_platesNeeded_68 ⟨(by show _ ≤ 440; omega), (by show _ ≤ 2551; omega)⟩) (gh_out M hex (by omega) (by omega)) (fun r6 h7 H locs hw G => ?_)
    refine W.widen (k := 408 + it17 * 4) (n := 2439 + it17 * 14) (by omega) (by omega) ?_
    refine lv_pop hx hb dX1_platesNeeded_71 rfl ?_
    refine gh_aload_n hx hb dX1_platesNeeded_72 rfl (gh_at hl 2 rfl) ?_
    obtain ⟨a8, lba8, fsa8, hra8, haa8, hw⟩ := hw
    rw [← Option.some.inj hra8] at haa8
    refine gh_ki G (vx_runV M.1 (met_J4_size l D _ _ _ _ _ hw M.2.2.2.2.2) (cwV 0 (gh_Mts M) (lw_V q221 q222 q223 q46 q224) rfl rfl rfl ⟨rfl, by decide, by decide, rfl⟩ ⟨Nat.le_of_ble_eq_true rfl, Nat.le_of_ble_eq_true rfl⟩) (gh_preV (As := []) M G (gh_rec M G haa8 rfl)) rfl rfl hl.1.1 rfl (lv_room (Nat.le_of_ble_eq_true rfl)) dX1_platesNeeded_73 ⟨(by show _ ≤ 440; omega), (by show _ ≤ 2551; omega)⟩) (gh_out M hex (by omega) (by omega)) (fun r9 h10 H locs hw G => ?_)
    refine W.widen (k := 408 + it17 * 4) (n := 2439 + it17 * 14) (by omega) (by omega) ?_
    exact gh_iret M G hr rfl hw (by omega) (by omega) dX1_platesNeeded_76
  · replace hw := hw.2 hc
    refine lv_iconst (v := (0 : Int32)) hx hb dX1_platesNeeded_26 (by decide) ?_
    refine gh_istore (lv' := [(5, 1, .int (0 : Int32)), (0, 1, va_rf (some v0)), (2, 1, va_rf (some a1)), (3, 1, va_rf v3), (4, 1, .int v4)]) hx hb dX1_platesNeeded_27 hl (by decide) rfl (fun ls hl => ?_)
    obtain ⟨n, hw⟩ := hw
    refine W.widen (k := 4 + it17 * 4 + 0 * 2) (n := 22 + it17 * 14 + 0 * 7) (by omega) (by omega) ?_
    exact wk_X1_platesNeeded_29 M hr hex k17 hit17 n 0 v0 (some a1) v3 v4 (0 : Int32) _ _ _ _ G (gh_sub hl [1, 2, 3, 4, 0] rfl) hw
theorem wk_X1_platesNeeded_17 {D : gh_D} {p : Program} {l : Launch} {e : Env} {s : State} {m : MethodId} {args : Array Value} {below : List Frame} {meth : Method} {c : Code} {h0 : gh_H} (M : gh_M D p l s m args meth c RX1 cX1_platesNeeded 6 (gh_A h0 s.heap.size)) (hr : meth.sig.returnType = (some .int)) (hex : ∀ x ∈ c.exceptionTable.toList, False)   {Q : Int32 → gh_H → Prop} {X : String → gh_H → Prop}   : ∀ (n : Nat) (it17 : Nat) (v0 : Nat) (v2 : Option Nat) (v3 : Option Nat) (v4 : Int32) (H : Heap) (locs : List Loc) (ls : Array Slot) (h : gh_H) (_ : gh_Inv D h0 (gh_A h0 s.heap.size) s.heap s H locs h) (_ : gh_L ls 6 [(0, 1, va_rf (some v0)), (2, 1, va_rf v2), (3, 1, va_rf v3), (4, 1, .int v4)]) (_ : wl_X1_platesNeeded_17 D.2.2 Q X n it17 v0 v2 v3 v4 h), W p l e rm_X1_platesNeeded s m args below meth c H locs (4 + it17 * 4) (22 + it17 * 14) (vx_MQ below (gh_Qi Q D h0 s.heap.size) (gh_X X D h0 s.heap.size) args s 440 2551 (gh_A h0 s.heap.size)) (F0 m 17 ls []) := by
  intro fu
  induction fu with
  | zero => intro it17 v0 v2 v3 v4 H locs ls h G hl hw; exact False.elim hw
  | succ n1 ih =>
    intro it17 v0 v2 v3 v4 H locs ls h G hl hw
    obtain ⟨hi, hw⟩ := hw
    exact wk1_X1_platesNeeded_17 M hr hex ih hi v0 v2 v3 v4 _ _ _ _ G hl hw
set_option maxHeartbeats 4000000 in
theorem met_X1_platesNeeded (l : Launch) (D : gh_D) (v0 : Nat) (v1 : Int32) (Q : Int32 → gh_H → Prop) (X : String → gh_H → Prop) (h : gh_H) (sz : Nat) (hw : wp_X1_platesNeeded D.2.2 v0 v1 Q X h) (hst : l.stackTraces = false) : vx_Met l yX1_platesNeeded (ws_ yX1_platesNeeded cX1_platesNeeded 6 (some .int)) rm_X1_platesNeeded (gh_Pc D h sz [.ref v0, .int v1]) (gh_Qi Q D h sz) (gh_X X D h sz) 440 2551 (gh_A h sz) := by
  refine vx_ofW (by decide) rfl (fun p e s m args below meth c s₁ B hml hex hP => ?_)
  obtain ⟨rfl, rfl, hK, hT, hE, G⟩ := gh_start hP
  have M : gh_M D p l s m _ meth c RX1 cX1_platesNeeded 6 (gh_A h s.heap.size) := ⟨⟨B.exec, B.bytes, hml, findClass_of_methodNamed B.named, fun w hw => atoms_spec (ws := ws_ yX1_platesNeeded cX1_platesNeeded 6 (some .int)) B.pre w (List.mem_cons_of_mem _ hw)⟩, hK, hT, hE, B.notSynchronized, hst⟩
  have hr := B.returns
  have hx := M.1.1
  have hb := M.1.2.1
  refine gh_enter (vs := [(1, .ref v0), (1, .int v1)]) (gh_w1 rfl (gh_w1 rfl gh_wn)) (Nat.le_of_ble_eq_true rfl) (fun ls hl => ?_)
  replace hl : gh_L ls 6 [(0, 1, va_rf (some v0)), (1, 1, .int v1)] := hl
  unfold wp_X1_platesNeeded at hw
  refine gh_aload_n hx hb dX1_platesNeeded_0 rfl (gh_at hl 0 rfl) ?_
  refine lv_iload_n hx hb dX1_platesNeeded_1 rfl (gh_at hl 1 rfl) ?_
  obtain ⟨a1, lba1, fsa1, hra1, haa1, hw⟩ := hw
  rw [← Option.some.inj hra1] at haa1
  refine gh_kq G (vx_runV M.1 (met_X1_completeJob l D _ _ _ _ _ _ hw M.2.2.2.2.2) (cwV 1 (gh_Mts M) (lw_V q809 q811 qs6 q41 q812) rfl rfl rfl ⟨rfl, by decide, by decide, rfl⟩ ⟨Nat.le_of_ble_eq_true rfl, Nat.le_of_ble_eq_true rfl⟩) (gh_preV (As := [.int v1]) M G (gh_rec M G haa1 rfl)) rfl rfl hl.1.1 rfl (lv_room (Nat.le_of_ble_eq_true rfl)) dX1_platesNeeded_2 ⟨(Nat.le_of_ble_eq_true rfl), (Nat.le_of_ble_eq_true rfl)⟩) (gh_out M hex (by exact Nat.le_of_ble_eq_true rfl) (by exact Nat.le_of_ble_eq_true rfl)) (fun r2 h3 H locs hw G => ?_)
  refine gh_astore_n (lv' := [(2, 1, va_rf r2), (0, 1, va_rf (some v0)), (1, 1, .int v1)]) hx hb dX1_platesNeeded_5 rfl hl (by decide) rfl (fun ls hl => ?_)
  refine gh_new (N := 1) (r := (RJ4, TJ4, 1)) (ci := 10) (fs := [va_rf none]) M G hw tyJ4 tyJ4_ok q122 q123 q46 rfl rfl nd_J4 (Nat.le_of_ble_eq_true rfl) (Nat.le_of_ble_eq_true rfl) dX1_platesNeeded_6 (fun q4 h5 H hw G => ?_)
  refine lv_dup hx hb dX1_platesNeeded_9 (gh_cat _) ?_
  refine gh_kv G (vx_runI M.1 (met_J4_init l D _ _ _ _ _ hw M.2.2.2.2.2) (cwI 0 (gh_Mts M) (lw_meth q126) rfl rfl rfl (gh_Mts M _ q46) (gh_Mts M _ q124) (gh_Mts M _ q125) rfl ⟨by decide, by decide, rfl⟩ ⟨Nat.le_of_ble_eq_true rfl, Nat.le_of_ble_eq_true rfl⟩) (gh_pre M G (As := .ref q4 :: [])) rfl rfl hl.1.1 rfl (lv_room (Nat.le_trans (gh_r1 (gh_cat _) gh_r0) (Nat.le_of_ble_eq_true rfl : 1 ≤ 8))) dX1_platesNeeded_10 ⟨(Nat.le_of_ble_eq_true rfl), (Nat.le_of_ble_eq_true rfl)⟩) (gh_out M hex (by exact Nat.le_of_ble_eq_true rfl) (by exact Nat.le_of_ble_eq_true rfl)) (fun h6 H locs hw G => ?_)
  refine gh_astore_n (lv' := [(3, 1, va_rf (some q4)), (2, 1, va_rf r2), (0, 1, va_rf (some v0)), (1, 1, .int v1)]) hx hb dX1_platesNeeded_13 rfl hl (by decide) rfl (fun ls hl => ?_)
  refine lv_iconst (v := (0 : Int32)) hx hb dX1_platesNeeded_14 (by decide) ?_
  refine gh_istore (lv' := [(4, 1, .int (0 : Int32)), (3, 1, va_rf (some q4)), (2, 1, va_rf r2), (0, 1, va_rf (some v0)), (1, 1, .int v1)]) hx hb dX1_platesNeeded_15 hl (by decide) rfl (fun ls hl => ?_)
  obtain ⟨n, hw⟩ := hw
  refine W.widen (k := 4 + 0 * 4) (n := 22 + 0 * 14) (by omega) (by omega) ?_
  exact wk_X1_platesNeeded_17 M hr hex  n 0 v0 r2 (some q4) (0 : Int32) _ _ _ _ G (gh_sub hl [3, 2, 1, 0] rfl) hw
/-! BinderyDeskLaw.platesNeeded (LBinderyDesk;I[J)I -/
def rm_X0_platesNeeded : Room := { frames := 10, cells := 440, slots := 2551, locals := 244 }
def wb_X0_platesNeeded_12 (κ : Nat → Nat)  (Q : Int32 → gh_H → Prop) (X : String → gh_H → Prop) (t0 : Option Nat) (h : gh_H) : Prop := (Q (1 : Int32) h)
def wb_X0_platesNeeded_15 (κ : Nat → Nat)  (Q : Int32 → gh_H → Prop) (X : String → gh_H → Prop) (t0 : Option Nat) (h : gh_H) : Prop := (Q (2 : Int32) h)
def wp_X0_platesNeeded (κ : Nat → Nat) (v0 : Option Nat) (v1 : Int32) (v2 : Option Nat) (Q : Int32 → gh_H → Prop) (X : String → gh_H → Prop) (h : gh_H) : Prop := (gh_RC h v0 0 (fun a1 => (wp_X1_platesNeeded κ a1 v1 (fun r2 h3 => (gh_SJ h3 v2 (0 : Int32) (r2.toInt64) (fun h4 => (Q (0 : Int32) h4)))) (fun E h9 => (E = "java/lang/IndexOutOfBoundsException" ∧ ∀ q9 : Nat, wb_X0_platesNeeded_12 κ Q X (some q9) h9) ∨ (E = "java/lang/IllegalStateException" ∧ ∀ q9 : Nat, wb_X0_platesNeeded_15 κ Q X (some q9) h9)) h)))
set_option maxHeartbeats 4000000 in
theorem wk_X0_platesNeeded_12 {D : gh_D} {p : Program} {l : Launch} {e : Env} {s : State} {m : MethodId} {args : Array Value} {below : List Frame} {meth : Method} {c : Code} {h0 : gh_H} (M : gh_M D p l s m args meth c RX0 cX0_platesNeeded 4 (gh_A h0 s.heap.size)) (hr : meth.sig.returnType = (some .int)) (htab : c.exceptionTable.toList = tableOf [(0, 9, 12, 19), (0, 9, 15, 13)])   {Q : Int32 → gh_H → Prop} {X : String → gh_H → Prop}   (t0 : Option Nat) (H : Heap) (locs : List Loc) (ls : Array Slot) (h : gh_H) (G : gh_Inv D h0 (gh_A h0 s.heap.size) s.heap s H locs h) (hl : gh_L ls 4 []) (hw : wb_X0_platesNeeded_12 D.2.2 Q X t0 h) : W p l e rm_X0_platesNeeded s m args below meth c H locs 440 2551 (vx_MQ below (gh_Qi Q D h0 s.heap.size) (gh_X X D h0 s.heap.size) args s 440 2551 (gh_A h0 s.heap.size)) (F0 m 12 ls [va_rf t0]) := by
  unfold wb_X0_platesNeeded_12 at hw
  have hx := M.1.1
  have hb := M.1.2.1
  refine gh_astore_n (lv' := [(3, 1, va_rf t0)]) hx hb dX0_platesNeeded_12 rfl hl (by decide) rfl (fun ls hl => ?_)
  refine lv_iconst (v := (1 : Int32)) hx hb dX0_platesNeeded_13 (by decide) ?_
  exact gh_iret M G hr rfl hw (by exact Nat.le_of_ble_eq_true rfl) (by exact Nat.le_of_ble_eq_true rfl) dX0_platesNeeded_14
set_option maxHeartbeats 4000000 in
theorem wk_X0_platesNeeded_15 {D : gh_D} {p : Program} {l : Launch} {e : Env} {s : State} {m : MethodId} {args : Array Value} {below : List Frame} {meth : Method} {c : Code} {h0 : gh_H} (M : gh_M D p l s m args meth c RX0 cX0_platesNeeded 4 (gh_A h0 s.heap.size)) (hr : meth.sig.returnType = (some .int)) (htab : c.exceptionTable.toList = tableOf [(0, 9, 12, 19), (0, 9, 15, 13)])   {Q : Int32 → gh_H → Prop} {X : String → gh_H → Prop}   (t0 : Option Nat) (H : Heap) (locs : List Loc) (ls : Array Slot) (h : gh_H) (G : gh_Inv D h0 (gh_A h0 s.heap.size) s.heap s H locs h) (hl : gh_L ls 4 []) (hw : wb_X0_platesNeeded_15 D.2.2 Q X t0 h) : W p l e rm_X0_platesNeeded s m args below meth c H locs 440 2551 (vx_MQ below (gh_Qi Q D h0 s.heap.size) (gh_X X D h0 s.heap.size) args s 440 2551 (gh_A h0 s.heap.size)) (F0 m 15 ls [va_rf t0]) := by
  unfold wb_X0_platesNeeded_15 at hw
  have hx := M.1.1
  have hb := M.1.2.1
  refine gh_astore_n (lv' := [(3, 1, va_rf t0)]) hx hb dX0_platesNeeded_15 rfl hl (by decide) rfl (fun ls hl => ?_)
  refine lv_iconst (v := (2 : Int32)) hx hb dX0_platesNeeded_16 (by decide) ?_
  exact gh_iret M G hr rfl hw (by exact Nat.le_of_ble_eq_true rfl) (by exact Nat.le_of_ble_eq_true rfl) dX0_platesNeeded_17
set_option maxHeartbeats 4000000 in
theorem met_X0_platesNeeded (l : Launch) (D : gh_D) (v0 : Option Nat) (v1 : Int32) (v2 : Option Nat) (Q : Int32 → gh_H → Prop) (X : String → gh_H → Prop) (h : gh_H) (sz : Nat) (hw : wp_X0_platesNeeded D.2.2 v0 v1 v2 Q X h) (hst : l.stackTraces = false) : vx_Met l yX0_platesNeeded (wsW_ yX0_platesNeeded cX0_platesNeeded 4 (some .int) [(0, 9, 12, 19), (0, 9, 15, 13)]) rm_X0_platesNeeded (gh_Pc D h sz [va_rf v0, .int v1, va_rf v2]) (gh_Qi Q D h sz) (gh_X X D h sz) 440 2551 (gh_A h sz) := by
  refine vx_ofWH (by decide) rfl (fun p e s m args below meth c s₁ B hml hP => ?_)
  have htab := vx_table (x := yX0_platesNeeded) B (atoms_spec (ws := wsW_ yX0_platesNeeded cX0_platesNeeded 4 (some .int) [(0, 9, 12, 19), (0, 9, 15, 13)]) B.pre _ List.mem_cons_self)
  obtain ⟨rfl, rfl, hK, hT, hE, G⟩ := gh_start hP
  have M : gh_M D p l s m _ meth c RX0 cX0_platesNeeded 4 (gh_A h s.heap.size) := ⟨⟨B.exec, B.bytes, hml, findClass_of_methodNamed B.named, fun w hw => atoms_spec (ws := wsW_ yX0_platesNeeded cX0_platesNeeded 4 (some .int) [(0, 9, 12, 19), (0, 9, 15, 13)]) B.pre w (List.mem_cons_of_mem _ hw)⟩, hK, hT, hE, B.notSynchronized, hst⟩
  have hr := B.returns
  have hx := M.1.1
  have hb := M.1.2.1
  refine gh_enter (vs := [(1, va_rf v0), (1, .int v1), (1, va_rf v2)]) (gh_w1 (gh_cat _) (gh_w1 rfl (gh_w1 (gh_cat _) gh_wn))) (Nat.le_of_ble_eq_true rfl) (fun ls hl => ?_)
  replace hl : gh_L ls 4 [(0, 1, va_rf v0), (1, 1, .int v1), (2, 1, va_rf v2)] := hl
  unfold wp_X0_platesNeeded at hw
  refine gh_aload_n hx hb dX0_platesNeeded_0 rfl (gh_at hl 2 rfl) ?_
  refine lv_iconst (v := (0 : Int32)) hx hb dX0_platesNeeded_1 (by decide) ?_
  refine gh_aload_n hx hb dX0_platesNeeded_2 rfl (gh_at hl 0 rfl) ?_
  refine lv_iload_n hx hb dX0_platesNeeded_3 rfl (gh_at hl 1 rfl) ?_
  obtain ⟨a1, lba1, fsa1, rfl, haa1, hw⟩ := hw
  refine gh_ki G (vx_runV M.1 (met_X1_platesNeeded l D _ _ _ _ _ _ hw M.2.2.2.2.2) (cwV 1 (gh_Mts M) (lw_V q1115 q1116 q1117 q41 q1118) rfl rfl rfl ⟨rfl, by decide, by decide, rfl⟩ ⟨Nat.le_of_ble_eq_true rfl, Nat.le_of_ble_eq_true rfl⟩) (gh_preV (As := [.int v1]) M G (gh_rec M G haa1 rfl)) rfl rfl hl.1.1 rfl (lv_room (Nat.le_trans (gh_r1 rfl (gh_r1 (gh_cat _) gh_r0)) (Nat.le_of_ble_eq_true rfl : 2 ≤ 8))) dX0_platesNeeded_4 ⟨(Nat.le_of_ble_eq_true rfl), (Nat.le_of_ble_eq_true rfl)⟩) (fun E ce q9 h9 H locs hX G hce hcv hcl => ?_) (fun r2 h3 H locs hw G => ?_)
  · rcases hX with ⟨rfl, hX⟩ | ⟨rfl, hX⟩
    · replace hw := hX q9
      refine vx_catch (name := "java/lang/IndexOutOfBoundsException") M.1.2.2.2.1 (tableOf []) ⟨0, 9, 12, 19⟩ (tableOf [(0, 9, 15, 13)]) (htab.trans rfl) (fun _ h => absurd h List.not_mem_nil) (by decide) (by decide) (gh_Mts M _ q439) (va_Nw.use rfl (M.2.2.1.1 _ (List.mem_of_getElem? (i := 8) rfl))) hce hcv hcl ?_
      exact wk_X0_platesNeeded_12 M hr htab  (some q9) _ _ _ _ G (gh_sub hl [] rfl) hw
    · replace hw := hX q9
      refine vx_catch (name := "java/lang/IllegalStateException") M.1.2.2.2.1 (tableOf [(0, 9, 12, 19)]) ⟨0, 9, 15, 13⟩ (tableOf []) (htab.trans rfl) (List.forall_mem_cons.mpr ⟨Or.inr ⟨by decide, "java/lang/IndexOutOfBoundsException", gh_Mts M _ q439, M.2.2.1.2.2.1 _ (List.mem_of_getElem? (i := 6) rfl)⟩, fun _ h => absurd h List.not_mem_nil⟩) (by decide) (by decide) (gh_Mts M _ q261) (va_Nw.use rfl (M.2.2.1.1 _ (List.mem_of_getElem? (i := 4) rfl))) hce hcv hcl ?_
      exact wk_X0_platesNeeded_15 M hr htab  (some q9) _ _ _ _ G (gh_sub hl [] rfl) hw
  · refine lv_i2l (v := (r2.toInt64)) hx hb dX0_platesNeeded_7 rfl ?_
    refine gh_jas M G hw dX0_platesNeeded_8 (fun h4 H locs hw G => ?_)
    refine lv_goto (tgt := 18) hx hb dX0_platesNeeded_9 (by decide) ?_
    refine lv_iconst (v := (0 : Int32)) hx hb dX0_platesNeeded_18 (by decide) ?_
    exact gh_iret M G hr rfl hw (by exact Nat.le_of_ble_eq_true rfl) (by exact Nat.le_of_ble_eq_true rfl) dX0_platesNeeded_19
/-! BinderyDeskModel.platesNeeded (I)I -/
def rm_X3_platesNeeded : Room := { frames := 4, cells := 0, slots := 0, locals := 110 }
def wb_X3_platesNeeded_17 (κ : Nat → Nat) (K17 : Nat → Int32 → Int32 → Int32 → gh_H → Prop) (Q : Int32 → gh_H → Prop) (X : String → gh_H → Prop) (v0 : Nat) (v1 : Int32) (v2 : Int32) (v3 : Int32) (h : gh_H) : Prop := (gh_RC h (some v0) 1 (fun _ => (wp_X3_count κ v0 v1 (fun r2 h3 => ((r2 ≤ v3 → (gh_GI h3 (some v0) [(1, 4)] (fun x4 => (gh_PV h3 (some v0) [(1, 4)] (.int v2) (fun h5 => (Q (x4 - v2) h5)))))) ∧ (¬ r2 ≤ v3 → (gh_RC h3 (some v0) 1 (fun _ => (wp_X3_plateOf κ v0 v1 v3 (1 : Int32) (fun r7 h8 => (gh_RC h8 (some v0) 1 (fun _ => (wp_X3_makes κ v0 r7 (fun h10 => (gh_RC h10 (some v0) 1 (fun _ => (wp_X3_plateOf κ v0 v1 v3 (0 : Int32) (fun r12 h13 => (gh_RC h13 (some v0) 1 (fun _ => (wp_X3_makes κ v0 r12 (fun h15 => K17 v0 v1 v2 (v3 + (1 : Int32)) h15) X h13)))) X h10)))) X h8)))) X h3)))))) X h)))
def wl_X3_platesNeeded_17 (κ : Nat → Nat)  (Q : Int32 → gh_H → Prop) (X : String → gh_H → Prop) : Nat → Nat → Int32 → Int32 → Int32 → gh_H → Prop
  | 0 => fun _ _ _ _ _ => False
  | n + 1 => fun v0 v1 v2 v3 h => wb_X3_platesNeeded_17 κ (wl_X3_platesNeeded_17 κ Q X n) Q X v0 v1 v2 v3 h
def wp_X3_platesNeeded (κ : Nat → Nat) (v0 : Nat) (v1 : Int32) (Q : Int32 → gh_H → Prop) (X : String → gh_H → Prop) (h : gh_H) : Prop := (gh_RC h (some v0) 1 (fun _ => (wp_X3_isJob κ v0 v1 (fun r2 h3 => ((r2 = 0 → (Q (0 : Int32) h3)) ∧ (¬ r2 = 0 → (gh_GI h3 (some v0) [(1, 4)] (fun x4 => (∃ n : Nat, wl_X3_platesNeeded_17 κ Q X n v0 v1 x4 (0 : Int32) h3)))))) X h)))
set_option maxHeartbeats 4000000 in
theorem wk1_X3_platesNeeded_17 {D : gh_D} {p : Program} {l : Launch} {e : Env} {s : State} {m : MethodId} {args : Array Value} {below : List Frame} {meth : Method} {c : Code} {h0 : gh_H} (M : gh_M D p l s m args meth c RX3 cX3_platesNeeded 4 (gh_A h0 s.heap.size)) (hr : meth.sig.returnType = (some .int)) (hex : ∀ x ∈ c.exceptionTable.toList, False) {K17 : Nat → Int32 → Int32 → Int32 → gh_H → Prop}  {Q : Int32 → gh_H → Prop} {X : String → gh_H → Prop} (k17 : ∀ (v0 : Nat) (v1 : Int32) (v2 : Int32) (v3 : Int32) (H : Heap) (locs : List Loc) (ls : Array Slot) (h : gh_H) (_ : gh_Inv D h0 (gh_A h0 s.heap.size) s.heap s H locs h) (_ : gh_L ls 4 [(0, 1, va_rf (some v0)), (1, 1, .int v1), (2, 1, .int v2), (3, 1, .int v3)]) (_ : K17 v0 v1 v2 v3 h), W p l e rm_X3_platesNeeded s m args below meth c H locs 0 0 (vx_MQ below (gh_Qi Q D h0 s.heap.size) (gh_X X D h0 s.heap.size) args s 0 0 (gh_A h0 s.heap.size)) (F0 m 17 ls []))  (v0 : Nat) (v1 : Int32) (v2 : Int32) (v3 : Int32) (H : Heap) (locs : List Loc) (ls : Array Slot) (h : gh_H) (G : gh_Inv D h0 (gh_A h0 s.heap.size) s.heap s H locs h) (hl : gh_L ls 4 [(0, 1, va_rf (some v0)), (1, 1, .int v1), (2, 1, .int v2), (3, 1, .int v3)]) (hw : wb_X3_platesNeeded_17 D.2.2 K17 Q X v0 v1 v2 v3 h) : W p l e rm_X3_platesNeeded s m args below meth c H locs 0 0 (vx_MQ below (gh_Qi Q D h0 s.heap.size) (gh_X X D h0 s.heap.size) args s 0 0 (gh_A h0 s.heap.size)) (F0 m 17 ls []) := by
  unfold wb_X3_platesNeeded_17 at hw
  have hx := M.1.1
  have hb := M.1.2.1
  refine lv_iload_n hx hb dX3_platesNeeded_17 rfl (gh_at hl 3 rfl) ?_
  refine gh_aload_n hx hb dX3_platesNeeded_18 rfl (gh_at hl 0 rfl) ?_
  refine lv_iload_n hx hb dX3_platesNeeded_19 rfl (gh_at hl 1 rfl) ?_
  obtain ⟨a1, lba1, fsa1, hra1, haa1, hw⟩ := hw
  rw [← Option.some.inj hra1] at haa1
  refine gh_ki G (vx_runV M.1 (met_X3_count l D _ _ _ _ _ _ hw M.2.2.2.2.2) (cwV 1 (gh_Mts M) (lw_V q1684 q1686 qs25 q50 q1687) rfl rfl rfl ⟨rfl, by decide, by decide, rfl⟩ ⟨Nat.le_of_ble_eq_true rfl, Nat.le_of_ble_eq_true rfl⟩) (gh_preV (As := [.int v1]) M G (gh_rec M G haa1 rfl)) rfl rfl hl.1.1 rfl (lv_room (Nat.le_of_ble_eq_true rfl)) dX3_platesNeeded_20 ⟨(Nat.le_of_ble_eq_true rfl), (Nat.le_of_ble_eq_true rfl)⟩) (gh_out M hex (by exact Nat.le_of_ble_eq_true rfl) (by exact Nat.le_of_ble_eq_true rfl)) (fun r2 h3 H locs hw G => ?_)
  refine lv_icmp_ge (tgt := 54) hx hb dX3_platesNeeded_23 (by decide) (fun hc => ?_) (fun hc => ?_)
  · replace hw := hw.1 hc
    refine gh_aload_n hx hb dX3_platesNeeded_54 rfl (gh_at hl 0 rfl) ?_
    refine gh_getI M G hw fl_X3_91 dX3_platesNeeded_55 (fun x4 hw => ?_)
    refine lv_iload_n hx hb dX3_platesNeeded_58 rfl (gh_at hl 2 rfl) ?_
    refine lv_isub hx hb dX3_platesNeeded_59 ?_
    refine gh_istore_n (lv' := [(3, 1, .int (x4 - v2)), (0, 1, va_rf (some v0)), (1, 1, .int v1), (2, 1, .int v2)]) hx hb dX3_platesNeeded_60 rfl hl (by decide) rfl (fun ls hl => ?_)
    refine gh_aload_n hx hb dX3_platesNeeded_61 rfl (gh_at hl 1 rfl) ?_
    refine lv_iload_n hx hb dX3_platesNeeded_62 rfl (gh_at hl 3 rfl) ?_
    refine gh_put M G hw fp_X3_91 rfl rfl dX3_platesNeeded_63 (fun h5 H locs hw G => ?_)
    refine lv_iload_n hx hb dX3_platesNeeded_66 rfl (gh_at hl 0 rfl) ?_
    exact gh_iret M G hr rfl hw (by exact Nat.le_of_ble_eq_true rfl) (by exact Nat.le_of_ble_eq_true rfl) dX3_platesNeeded_67
  · replace hw := hw.2 hc
    refine gh_aload_n hx hb dX3_platesNeeded_26 rfl (gh_at hl 0 rfl) ?_
    refine gh_aload_n hx hb dX3_platesNeeded_27 rfl (gh_at hl 0 rfl) ?_
    refine lv_iload_n hx hb dX3_platesNeeded_28 rfl (gh_at hl 1 rfl) ?_
    refine lv_iload_n hx hb dX3_platesNeeded_29 rfl (gh_at hl 3 rfl) ?_
    refine lv_iconst (v := (1 : Int32)) hx hb dX3_platesNeeded_30 (by decide) ?_
    obtain ⟨a6, lba6, fsa6, hra6, haa6, hw⟩ := hw
    rw [← Option.some.inj hra6] at haa6
    refine gh_ki G (vx_runV M.1 (met_X3_plateOf l D _ _ _ _ _ _ _ _ hw M.2.2.2.2.2) (cwV 3 (gh_Mts M) (lw_V q1748 q1750 qs33 q50 q1751) rfl rfl rfl ⟨rfl, by decide, by decide, rfl⟩ ⟨Nat.le_of_ble_eq_true rfl, Nat.le_of_ble_eq_true rfl⟩) (gh_preV (As := [.int v1, .int v3, .int (1 : Int32)]) M G (gh_rec M G haa6 rfl)) rfl rfl hl.1.1 rfl (lv_room (Nat.le_trans (gh_r1 (gh_cat _) gh_r0) (Nat.le_of_ble_eq_true rfl : 1 ≤ 8))) dX3_platesNeeded_31 ⟨(Nat.le_of_ble_eq_true rfl), (Nat.le_of_ble_eq_true rfl)⟩) (gh_out M hex (by exact Nat.le_of_ble_eq_true rfl) (by exact Nat.le_of_ble_eq_true rfl)) (fun r7 h8 H locs hw G => ?_)
    obtain ⟨a9, lba9, fsa9, hra9, haa9, hw⟩ := hw
    rw [← Option.some.inj hra9] at haa9
    refine gh_kv G (vx_runV M.1 (met_X3_makes l D _ _ _ _ _ _ hw M.2.2.2.2.2) (cwV 1 (gh_Mts M) (lw_V q1756 q1758 qs35 q50 q1759) rfl rfl rfl ⟨rfl, by decide, by decide, rfl⟩ ⟨Nat.le_of_ble_eq_true rfl, Nat.le_of_ble_eq_true rfl⟩) (gh_preV (As := [.int r7]) M G (gh_rec M G haa9 rfl)) rfl rfl hl.1.1 rfl (lv_room (Nat.le_of_ble_eq_true rfl)) dX3_platesNeeded_34 ⟨(Nat.le_of_ble_eq_true rfl), (Nat.le_of_ble_eq_true rfl)⟩) (gh_out M hex (by exact Nat.le_of_ble_eq_true rfl) (by exact Nat.le_of_ble_eq_true rfl)) (fun h10 H locs hw G => ?_)
    refine gh_aload_n hx hb dX3_platesNeeded_37 rfl (gh_at hl 0 rfl) ?_
    refine gh_aload_n hx hb dX3_platesNeeded_38 rfl (gh_at hl 0 rfl) ?_
    refine lv_iload_n hx hb dX3_platesNeeded_39 rfl (gh_at hl 1 rfl) ?_
    refine lv_iload_n hx hb dX3_platesNeeded_40 rfl (gh_at hl 3 rfl) ?_
    refine lv_iconst (v := (0 : Int32)) hx hb dX3_platesNeeded_41 (by decide) ?_
    obtain ⟨a11, lba11, fsa11, hra11, haa11, hw⟩ := hw
    rw [← Option.some.inj hra11] at haa11
    refine gh_ki G (vx_runV M.1 (met_X3_plateOf l D _ _ _ _ _ _ _ _ hw M.2.2.2.2.2) (cwV 3 (gh_Mts M) (lw_V q1748 q1750 qs33 q50 q1751) rfl rfl rfl ⟨rfl, by decide, by decide, rfl⟩ ⟨Nat.le_of_ble_eq_true rfl, Nat.le_of_ble_eq_true rfl⟩) (gh_preV (As := [.int v1, .int v3, .int (0 : Int32)]) M G (gh_rec M G haa11 rfl)) rfl rfl hl.1.1 rfl (lv_room (Nat.le_trans (gh_r1 (gh_cat _) gh_r0) (Nat.le_of_ble_eq_true rfl : 1 ≤ 8))) dX3_platesNeeded_42 ⟨(Nat.le_of_ble_eq_true rfl), (Nat.le_of_ble_eq_true rfl)⟩) (gh_out M hex (by exact Nat.le_of_ble_eq_true rfl) (by exact Nat.le_of_ble_eq_true rfl)) (fun r12 h13 H locs hw G => ?_)
    obtain ⟨a14, lba14, fsa14, hra14, haa14, hw⟩ := hw
    rw [← Option.some.inj hra14] at haa14
    refine gh_kv G (vx_runV M.1 (met_X3_makes l D _ _ _ _ _ _ hw M.2.2.2.2.2) (cwV 1 (gh_Mts M) (lw_V q1756 q1758 qs35 q50 q1759) rfl rfl rfl ⟨rfl, by decide, by decide, rfl⟩ ⟨Nat.le_of_ble_eq_true rfl, Nat.le_of_ble_eq_true rfl⟩) (gh_preV (As := [.int r12]) M G (gh_rec M G haa14 rfl)) rfl rfl hl.1.1 rfl (lv_room (Nat.le_of_ble_eq_true rfl)) dX3_platesNeeded_45 ⟨(Nat.le_of_ble_eq_true rfl), (Nat.le_of_ble_eq_true rfl)⟩) (gh_out M hex (by exact Nat.le_of_ble_eq_true rfl) (by exact Nat.le_of_ble_eq_true rfl)) (fun h15 H locs hw G => ?_)
    refine gh_iinc (k := 3) (v := (v3 + (1 : Int32))) (lv' := [(3, 1, .int (v3 + (1 : Int32))), (0, 1, va_rf (some v0)), (1, 1, .int v1), (2, 1, .int v2)]) hx hb dX3_platesNeeded_48 hl rfl rfl (by decide) rfl (fun ls hl => ?_)
    refine lv_goto (tgt := 17) hx hb dX3_platesNeeded_51 (by decide) ?_
    exact k17 v0 v1 v2 (v3 + (1 : Int32)) _ _ _ _ G (gh_sub hl [1, 2, 3, 0] rfl) hw
theorem wk_X3_platesNeeded_17 {D : gh_D} {p : Program} {l : Launch} {e : Env} {s : State} {m : MethodId} {args : Array Value} {below : List Frame} {meth : Method} {c : Code} {h0 : gh_H} (M : gh_M D p l s m args meth c RX3 cX3_platesNeeded 4 (gh_A h0 s.heap.size)) (hr : meth.sig.returnType = (some .int)) (hex : ∀ x ∈ c.exceptionTable.toList, False)   {Q : Int32 → gh_H → Prop} {X : String → gh_H → Prop}   : ∀ (n : Nat) (v0 : Nat) (v1 : Int32) (v2 : Int32) (v3 : Int32) (H : Heap) (locs : List Loc) (ls : Array Slot) (h : gh_H) (_ : gh_Inv D h0 (gh_A h0 s.heap.size) s.heap s H locs h) (_ : gh_L ls 4 [(0, 1, va_rf (some v0)), (1, 1, .int v1), (2, 1, .int v2), (3, 1, .int v3)]) (_ : wl_X3_platesNeeded_17 D.2.2 Q X n v0 v1 v2 v3 h), W p l e rm_X3_platesNeeded s m args below meth c H locs 0 0 (vx_MQ below (gh_Qi Q D h0 s.heap.size) (gh_X X D h0 s.heap.size) args s 0 0 (gh_A h0 s.heap.size)) (F0 m 17 ls []) := by
  intro fu
  induction fu with
  | zero => intro v0 v1 v2 v3 H locs ls h G hl hw; exact False.elim hw
  | succ n1 ih =>
    intro v0 v1 v2 v3 H locs ls h G hl hw
    exact wk1_X3_platesNeeded_17 M hr hex ih  v0 v1 v2 v3 _ _ _ _ G hl hw
set_option maxHeartbeats 4000000 in
theorem met_X3_platesNeeded (l : Launch) (D : gh_D) (v0 : Nat) (v1 : Int32) (Q : Int32 → gh_H → Prop) (X : String → gh_H → Prop) (h : gh_H) (sz : Nat) (hw : wp_X3_platesNeeded D.2.2 v0 v1 Q X h) (hst : l.stackTraces = false) : vx_Met l yX3_platesNeeded (ws_ yX3_platesNeeded cX3_platesNeeded 4 (some .int)) rm_X3_platesNeeded (gh_Pc D h sz [.ref v0, .int v1]) (gh_Qi Q D h sz) (gh_X X D h sz) 0 0 (gh_A h sz) := by
  refine vx_ofW (by decide) rfl (fun p e s m args below meth c s₁ B hml hex hP => ?_)
  obtain ⟨rfl, rfl, hK, hT, hE, G⟩ := gh_start hP
  have M : gh_M D p l s m _ meth c RX3 cX3_platesNeeded 4 (gh_A h s.heap.size) := ⟨⟨B.exec, B.bytes, hml, findClass_of_methodNamed B.named, fun w hw => atoms_spec (ws := ws_ yX3_platesNeeded cX3_platesNeeded 4 (some .int)) B.pre w (List.mem_cons_of_mem _ hw)⟩, hK, hT, hE, B.notSynchronized, hst⟩
  have hr := B.returns
  have hx := M.1.1
  have hb := M.1.2.1
  refine gh_enter (vs := [(1, .ref v0), (1, .int v1)]) (gh_w1 rfl (gh_w1 rfl gh_wn)) (Nat.le_of_ble_eq_true rfl) (fun ls hl => ?_)
  replace hl : gh_L ls 4 [(0, 1, va_rf (some v0)), (1, 1, .int v1)] := hl
  unfold wp_X3_platesNeeded at hw
  refine gh_aload_n hx hb dX3_platesNeeded_0 rfl (gh_at hl 0 rfl) ?_
  refine lv_iload_n hx hb dX3_platesNeeded_1 rfl (gh_at hl 1 rfl) ?_
  obtain ⟨a1, lba1, fsa1, hra1, haa1, hw⟩ := hw
  rw [← Option.some.inj hra1] at haa1
  refine gh_ki G (vx_runV M.1 (met_X3_isJob l D _ _ _ _ _ _ hw M.2.2.2.2.2) (cwV 1 (gh_Mts M) (lw_V q1724 q1726 qs30 q50 q1727) rfl rfl rfl ⟨rfl, by decide, by decide, rfl⟩ ⟨Nat.le_of_ble_eq_true rfl, Nat.le_of_ble_eq_true rfl⟩) (gh_preV (As := [.int v1]) M G (gh_rec M G haa1 rfl)) rfl rfl hl.1.1 rfl (lv_room (Nat.le_of_ble_eq_true rfl)) dX3_platesNeeded_2 ⟨(Nat.le_of_ble_eq_true rfl), (Nat.le_of_ble_eq_true rfl)⟩) (gh_out M hex (by exact Nat.le_of_ble_eq_true rfl) (by exact Nat.le_of_ble_eq_true rfl)) (fun r2 h3 H locs hw G => ?_)
  refine lv_if_ne (tgt := 10) hx hb dX3_platesNeeded_5 (by decide) (fun hc => ?_) (fun hc => ?_)
  · replace hw := hw.2 hc
    refine gh_aload_n hx hb dX3_platesNeeded_10 rfl (gh_at hl 0 rfl) ?_
    refine gh_getI M G hw fl_X3_91 dX3_platesNeeded_11 (fun x4 hw => ?_)
    refine gh_istore_n (lv' := [(2, 1, .int x4), (0, 1, va_rf (some v0)), (1, 1, .int v1)]) hx hb dX3_platesNeeded_14 rfl hl (by decide) rfl (fun ls hl => ?_)
    refine lv_iconst (v := (0 : Int32)) hx hb dX3_platesNeeded_15 (by decide) ?_
    refine gh_istore_n (lv' := [(3, 1, .int (0 : Int32)), (2, 1, .int x4), (0, 1, va_rf (some v0)), (1, 1, .int v1)]) hx hb dX3_platesNeeded_16 rfl hl (by decide) rfl (fun ls hl => ?_)
    obtain ⟨n, hw⟩ := hw
    exact wk_X3_platesNeeded_17 M hr hex  n v0 v1 x4 (0 : Int32) _ _ _ _ G (gh_sub hl [2, 3, 1, 0] rfl) hw
  · replace hw := hw.1 hc
    refine lv_iconst (v := (0 : Int32)) hx hb dX3_platesNeeded_8 (by decide) ?_
    exact gh_iret M G hr rfl hw (by exact Nat.le_of_ble_eq_true rfl) (by exact Nat.le_of_ble_eq_true rfl) dX3_platesNeeded_9
/-! BinderyDesk$Job.lacks (I)I -/
def rm_X7_lacks : Room := { frames := 4, cells := 0, slots := 0, locals := 104 }
def wb_X7_lacks_4 (κ : Nat → Nat) (K4 : Nat → Int32 → Int32 → Int32 → gh_H → Prop) (Q : Int32 → gh_H → Prop) (X : String → gh_H → Prop) (v0 : Nat) (v1 : Int32) (v2 : Int32) (v3 : Int32) (h : gh_H) : Prop := (gh_RC h (some v0) 7 (fun _ => (wp_X7_sheets κ v0 (fun r2 h3 => ((r2 ≤ v3 → (Q v2 h3)) ∧ (¬ r2 ≤ v3 → (gh_GR h3 (some v0) [(7, 2)] (fun x4 => (gh_RC h3 x4 8 (fun a5 => (wp_J2_get κ a5 v3 (fun r6 h7 => (gh_CK h7 r6 [3] (gh_RC h7 r6 3 (fun a8 => (wp_X8_stock κ a8 (fun r9 h10 => K4 v0 v1 (v2 + (if (0 : Int32) < (v1 - r9) then (v1 - r9) else (0 : Int32))) (v3 + (1 : Int32)) h10) X h7))))) X h3)))))))) X h)))
def wl_X7_lacks_4 (κ : Nat → Nat)  (Q : Int32 → gh_H → Prop) (X : String → gh_H → Prop) : Nat → Nat → Int32 → Int32 → Int32 → gh_H → Prop
  | 0 => fun _ _ _ _ _ => False
  | n + 1 => fun v0 v1 v2 v3 h => wb_X7_lacks_4 κ (wl_X7_lacks_4 κ Q X n) Q X v0 v1 v2 v3 h
def wp_X7_lacks (κ : Nat → Nat) (v0 : Nat) (v1 : Int32) (Q : Int32 → gh_H → Prop) (X : String → gh_H → Prop) (h : gh_H) : Prop := (∃ n : Nat, wl_X7_lacks_4 κ Q X n v0 v1 (0 : Int32) (0 : Int32) h)
set_option maxHeartbeats 4000000 in
theorem wk1_X7_lacks_4 {D : gh_D} {p : Program} {l : Launch} {e : Env} {s : State} {m : MethodId} {args : Array Value} {below : List Frame} {meth : Method} {c : Code} {h0 : gh_H} (M : gh_M D p l s m args meth c RX7 cX7_lacks 4 (gh_A h0 s.heap.size)) (hr : meth.sig.returnType = (some .int)) (hex : ∀ x ∈ c.exceptionTable.toList, False) {K4 : Nat → Int32 → Int32 → Int32 → gh_H → Prop}  {Q : Int32 → gh_H → Prop} {X : String → gh_H → Prop} (k4 : ∀ (v0 : Nat) (v1 : Int32) (v2 : Int32) (v3 : Int32) (H : Heap) (locs : List Loc) (ls : Array Slot) (h : gh_H) (_ : gh_Inv D h0 (gh_A h0 s.heap.size) s.heap s H locs h) (_ : gh_L ls 4 [(0, 1, va_rf (some v0)), (1, 1, .int v1), (2, 1, .int v2), (3, 1, .int v3)]) (_ : K4 v0 v1 v2 v3 h), W p l e rm_X7_lacks s m args below meth c H locs 0 0 (vx_MQ below (gh_Qi Q D h0 s.heap.size) (gh_X X D h0 s.heap.size) args s 0 0 (gh_A h0 s.heap.size)) (F0 m 4 ls []))  (v0 : Nat) (v1 : Int32) (v2 : Int32) (v3 : Int32) (H : Heap) (locs : List Loc) (ls : Array Slot) (h : gh_H) (G : gh_Inv D h0 (gh_A h0 s.heap.size) s.heap s H locs h) (hl : gh_L ls 4 [(0, 1, va_rf (some v0)), (1, 1, .int v1), (2, 1, .int v2), (3, 1, .int v3)]) (hw : wb_X7_lacks_4 D.2.2 K4 Q X v0 v1 v2 v3 h) : W p l e rm_X7_lacks s m args below meth c H locs 0 0 (vx_MQ below (gh_Qi Q D h0 s.heap.size) (gh_X X D h0 s.heap.size) args s 0 0 (gh_A h0 s.heap.size)) (F0 m 4 ls []) := by
  unfold wb_X7_lacks_4 at hw
  have hx := M.1.1
  have hb := M.1.2.1
  refine lv_iload_n hx hb dX7_lacks_4 rfl (gh_at hl 3 rfl) ?_
  refine gh_aload_n hx hb dX7_lacks_5 rfl (gh_at hl 0 rfl) ?_
  obtain ⟨a1, lba1, fsa1, hra1, haa1, hw⟩ := hw
  rw [← Option.some.inj hra1] at haa1
  refine gh_ki G (vx_runV M.1 (met_X7_sheets l D _ _ _ _ _ hw M.2.2.2.2.2) (cwV 0 (gh_Mts M) (lw_V q643 q644 q645 q71 q646) rfl rfl rfl ⟨rfl, by decide, by decide, rfl⟩ ⟨Nat.le_of_ble_eq_true rfl, Nat.le_of_ble_eq_true rfl⟩) (gh_preV (As := []) M G (gh_rec M G haa1 rfl)) rfl rfl hl.1.1 rfl (lv_room (Nat.le_of_ble_eq_true rfl)) dX7_lacks_6 ⟨(Nat.le_of_ble_eq_true rfl), (Nat.le_of_ble_eq_true rfl)⟩) (gh_out M hex (by exact Nat.le_of_ble_eq_true rfl) (by exact Nat.le_of_ble_eq_true rfl)) (fun r2 h3 H locs hw G => ?_)
  refine lv_icmp_ge (tgt := 43) hx hb dX7_lacks_9 (by decide) (fun hc => ?_) (fun hc => ?_)
  · replace hw := hw.1 hc
    refine lv_iload_n hx hb dX7_lacks_43 rfl (gh_at hl 2 rfl) ?_
    exact gh_iret M G hr rfl hw (by exact Nat.le_of_ble_eq_true rfl) (by exact Nat.le_of_ble_eq_true rfl) dX7_lacks_44
  · replace hw := hw.2 hc
    refine lv_iload_n hx hb dX7_lacks_12 rfl (gh_at hl 2 rfl) ?_
    refine lv_iconst (v := (0 : Int32)) hx hb dX7_lacks_13 (by decide) ?_
    refine lv_iload_n hx hb dX7_lacks_14 rfl (gh_at hl 1 rfl) ?_
    refine gh_aload_n hx hb dX7_lacks_15 rfl (gh_at hl 0 rfl) ?_
    refine gh_getR M G hw fl_X7_18 dX7_lacks_16 (fun x4 hw => ?_)
    refine lv_iload_n hx hb dX7_lacks_19 rfl (gh_at hl 3 rfl) ?_
    obtain ⟨a5, lba5, fsa5, rfl, haa5, hw⟩ := hw
    refine gh_kFq G (vx_runF (C := "java/util/ArrayList") (M.2.1.1.1 8 _ rfl).2 M.1 (met_J2_get l D _ _ _ _ _ _ hw M.2.2.2.2.2) (va_cwF 1 (gh_Mts M) (gh_gF q672 q502 q504 q44 q506) rfl rfl rfl (M.2.2.1.2.1 _ (List.mem_of_getElem? (i := 6) rfl)) ⟨by decide, by decide, rfl⟩ ⟨Nat.le_of_ble_eq_true rfl, Nat.le_of_ble_eq_true rfl⟩) (gh_preV (As := [.int v3]) M G (gh_rec M G haa5 rfl)) rfl rfl hl.1.1 rfl (lv_room (Nat.le_of_ble_eq_true rfl)) dX7_lacks_20 ⟨(Nat.le_of_ble_eq_true rfl), (Nat.le_of_ble_eq_true rfl)⟩) (gh_out M hex (by exact Nat.le_of_ble_eq_true rfl) (by exact Nat.le_of_ble_eq_true rfl)) (fun r6 h7 H locs hw G => ?_)
    refine gh_cast (cis := [3]) M G hw q674 (List.forall_mem_cons.mpr ⟨⟨_, rfl, Or.inl ⟨rfl, rfl⟩⟩, fun _ h => absurd h List.not_mem_nil⟩) dX7_lacks_25 (fun hw => ?_)
    obtain ⟨a8, lba8, fsa8, rfl, haa8, hw⟩ := hw
    refine gh_ki G (vx_runU (C := "BinderyDesk$SheetPile") M.1 (met_X8_stock l D _ _ _ _ _ hw M.2.2.2.2.2) (va_cwU 0 (gh_Mts M) (gh_gU q1408 q680 q682 q683 q72 q684) rfl rfl rfl rfl ⟨by decide, by decide, rfl⟩ ⟨Nat.le_of_ble_eq_true rfl, Nat.le_of_ble_eq_true rfl⟩) (gh_preV (As := []) M G (gh_rec M G haa8 rfl)) rfl rfl hl.1.1 rfl (lv_room (Nat.le_of_ble_eq_true rfl)) dX7_lacks_28 ⟨(Nat.le_of_ble_eq_true rfl), (Nat.le_of_ble_eq_true rfl)⟩) (gh_out M hex (by exact Nat.le_of_ble_eq_true rfl) (by exact Nat.le_of_ble_eq_true rfl)) (fun r9 h10 H locs hw G => ?_)
    refine lv_isub hx hb dX7_lacks_31 ?_
    refine va_mmax M.1.1 M.1.2.1 (M.1.2.2.1.trans hl.1.1.symm) M.1.2.2.2.1 (gh_Mts M _ q1409) (gh_Mts M _ q382) (gh_Mts M _ q57) (gh_Mts M _ q383) (by exact Nat.le_of_ble_eq_true rfl) (Nat.le_trans (Nat.add_le_add_right (gh_r1 rfl gh_r0) _) (by exact Nat.le_of_ble_eq_true rfl)) (Nat.le_of_ble_eq_true rfl) (Nat.le_of_ble_eq_true rfl) dX7_lacks_32 ?_
    refine lv_iadd hx hb dX7_lacks_35 ?_
    refine gh_istore_n (lv' := [(2, 1, .int (v2 + (if (0 : Int32) < (v1 - r9) then (v1 - r9) else (0 : Int32)))), (0, 1, va_rf (some v0)), (1, 1, .int v1), (3, 1, .int v3)]) hx hb dX7_lacks_36 rfl hl (by decide) rfl (fun ls hl => ?_)
    refine gh_iinc (k := 3) (v := (v3 + (1 : Int32))) (lv' := [(3, 1, .int (v3 + (1 : Int32))), (2, 1, .int (v2 + (if (0 : Int32) < (v1 - r9) then (v1 - r9) else (0 : Int32)))), (0, 1, va_rf (some v0)), (1, 1, .int v1)]) hx hb dX7_lacks_37 hl rfl rfl (by decide) rfl (fun ls hl => ?_)
    refine lv_goto (tgt := 4) hx hb dX7_lacks_40 (by decide) ?_
    exact k4 v0 v1 (v2 + (if (0 : Int32) < (v1 - r9) then (v1 - r9) else (0 : Int32))) (v3 + (1 : Int32)) _ _ _ _ G (gh_sub hl [2, 3, 1, 0] rfl) hw
theorem wk_X7_lacks_4 {D : gh_D} {p : Program} {l : Launch} {e : Env} {s : State} {m : MethodId} {args : Array Value} {below : List Frame} {meth : Method} {c : Code} {h0 : gh_H} (M : gh_M D p l s m args meth c RX7 cX7_lacks 4 (gh_A h0 s.heap.size)) (hr : meth.sig.returnType = (some .int)) (hex : ∀ x ∈ c.exceptionTable.toList, False)   {Q : Int32 → gh_H → Prop} {X : String → gh_H → Prop}   : ∀ (n : Nat) (v0 : Nat) (v1 : Int32) (v2 : Int32) (v3 : Int32) (H : Heap) (locs : List Loc) (ls : Array Slot) (h : gh_H) (_ : gh_Inv D h0 (gh_A h0 s.heap.size) s.heap s H locs h) (_ : gh_L ls 4 [(0, 1, va_rf (some v0)), (1, 1, .int v1), (2, 1, .int v2), (3, 1, .int v3)]) (_ : wl_X7_lacks_4 D.2.2 Q X n v0 v1 v2 v3 h), W p l e rm_X7_lacks s m args below meth c H locs 0 0 (vx_MQ below (gh_Qi Q D h0 s.heap.size) (gh_X X D h0 s.heap.size) args s 0 0 (gh_A h0 s.heap.size)) (F0 m 4 ls []) := by
  intro fu
  induction fu with
  | zero => intro v0 v1 v2 v3 H locs ls h G hl hw; exact False.elim hw
  | succ n1 ih =>
    intro v0 v1 v2 v3 H locs ls h G hl hw
    exact wk1_X7_lacks_4 M hr hex ih  v0 v1 v2 v3 _ _ _ _ G hl hw
set_option maxHeartbeats 4000000 in
theorem met_X7_lacks (l : Launch) (D : gh_D) (v0 : Nat) (v1 : Int32) (Q : Int32 → gh_H → Prop) (X : String → gh_H → Prop) (h : gh_H) (sz : Nat) (hw : wp_X7_lacks D.2.2 v0 v1 Q X h) (hst : l.stackTraces = false) : vx_Met l yX7_lacks (ws_ yX7_lacks cX7_lacks 4 (some .int)) rm_X7_lacks (gh_Pc D h sz [.ref v0, .int v1]) (gh_Qi Q D h sz) (gh_X X D h sz) 0 0 (gh_A h sz) := by
  refine vx_ofW (by decide) rfl (fun p e s m args below meth c s₁ B hml hex hP => ?_)
  obtain ⟨rfl, rfl, hK, hT, hE, G⟩ := gh_start hP
  have M : gh_M D p l s m _ meth c RX7 cX7_lacks 4 (gh_A h s.heap.size) := ⟨⟨B.exec, B.bytes, hml, findClass_of_methodNamed B.named, fun w hw => atoms_spec (ws := ws_ yX7_lacks cX7_lacks 4 (some .int)) B.pre w (List.mem_cons_of_mem _ hw)⟩, hK, hT, hE, B.notSynchronized, hst⟩
  have hr := B.returns
  have hx := M.1.1
  have hb := M.1.2.1
  refine gh_enter (vs := [(1, .ref v0), (1, .int v1)]) (gh_w1 rfl (gh_w1 rfl gh_wn)) (Nat.le_of_ble_eq_true rfl) (fun ls hl => ?_)
  replace hl : gh_L ls 4 [(0, 1, va_rf (some v0)), (1, 1, .int v1)] := hl
  unfold wp_X7_lacks at hw
  refine lv_iconst (v := (0 : Int32)) hx hb dX7_lacks_0 (by decide) ?_
  refine gh_istore_n (lv' := [(2, 1, .int (0 : Int32)), (0, 1, va_rf (some v0)), (1, 1, .int v1)]) hx hb dX7_lacks_1 rfl hl (by decide) rfl (fun ls hl => ?_)
  refine lv_iconst (v := (0 : Int32)) hx hb dX7_lacks_2 (by decide) ?_
  refine gh_istore_n (lv' := [(3, 1, .int (0 : Int32)), (2, 1, .int (0 : Int32)), (0, 1, va_rf (some v0)), (1, 1, .int v1)]) hx hb dX7_lacks_3 rfl hl (by decide) rfl (fun ls hl => ?_)
  obtain ⟨n, hw⟩ := hw
  exact wk_X7_lacks_4 M hr hex  n v0 v1 (0 : Int32) (0 : Int32) _ _ _ _ G (gh_sub hl [2, 3, 1, 0] rfl) hw
/-! java/util/ArrayList.toArray ()[Ljava/lang/Object; -/
def rm_J2_toArray : Room := { frames := 4, cells := 1, slots := 80, locals := 124 }
def wp_J2_toArray (κ : Nat → Nat) (v0 : Nat) (Q : Option Nat → gh_H → Prop) (X : String → gh_H → Prop) (h : gh_H) : Prop := (gh_GR h (some v0) [(8, 1)] (fun x1 => (gh_GI h (some v0) [(8, 2)] (fun x2 => (wp_J13_copyOf κ x1 x2 (fun r3 h4 => (Q r3 h4)) X h)))))
set_option maxHeartbeats 4000000 in
theorem met_J2_toArray (l : Launch) (D : gh_D) (v0 : Nat) (Q : Option Nat → gh_H → Prop) (X : String → gh_H → Prop) (h : gh_H) (sz : Nat) (hw : wp_J2_toArray D.2.2 v0 Q X h) (hst : l.stackTraces = false) : vx_Met l yJ2_toArray (ws_ yJ2_toArray cJ2_toArray 1 (some (.array (.object "java/lang/Object")))) rm_J2_toArray (gh_Pc D h sz [.ref v0]) (gh_Qq Q D h sz) (gh_X X D h sz) 1 80 (gh_A h sz) := by
  refine vx_ofW (by decide) rfl (fun p e s m args below meth c s₁ B hml hex hP => ?_)
  obtain ⟨rfl, rfl, hK, hT, hE, G⟩ := gh_start hP
  have M : gh_M D p l s m _ meth c RJ2 cJ2_toArray 1 (gh_A h s.heap.size) := ⟨⟨B.exec, B.bytes, hml, findClass_of_methodNamed B.named, fun w hw => atoms_spec (ws := ws_ yJ2_toArray cJ2_toArray 1 (some (.array (.object "java/lang/Object")))) B.pre w (List.mem_cons_of_mem _ hw)⟩, hK, hT, hE, B.notSynchronized, hst⟩
  have hr := B.returns
  have hx := M.1.1
  have hb := M.1.2.1
  refine gh_enter (vs := [(1, .ref v0)]) (gh_w1 rfl gh_wn) (Nat.le_of_ble_eq_true rfl) (fun ls hl => ?_)
  replace hl : gh_L ls 1 [(0, 1, va_rf (some v0))] := hl
  unfold wp_J2_toArray at hw
  refine gh_aload_n hx hb dJ2_toArray_0 rfl (gh_at hl 0 rfl) ?_
  refine gh_getR M G hw fl_J2_9 dJ2_toArray_1 (fun x1 hw => ?_)
  refine gh_aload_n hx hb dJ2_toArray_4 rfl (gh_at hl 0 rfl) ?_
  refine gh_getI M G hw fl_J2_48 dJ2_toArray_5 (fun x2 hw => ?_)
  refine gh_kq G (vx_runS M.1 (met_J13_copyOf l D _ _ _ _ _ _ hw M.2.2.2.2.2) (va_cwS 2 (gh_Mts M) (lw_S q388 q389 q58 q390) rfl rfl rfl ⟨by decide, by decide, rfl⟩ ⟨Nat.le_of_ble_eq_true rfl, Nat.le_of_ble_eq_true rfl⟩) (gh_pre M G (As := [va_rf x1, .int x2])) rfl rfl hl.1.1 rfl (lv_room (Nat.le_of_ble_eq_true rfl)) dJ2_toArray_8 ⟨(Nat.le_of_ble_eq_true rfl), (Nat.le_of_ble_eq_true rfl)⟩) (gh_out M hex (by exact Nat.le_of_ble_eq_true rfl) (by exact Nat.le_of_ble_eq_true rfl)) (fun r3 h4 H locs hw G => ?_)
  exact gh_aret M G hr (Or.inr ⟨_, rfl⟩) hw (by exact Nat.le_of_ble_eq_true rfl) (by exact Nat.le_of_ble_eq_true rfl) dJ2_toArray_11
/-! java/util/ArrayList.<init> (Ljava/util/Collection;)V -/
def rm_J2_init_2 : Room := { frames := 5, cells := 2, slots := 160, locals := 144 }
def wb_J2_init_2_64 (κ : Nat → Nat)  (Q : gh_H → Prop) (X : String → gh_H → Prop)  (h : gh_H) : Prop := (Q h)
def wp_J2_init_2 (κ : Nat → Nat) (v0 : Nat) (v1 : Option Nat) (Q : gh_H → Prop) (X : String → gh_H → Prop) (h : gh_H) : Prop := (wp_J1_init κ v0 (fun h1 => (gh_RC h1 v1 8 (fun a2 => (wp_J2_toArray κ a2 (fun r3 h4 => (gh_LN h4 r3 (fun x5 => (gh_PV h4 (some v0) [(8, 2)] (.int x5) (fun h6 => ((x5 = 0 → (gh_PV h6 (some v0) [(8, 1)] (va_rf (some (κ 1))) (fun h7 => wb_J2_init_2_64 κ Q X h7))) ∧ (¬ x5 = 0 → (gh_GB h6 (some a2) (((some (κ 5)) = (some (κ 5)) → (gh_PV h6 (some v0) [(8, 1)] (va_rf r3) (fun h12 => wb_J2_init_2_64 κ Q X h12))) ∧ (¬ (some (κ 5)) = (some (κ 5)) → (gh_GI h6 (some v0) [(8, 2)] (fun x8 => (wp_J13_copyOf_2 κ r3 x8 (some (κ 6)) (fun r9 h10 => (gh_PV h10 (some v0) [(8, 1)] (va_rf r9) (fun h11 => wb_J2_init_2_64 κ Q X h11))) X h6))))))))))))) X h1)))) X h)
set_option maxHeartbeats 4000000 in
theorem wk_J2_init_2_64 {D : gh_D} {p : Program} {l : Launch} {e : Env} {s : State} {m : MethodId} {args : Array Value} {below : List Frame} {meth : Method} {c : Code} {h0 : gh_H} (M : gh_M D p l s m args meth c RJ2 cJ2_init_2 3 (gh_A h0 s.heap.size)) (hr : meth.sig.returnType = none) (hex : ∀ x ∈ c.exceptionTable.toList, False) (hname : meth.name = "<init>")   {Q : gh_H → Prop} {X : String → gh_H → Prop}    (H : Heap) (locs : List Loc) (ls : Array Slot) (h : gh_H) (G : gh_Inv D h0 (gh_A h0 s.heap.size) s.heap s H locs h) (hl : gh_L ls 3 []) (hw : wb_J2_init_2_64 D.2.2 Q X h) : W p l e rm_J2_init_2 s m args below meth c H locs 2 160 (vx_MQ below (gh_Qv Q D h0 s.heap.size) (gh_X X D h0 s.heap.size) args s 2 160 (gh_A h0 s.heap.size)) (F0 m 64 ls []) := by
  unfold wb_J2_init_2_64 at hw
  have hx := M.1.1
  have hb := M.1.2.1
  exact gh_vret M G hr hw (by exact Nat.le_of_ble_eq_true rfl) (by exact Nat.le_of_ble_eq_true rfl) dJ2_init_2_64
set_option maxHeartbeats 4000000 in
theorem met_J2_init_2 (l : Launch) (D : gh_D) (v0 : Nat) (v1 : Option Nat) (Q : gh_H → Prop) (X : String → gh_H → Prop) (h : gh_H) (sz : Nat) (hw : wp_J2_init_2 D.2.2 v0 v1 Q X h) (hst : l.stackTraces = false) : vx_Met l yJ2_init_2 (ws_ yJ2_init_2 cJ2_init_2 3 none) rm_J2_init_2 (gh_Pc D h sz [.ref v0, va_rf v1]) (gh_Qv Q D h sz) (gh_X X D h sz) 2 160 (gh_A h sz) := by
  refine vx_ofW (by decide) rfl (fun p e s m args below meth c s₁ B hml hex hP => ?_)
  obtain ⟨rfl, rfl, hK, hT, hE, G⟩ := gh_start hP
  have M : gh_M D p l s m _ meth c RJ2 cJ2_init_2 3 (gh_A h s.heap.size) := ⟨⟨B.exec, B.bytes, hml, findClass_of_methodNamed B.named, fun w hw => atoms_spec (ws := ws_ yJ2_init_2 cJ2_init_2 3 none) B.pre w (List.mem_cons_of_mem _ hw)⟩, hK, hT, hE, B.notSynchronized, hst⟩
  have hr := B.returns
  have hname : meth.name = "<init>" := (name_of_methodNamed B.named B.method).1
  have hx := M.1.1
  have hb := M.1.2.1
  refine gh_enter (vs := [(1, .ref v0), (1, va_rf v1)]) (gh_w1 rfl (gh_w1 (gh_cat _) gh_wn)) (Nat.le_of_ble_eq_true rfl) (fun ls hl => ?_)
  replace hl : gh_L ls 3 [(0, 1, va_rf (some v0)), (1, 1, va_rf v1)] := hl
  unfold wp_J2_init_2 at hw
  refine gh_aload_n hx hb dJ2_init_2_0 rfl (gh_at hl 0 rfl) ?_
  refine gh_kv G (vx_runI M.1 (met_J1_init l D _ _ _ _ _ hw M.2.2.2.2.2) (cwI 0 (gh_Mts M) (lw_meth q100) rfl rfl rfl (gh_Mts M _ q43) (gh_Mts M _ q98) (gh_Mts M _ q99) rfl ⟨by decide, by decide, rfl⟩ ⟨Nat.le_of_ble_eq_true rfl, Nat.le_of_ble_eq_true rfl⟩) (gh_pre M G (As := .ref v0 :: [])) rfl rfl hl.1.1 rfl (lv_room (Nat.le_of_ble_eq_true rfl)) dJ2_init_2_1 ⟨(Nat.le_of_ble_eq_true rfl), (Nat.le_of_ble_eq_true rfl)⟩) (gh_out M hex (by exact Nat.le_of_ble_eq_true rfl) (by exact Nat.le_of_ble_eq_true rfl)) (fun h1 H locs hw G => ?_)
  refine gh_aload_n hx hb dJ2_init_2_4 rfl (gh_at hl 1 rfl) ?_
  obtain ⟨a2, lba2, fsa2, rfl, haa2, hw⟩ := hw
  refine gh_kFq G (vx_runF (C := "java/util/ArrayList") (M.2.1.1.1 8 _ rfl).2 M.1 (met_J2_toArray l D _ _ _ _ _ hw M.2.2.2.2.2) (va_cwF 0 (gh_Mts M) (gh_gF q1422 q1425 q1427 q44 q1429) rfl rfl rfl (M.2.2.1.2.1 _ (List.mem_of_getElem? (i := 12) rfl)) ⟨by decide, by decide, rfl⟩ ⟨Nat.le_of_ble_eq_true rfl, Nat.le_of_ble_eq_true rfl⟩) (gh_preV (As := []) M G (gh_rec M G haa2 rfl)) rfl rfl hl.1.1 rfl (lv_room (Nat.le_of_ble_eq_true rfl)) dJ2_init_2_5 ⟨(Nat.le_of_ble_eq_true rfl), (Nat.le_of_ble_eq_true rfl)⟩) (gh_out M hex (by exact Nat.le_of_ble_eq_true rfl) (by exact Nat.le_of_ble_eq_true rfl)) (fun r3 h4 H locs hw G => ?_)
  refine gh_astore_n (lv' := [(2, 1, va_rf r3), (0, 1, va_rf (some v0)), (1, 1, va_rf (some a2))]) hx hb dJ2_init_2_10 rfl hl (by decide) rfl (fun ls hl => ?_)
  refine gh_aload_n hx hb dJ2_init_2_11 rfl (gh_at hl 1 rfl) ?_
  refine gh_aload_n hx hb dJ2_init_2_12 rfl (gh_at hl 0 rfl) ?_
  refine gh_len M G hw dJ2_init_2_13 (fun x5 hw => ?_)
  refine lv_dup_x1 hx hb dJ2_init_2_14 rfl (gh_cat _) ?_
  refine gh_put M G hw fp_J2_48 rfl rfl dJ2_init_2_15 (fun h6 H locs hw G => ?_)
  refine lv_if_eq (tgt := 57) hx hb dJ2_init_2_18 (by decide) (fun hc => ?_) (fun hc => ?_)
  · replace hw := hw.1 hc
    refine gh_aload_n hx hb dJ2_init_2_57 rfl (gh_at hl 1 rfl) ?_
    refine gh_gets (v := va_rf (some (D.2.2 1))) M G M.2.2.2.1.2.1 q1455 rfl dJ2_init_2_58 ?_
    refine gh_put M G hw fp_J2_9 (gh_narA _ _) (gh_fitA _ _) dJ2_init_2_61 (fun h7 H locs hw G => ?_)
    refine W.widen (k := 2) (n := 160) (by exact Nat.le_of_ble_eq_true rfl) (by exact Nat.le_of_ble_eq_true rfl) ?_
    exact wk_J2_init_2_64 M hr hex hname   _ _ _ _ G (gh_sub hl [] rfl) hw
  · replace hw := hw.2 hc
    refine gh_aload_n hx hb dJ2_init_2_21 rfl (gh_at hl 2 rfl) ?_
    refine gh_getB M G hw q1445 (List.mem_of_getElem? (i := 86) rfl) (List.mem_of_getElem? (i := 4) rfl) q412 q392 q421 (List.mem_of_getElem? (i := 87) rfl) (List.mem_of_getElem? (i := 42) rfl) (List.mem_of_getElem? (i := 37) rfl) hl.1.1 (Nat.le_of_ble_eq_true rfl) dJ2_init_2_22 (Nat.le_of_ble_eq_true rfl) (Nat.le_of_ble_eq_true rfl) (fun hw => ?_)
    refine va_ldcM hx hb M.1.2.2.2.1 (gh_Mts M _ q1452) M.2.2.2.1.2.2.2.2.2.2.2.2.1 dJ2_init_2_27 ?_
    refine lv_acmp_ne (rx := (some (D.2.2 5))) (ry := (some (D.2.2 5))) (tgt := 40) hx hb dJ2_init_2_29 (by decide) (fun hc => ?_) (fun hc => ?_)
    · replace hw := hw.2 hc
      refine gh_aload_n hx hb dJ2_init_2_40 rfl (gh_at hl 1 rfl) ?_
      refine gh_aload_n hx hb dJ2_init_2_41 rfl (gh_at hl 0 rfl) ?_
      refine gh_aload_n hx hb dJ2_init_2_42 rfl (gh_at hl 1 rfl) ?_
      refine gh_getI M G hw fl_J2_48 dJ2_init_2_43 (fun x8 hw => ?_)
      refine va_ldcM hx hb M.1.2.2.2.1 (gh_Mts M _ q1453) M.2.2.2.1.2.2.2.2.2.2.2.2.2 dJ2_init_2_46 ?_
      refine gh_kq G (vx_runS M.1 (met_J13_copyOf_2 l D _ _ _ _ _ _ _ hw M.2.2.2.2.2) (va_cwS 3 (gh_Mts M) (lw_S q1454 q423 q58 q424) rfl rfl rfl ⟨by decide, by decide, rfl⟩ ⟨Nat.le_of_ble_eq_true rfl, Nat.le_of_ble_eq_true rfl⟩) (gh_pre M G (As := [va_rf r3, .int x8, va_rf (some (D.2.2 6))])) rfl rfl hl.1.1 rfl (lv_room (Nat.le_trans (gh_r1 (gh_cat _) gh_r0) (Nat.le_of_ble_eq_true rfl : 1 ≤ 8))) dJ2_init_2_48 ⟨(Nat.le_of_ble_eq_true rfl), (Nat.le_of_ble_eq_true rfl)⟩) (gh_out M hex (by exact Nat.le_of_ble_eq_true rfl) (by exact Nat.le_of_ble_eq_true rfl)) (fun r9 h10 H locs hw G => ?_)
      refine gh_put M G hw fp_J2_9 (gh_narA _ _) (gh_fitA _ _) dJ2_init_2_51 (fun h11 H locs hw G => ?_)
      refine lv_goto (tgt := 64) hx hb dJ2_init_2_54 (by decide) ?_
      exact wk_J2_init_2_64 M hr hex hname   _ _ _ _ G (gh_sub hl [] rfl) hw
    · replace hw := hw.1 hc
      refine gh_aload_n hx hb dJ2_init_2_32 rfl (gh_at hl 1 rfl) ?_
      refine gh_aload_n hx hb dJ2_init_2_33 rfl (gh_at hl 0 rfl) ?_
      refine gh_put M G hw fp_J2_9 (gh_narA _ _) (gh_fitA _ _) dJ2_init_2_34 (fun h12 H locs hw G => ?_)
      refine lv_goto (tgt := 64) hx hb dJ2_init_2_37 (by decide) ?_
      refine W.widen (k := 2) (n := 160) (by exact Nat.le_of_ble_eq_true rfl) (by exact Nat.le_of_ble_eq_true rfl) ?_
      exact wk_J2_init_2_64 M hr hex hname   _ _ _ _ G (gh_sub hl [] rfl) hw
/-! BinderyDesk$Lot.<init> (ILjava/util/List;)V -/
theorem fl_X10_28 : gh_FL RX10 28 [(6, 2)] := by
  intro args s hts tb q hq
  simp only [List.mem_cons, List.not_mem_nil, or_false] at hq
  subst hq
  exact ⟨_, "BinderyDesk$Lot", rfl, by decide, Or.inl (hts _ q1466), (fun x h => h)⟩
theorem fl_X10_18 : gh_FL RX10 18 [(6, 1)] := by
  intro args s hts tb q hq
  simp only [List.mem_cons, List.not_mem_nil, or_false] at hq
  subst hq
  exact ⟨_, "BinderyDesk$Lot", rfl, by decide, Or.inl (hts _ q1464), (fun x h => h)⟩
theorem fl_X10_38 : gh_FL RX10 38 [(4, 1)] := by
  intro args s hts tb q hq
  simp only [List.mem_cons, List.not_mem_nil, or_false] at hq
  subst hq
  exact ⟨_, "BinderyDesk$Content", rfl, by decide, Or.inr ⟨"BinderyDesk", va_Nw.use rfl (tb.1 _ (List.mem_of_getElem? (i := 130) rfl))⟩, (fun x h => h)⟩
theorem fl_X10_7 : gh_FL RX10 7 [(6, 0)] := by
  intro args s hts tb q hq
  simp only [List.mem_cons, List.not_mem_nil, or_false] at hq
  subst hq
  exact ⟨_, "BinderyDesk$Lot", rfl, by decide, Or.inl (hts _ q1462), (fun x h => h)⟩
theorem fp_X10_7 : gh_FP RX10 7 [(6, 0)] (.int) true := by
  refine ⟨fl_X10_7, fun q hq => ?_⟩
  simp only [List.mem_cons, List.not_mem_nil, or_false] at hq
  subst hq
  exact ⟨_, rfl, rfl, by decide +kernel, fun _ => rfl⟩
theorem fp_X10_18 : gh_FP RX10 18 [(6, 1)] (.object "java/util/List") true := by
  refine ⟨fl_X10_18, fun q hq => ?_⟩
  simp only [List.mem_cons, List.not_mem_nil, or_false] at hq
  subst hq
  exact ⟨_, rfl, rfl, by decide +kernel, fun _ => rfl⟩
theorem fp_X10_28 : gh_FP RX10 28 [(6, 2)] (.array (.int)) true := by
  refine ⟨fl_X10_28, fun q hq => ?_⟩
  simp only [List.mem_cons, List.not_mem_nil, or_false] at hq
  subst hq
  exact ⟨_, rfl, rfl, by decide +kernel, fun _ => rfl⟩
def rm_X10_init : Room := { frames := 6, cells := 4, slots := 179, locals := 166 }
def wb_X10_init_38 (κ : Nat → Nat) (K38 : Nat → Int32 → gh_H → Prop) (Q : gh_H → Prop) (X : String → gh_H → Prop) (v0 : Nat) (v3 : Int32) (h : gh_H) : Prop := (gh_GR h (some v0) [(6, 2)] (fun x1 => (gh_LN h x1 (fun x2 => ((x2 ≤ v3 → (Q h)) ∧ (¬ x2 ≤ v3 → (gh_GR h (some v0) [(6, 2)] (fun x3 => (gh_GR h (some v0) [(6, 1)] (fun x4 => (gh_RC h x4 8 (fun a5 => (wp_J2_get κ a5 v3 (fun r6 h7 => (gh_CK h7 r6 [4] (gh_GI h7 r6 [(4, 1)] (fun x8 => (gh_SI h7 x3 v3 x8 (fun h9 => K38 v0 (v3 + (1 : Int32)) h9)))))) X h)))))))))))))
def wl_X10_init_38 (κ : Nat → Nat)  (Q : gh_H → Prop) (X : String → gh_H → Prop) : Nat → Nat → Int32 → gh_H → Prop
  | 0 => fun _ _ _ => False
  | n + 1 => fun v0 v3 h => wb_X10_init_38 κ (wl_X10_init_38 κ Q X n) Q X v0 v3 h
def wp_X10_init (κ : Nat → Nat) (v0 : Nat) (v1 : Int32) (v2 : Option Nat) (Q : gh_H → Prop) (X : String → gh_H → Prop) (h : gh_H) : Prop := (gh_PV h (some v0) [(6, 0)] (.int v1) (fun h1 => (gh_NO h1 8 [.int 0, va_rf none, .int 0] (fun q2 h3 => (wp_J2_init_2 κ q2 v2 (fun h4 => (gh_PV h4 (some v0) [(6, 1)] (va_rf (some q2)) (fun h5 => (gh_GR h5 (some v0) [(6, 1)] (fun x6 => (gh_RC h5 x6 8 (fun a7 => (wp_J2_size κ a7 (fun r8 h9 => (gh_NA h9 0 r8 16 (.inl (fun _ => 0)) (fun q10 h11 => (gh_PV h11 (some v0) [(6, 2)] (va_rf (some q10)) (fun h12 => (∃ n : Nat, wl_X10_init_38 κ Q X n v0 (0 : Int32) h12)))))) X h5)))))))) X h3)))))
set_option maxHeartbeats 4000000 in
theorem wk1_X10_init_38 {D : gh_D} {p : Program} {l : Launch} {e : Env} {s : State} {m : MethodId} {args : Array Value} {below : List Frame} {meth : Method} {c : Code} {h0 : gh_H} (M : gh_M D p l s m args meth c RX10 cX10_init 4 (gh_A h0 s.heap.size)) (hr : meth.sig.returnType = none) (hex : ∀ x ∈ c.exceptionTable.toList, False) (hname : meth.name = "<init>") {K38 : Nat → Int32 → gh_H → Prop}  {Q : gh_H → Prop} {X : String → gh_H → Prop} (k38 : ∀ (v0 : Nat) (v3 : Int32) (H : Heap) (locs : List Loc) (ls : Array Slot) (h : gh_H) (_ : gh_Inv D h0 (gh_A h0 s.heap.size) s.heap s H locs h) (_ : gh_L ls 4 [(0, 1, va_rf (some v0)), (3, 1, .int v3)]) (_ : K38 v0 v3 h), W p l e rm_X10_init s m args below meth c H locs 4 179 (vx_MQ below (gh_Qv Q D h0 s.heap.size) (gh_X X D h0 s.heap.size) args s 4 179 (gh_A h0 s.heap.size)) (F0 m 38 ls []))  (v0 : Nat) (v3 : Int32) (H : Heap) (locs : List Loc) (ls : Array Slot) (h : gh_H) (G : gh_Inv D h0 (gh_A h0 s.heap.size) s.heap s H locs h) (hl : gh_L ls 4 [(0, 1, va_rf (some v0)), (3, 1, .int v3)]) (hw : wb_X10_init_38 D.2.2 K38 Q X v0 v3 h) : W p l e rm_X10_init s m args below meth c H locs 4 179 (vx_MQ below (gh_Qv Q D h0 s.heap.size) (gh_X X D h0 s.heap.size) args s 4 179 (gh_A h0 s.heap.size)) (F0 m 38 ls []) := by
  unfold wb_X10_init_38 at hw
  have hx := M.1.1
  have hb := M.1.2.1
  refine lv_iload_n hx hb dX10_init_38 rfl (gh_at hl 1 rfl) ?_
  refine gh_aload_n hx hb dX10_init_39 rfl (gh_at hl 0 rfl) ?_
  refine gh_getR M G hw fl_X10_28 dX10_init_40 (fun x1 hw => ?_)
  refine gh_len M G hw dX10_init_43 (fun x2 hw => ?_)
  refine lv_icmp_ge (tgt := 75) hx hb dX10_init_44 (by decide) (fun hc => ?_) (fun hc => ?_)
  · replace hw := hw.1 hc
    exact gh_vret M G hr hw (by exact Nat.le_of_ble_eq_true rfl) (by exact Nat.le_of_ble_eq_true rfl) dX10_init_75
  · replace hw := hw.2 hc
    refine gh_aload_n hx hb dX10_init_47 rfl (gh_at hl 0 rfl) ?_
    refine gh_getR M G hw fl_X10_28 dX10_init_48 (fun x3 hw => ?_)
    refine lv_iload_n hx hb dX10_init_51 rfl (gh_at hl 1 rfl) ?_
    refine gh_aload_n hx hb dX10_init_52 rfl (gh_at hl 0 rfl) ?_
    refine gh_getR M G hw fl_X10_18 dX10_init_53 (fun x4 hw => ?_)
    refine lv_iload_n hx hb dX10_init_56 rfl (gh_at hl 1 rfl) ?_
    obtain ⟨a5, lba5, fsa5, rfl, haa5, hw⟩ := hw
    refine gh_kFq G (vx_runF (C := "java/util/ArrayList") (M.2.1.1.1 8 _ rfl).2 M.1 (met_J2_get l D _ _ _ _ _ _ hw M.2.2.2.2.2) (va_cwF 1 (gh_Mts M) (gh_gF q1460 q502 q504 q44 q506) rfl rfl rfl (M.2.2.1.2.1 _ (List.mem_of_getElem? (i := 6) rfl)) ⟨by decide, by decide, rfl⟩ ⟨Nat.le_of_ble_eq_true rfl, Nat.le_of_ble_eq_true rfl⟩) (gh_preV (As := [.int v3]) M G (gh_rec M G haa5 rfl)) rfl rfl hl.1.1 rfl (lv_room (Nat.le_trans (gh_r1 rfl (gh_r1 (gh_cat _) gh_r0)) (Nat.le_of_ble_eq_true rfl : 2 ≤ 8))) dX10_init_57 ⟨(Nat.le_of_ble_eq_true rfl), (Nat.le_of_ble_eq_true rfl)⟩) (gh_out M hex (by exact Nat.le_of_ble_eq_true rfl) (by exact Nat.le_of_ble_eq_true rfl)) (fun r6 h7 H locs hw G => ?_)
    refine gh_cast (cis := [4]) M G hw q1461 (List.forall_mem_cons.mpr ⟨⟨_, rfl, Or.inl ⟨rfl, rfl⟩⟩, fun _ h => absurd h List.not_mem_nil⟩) dX10_init_62 (fun hw => ?_)
    refine gh_getI M G hw fl_X10_38 dX10_init_65 (fun x8 hw => ?_)
    refine gh_ias M G hw dX10_init_68 (fun h9 H locs hw G => ?_)
    refine gh_iinc (k := 1) (v := (v3 + (1 : Int32))) (lv' := [(3, 1, .int (v3 + (1 : Int32))), (0, 1, va_rf (some v0))]) hx hb dX10_init_69 hl rfl rfl (by decide) rfl (fun ls hl => ?_)
    refine lv_goto (tgt := 38) hx hb dX10_init_72 (by decide) ?_
    exact k38 v0 (v3 + (1 : Int32)) _ _ _ _ G (gh_sub hl [1, 0] rfl) hw
theorem wk_X10_init_38 {D : gh_D} {p : Program} {l : Launch} {e : Env} {s : State} {m : MethodId} {args : Array Value} {below : List Frame} {meth : Method} {c : Code} {h0 : gh_H} (M : gh_M D p l s m args meth c RX10 cX10_init 4 (gh_A h0 s.heap.size)) (hr : meth.sig.returnType = none) (hex : ∀ x ∈ c.exceptionTable.toList, False) (hname : meth.name = "<init>")   {Q : gh_H → Prop} {X : String → gh_H → Prop}   : ∀ (n : Nat) (v0 : Nat) (v3 : Int32) (H : Heap) (locs : List Loc) (ls : Array Slot) (h : gh_H) (_ : gh_Inv D h0 (gh_A h0 s.heap.size) s.heap s H locs h) (_ : gh_L ls 4 [(0, 1, va_rf (some v0)), (3, 1, .int v3)]) (_ : wl_X10_init_38 D.2.2 Q X n v0 v3 h), W p l e rm_X10_init s m args below meth c H locs 4 179 (vx_MQ below (gh_Qv Q D h0 s.heap.size) (gh_X X D h0 s.heap.size) args s 4 179 (gh_A h0 s.heap.size)) (F0 m 38 ls []) := by
  intro fu
  induction fu with
  | zero => intro v0 v3 H locs ls h G hl hw; exact False.elim hw
  | succ n1 ih =>
    intro v0 v3 H locs ls h G hl hw
    exact wk1_X10_init_38 M hr hex hname ih  v0 v3 _ _ _ _ G hl hw
set_option maxHeartbeats 4000000 in
theorem met_X10_init (l : Launch) (D : gh_D) (v0 : Nat) (v1 : Int32) (v2 : Option Nat) (Q : gh_H → Prop) (X : String → gh_H → Prop) (h : gh_H) (sz : Nat) (hw : wp_X10_init D.2.2 v0 v1 v2 Q X h) (hst : l.stackTraces = false) : vx_Met l yX10_init (ws_ yX10_init cX10_init 4 none) rm_X10_init (gh_Pc D h sz [.ref v0, .int v1, va_rf v2]) (gh_Qv Q D h sz) (gh_X X D h sz) 4 179 (gh_A h sz) := by
  refine vx_ofW (by decide) rfl (fun p e s m args below meth c s₁ B hml hex hP => ?_)
  obtain ⟨rfl, rfl, hK, hT, hE, G⟩ := gh_start hP
  have M : gh_M D p l s m _ meth c RX10 cX10_init 4 (gh_A h s.heap.size) := ⟨⟨B.exec, B.bytes, hml, findClass_of_methodNamed B.named, fun w hw => atoms_spec (ws := ws_ yX10_init cX10_init 4 none) B.pre w (List.mem_cons_of_mem _ hw)⟩, hK, hT, hE, B.notSynchronized, hst⟩
  have hr := B.returns
  have hname : meth.name = "<init>" := (name_of_methodNamed B.named B.method).1
  have hx := M.1.1
  have hb := M.1.2.1
  refine gh_enter (vs := [(1, .ref v0), (1, .int v1), (1, va_rf v2)]) (gh_w1 rfl (gh_w1 rfl (gh_w1 (gh_cat _) gh_wn))) (Nat.le_of_ble_eq_true rfl) (fun ls hl => ?_)
  replace hl : gh_L ls 4 [(0, 1, va_rf (some v0)), (1, 1, .int v1), (2, 1, va_rf v2)] := hl
  unfold wp_X10_init at hw
  refine gh_aload_n hx hb dX10_init_0 rfl (gh_at hl 0 rfl) ?_
  refine W.objInit M.1.1 M.1.2.1 M.1.2.2.2.1 (gh_Mts M _ q1416) (gh_Mts M _ q91) (gh_Mts M _ q92) rfl (hl.1.1.trans M.1.2.2.1.symm) rfl dX10_init_1 (Nat.le_of_ble_eq_true rfl) (Nat.le_trans (Nat.add_le_add_right (Nat.add_le_add_left gh_r0 _) _) (Nat.le_of_ble_eq_true rfl)) ?_
  refine gh_aload_n hx hb dX10_init_4 rfl (gh_at hl 0 rfl) ?_
  refine lv_iload_n hx hb dX10_init_5 rfl (gh_at hl 1 rfl) ?_
  refine gh_putF M G hname hw fp_X10_7 rfl rfl dX10_init_6 (fun h1 H locs hw G => ?_)
  refine gh_aload_n hx hb dX10_init_9 rfl (gh_at hl 0 rfl) ?_
  refine gh_new (N := 3) (r := (RJ2, TJ2, 3)) (ci := 8) (fs := [.int 0, va_rf none, .int 0]) M G hw tyJ2 tyJ2_ok q1417 q94 q44 rfl rfl nd_J2 (Nat.le_of_ble_eq_true rfl) (Nat.le_of_ble_eq_true rfl) dX10_init_10 (fun q2 h3 H hw G => ?_)
  refine lv_dup hx hb dX10_init_13 (gh_cat _) ?_
  refine gh_aload_n hx hb dX10_init_14 rfl (gh_at hl 2 rfl) ?_
  refine gh_kv G (vx_runI M.1 (met_J2_init_2 l D _ _ _ _ _ _ hw M.2.2.2.2.2) (cwI 1 (gh_Mts M) (lw_meth q1420) rfl rfl rfl (gh_Mts M _ q44) (gh_Mts M _ q1418) (gh_Mts M _ q1419) rfl ⟨by decide, by decide, rfl⟩ ⟨Nat.le_of_ble_eq_true rfl, Nat.le_of_ble_eq_true rfl⟩) (gh_pre M G (As := .ref q2 :: [va_rf v2])) rfl rfl hl.1.1 rfl (lv_room (Nat.le_trans (gh_r1 (gh_cat _) (gh_r1 (gh_cat _) gh_r0)) (Nat.le_of_ble_eq_true rfl : 2 ≤ 8))) dX10_init_15 ⟨(Nat.le_of_ble_eq_true rfl), (Nat.le_of_ble_eq_true rfl)⟩) (gh_out M hex (by exact Nat.le_of_ble_eq_true rfl) (by exact Nat.le_of_ble_eq_true rfl)) (fun h4 H locs hw G => ?_)
  refine gh_putF M G hname hw fp_X10_18 (gh_narR _ _) (gh_fitR _ _) dX10_init_18 (fun h5 H locs hw G => ?_)
  refine gh_aload_n hx hb dX10_init_21 rfl (gh_at hl 0 rfl) ?_
  refine gh_aload_n hx hb dX10_init_22 rfl (gh_at hl 0 rfl) ?_
  refine gh_getR M G hw fl_X10_18 dX10_init_23 (fun x6 hw => ?_)
  obtain ⟨a7, lba7, fsa7, rfl, haa7, hw⟩ := hw
  refine gh_kFi G (vx_runF (C := "java/util/ArrayList") (M.2.1.1.1 8 _ rfl).2 M.1 (met_J2_size l D _ _ _ _ _ hw M.2.2.2.2.2) (va_cwF 0 (gh_Mts M) (gh_gF q1458 q243 q245 q44 q247) rfl rfl rfl (M.2.2.1.2.1 _ (List.mem_of_getElem? (i := 4) rfl)) ⟨by decide, by decide, rfl⟩ ⟨Nat.le_of_ble_eq_true rfl, Nat.le_of_ble_eq_true rfl⟩) (gh_preV (As := []) M G (gh_rec M G haa7 rfl)) rfl rfl hl.1.1 rfl (lv_room (Nat.le_trans (gh_r1 (gh_cat _) gh_r0) (Nat.le_of_ble_eq_true rfl : 1 ≤ 8))) dX10_init_26 ⟨(Nat.le_of_ble_eq_true rfl), (Nat.le_of_ble_eq_true rfl)⟩) (gh_out M hex (by exact Nat.le_of_ble_eq_true rfl) (by exact Nat.le_of_ble_eq_true rfl)) (fun r8 h9 H locs hw G => ?_)
  refine gh_newI (lim := 16) M G hw q216 (Nat.le_of_ble_eq_true rfl) (Nat.le_of_ble_eq_true rfl) (Nat.le_of_ble_eq_true rfl) dX10_init_31 (fun q10 h11 H hw G => ?_)
  refine gh_putF M G hname hw fp_X10_28 (gh_narA _ _) (gh_fitA _ _) dX10_init_33 (fun h12 H locs hw G => ?_)
  refine lv_iconst (v := (0 : Int32)) hx hb dX10_init_36 (by decide) ?_
  refine gh_istore_n (lv' := [(3, 1, .int (0 : Int32)), (0, 1, va_rf (some v0)), (1, 1, .int v1), (2, 1, va_rf v2)]) hx hb dX10_init_37 rfl hl (by decide) rfl (fun ls hl => ?_)
  obtain ⟨n, hw⟩ := hw
  exact wk_X10_init_38 M hr hex hname  n v0 (0 : Int32) _ _ _ _ G (gh_sub hl [1, 0] rfl) hw
/-! BinderyDesk.bind (II)I -/
theorem nd_X10 : ∀ j, j < 3 → defaultValue (tyX10 j) = vp_V [.int 0, va_rf none, va_rf none] j := by
  intro j hj
  rcases (show j = 0 ∨ j = 1 ∨ j = 2 by omega) with rfl | rfl | rfl <;> rfl
def rm_X1_bind : Room := { frames := 8, cells := 11, slots := 366, locals := 211 }
def wb_X1_bind_58 (κ : Nat → Nat) (K58 : Nat → Int32 → Option Nat → Int32 → gh_H → Prop) (Q : Int32 → gh_H → Prop) (X : String → gh_H → Prop) (v0 : Nat) (v2 : Int32) (v3 : Option Nat) (v4 : Int32) (h : gh_H) : Prop := (gh_RC h v3 7 (fun a1 => (wp_X7_sheets κ a1 (fun r2 h3 => ((r2 ≤ v4 → (gh_NO h3 6 [.int 0, va_rf none, va_rf none] (fun q4 h5 => (gh_GR h5 (some a1) [(7, 1)] (fun x6 => (wp_X10_init κ q4 v2 x6 (fun h7 => (gh_GR h7 (some v0) [(0, 3)] (fun x8 => (gh_RC h7 x8 8 (fun a9 => (wp_J2_add κ a9 (some q4) (fun r10 h11 => (gh_GR h11 (some v0) [(0, 2)] (fun x12 => (gh_RC h11 x12 8 (fun a13 => (wp_J2_add κ a13 (some q4) (fun r14 h15 => (gh_GR h15 (some v0) [(0, 3)] (fun x16 => (gh_RC h15 x16 8 (fun a17 => (wp_J2_size κ a17 (fun r18 h19 => (Q (r18 - (1 : Int32)) h19)) X h15)))))) X h11)))))) X h7)))))) X h5)))))) ∧ (¬ r2 ≤ v4 → (gh_GR h3 (some a1) [(7, 2)] (fun x20 => (gh_RC h3 x20 8 (fun a21 => (wp_J2_get κ a21 v4 (fun r22 h23 => (gh_CK h23 r22 [3] (gh_RC h23 r22 3 (fun a24 => (wp_X9_take κ a24 v2 (fun h25 => K58 v0 v2 (some a1) (v4 + (1 : Int32)) h25) X h23))))) X h3)))))))) X h)))
def wl_X1_bind_58 (κ : Nat → Nat)  (Q : Int32 → gh_H → Prop) (X : String → gh_H → Prop) : Nat → Nat → Int32 → Option Nat → Int32 → gh_H → Prop
  | 0 => fun _ _ _ _ _ => False
  | n + 1 => fun v0 v2 v3 v4 h => wb_X1_bind_58 κ (wl_X1_bind_58 κ Q X n) Q X v0 v2 v3 v4 h
def wb_X1_bind_52 (κ : Nat → Nat)  (Q : Int32 → gh_H → Prop) (X : String → gh_H → Prop) (v0 : Nat) (v2 : Int32) (v3 : Option Nat) (t0 : Int32) (h : gh_H) : Prop := (wp_X1_requirePossible κ t0 (fun h1 => (∃ n : Nat, wl_X1_bind_58 κ Q X n v0 v2 v3 (0 : Int32) h1)) X h)
def wb_X1_bind_36 (κ : Nat → Nat)  (Q : Int32 → gh_H → Prop) (X : String → gh_H → Prop) (v0 : Nat) (v2 : Int32) (v3 : Option Nat) (t0 : Int32) (h : gh_H) : Prop := (wp_X1_requireState κ t0 (fun h1 => (gh_RC h1 v3 7 (fun a2 => (wp_X7_lacks κ a2 v2 (fun r3 h4 => ((r3 = 0 → wb_X1_bind_52 κ Q X v0 v2 (some a2) (1 : Int32) h4) ∧ (¬ r3 = 0 → wb_X1_bind_52 κ Q X v0 v2 (some a2) (0 : Int32) h4))) X h1)))) X h)
def wb_X1_bind_35 (κ : Nat → Nat)  (Q : Int32 → gh_H → Prop) (X : String → gh_H → Prop) (v0 : Nat) (v2 : Int32) (v3 : Option Nat) (h : gh_H) : Prop := wb_X1_bind_36 κ Q X v0 v2 v3 (0 : Int32) h
def wp_X1_bind (κ : Nat → Nat) (v0 : Nat) (v1 : Int32) (v2 : Int32) (Q : Int32 → gh_H → Prop) (X : String → gh_H → Prop) (h : gh_H) : Prop := (gh_RC h (some v0) 0 (fun _ => (wp_X1_jobNumbered κ v0 v1 (fun r2 h3 => (wp_X1_requireCount κ v2 (fun h4 => (gh_RC h4 r2 7 (fun a5 => (wp_X7_isComplete κ a5 (fun r6 h7 => ((r6 = 0 → wb_X1_bind_35 κ Q X v0 v2 (some a5) h7) ∧ (¬ r6 = 0 → (gh_GR h7 (some v0) [(0, 3)] (fun x8 => (gh_RC h7 x8 8 (fun a9 => (wp_J2_size κ a9 (fun r10 h11 => (((100 : Int32) ≤ r10 → wb_X1_bind_35 κ Q X v0 v2 (some a5) h11) ∧ (¬ (100 : Int32) ≤ r10 → wb_X1_bind_36 κ Q X v0 v2 (some a5) (1 : Int32) h11))) X h7)))))))) X h4)))) X h3)) X h)))
set_option maxHeartbeats 4000000 in
theorem wk1_X1_bind_58 {D : gh_D} {p : Program} {l : Launch} {e : Env} {s : State} {m : MethodId} {args : Array Value} {below : List Frame} {meth : Method} {c : Code} {h0 : gh_H} (M : gh_M D p l s m args meth c RX1 cX1_bind 5 (gh_A h0 s.heap.size)) (hr : meth.sig.returnType = (some .int)) (hex : ∀ x ∈ c.exceptionTable.toList, False) {K58 : Nat → Int32 → Option Nat → Int32 → gh_H → Prop}  {Q : Int32 → gh_H → Prop} {X : String → gh_H → Prop} (k58 : ∀ (v0 : Nat) (v2 : Int32) (v3 : Option Nat) (v4 : Int32) (H : Heap) (locs : List Loc) (ls : Array Slot) (h : gh_H) (_ : gh_Inv D h0 (gh_A h0 s.heap.size) s.heap s H locs h) (_ : gh_L ls 5 [(0, 1, va_rf (some v0)), (2, 1, .int v2), (3, 1, va_rf v3), (4, 1, .int v4)]) (_ : K58 v0 v2 v3 v4 h), W p l e rm_X1_bind s m args below meth c H locs 4 24 (vx_MQ below (gh_Qi Q D h0 s.heap.size) (gh_X X D h0 s.heap.size) args s 11 366 (gh_A h0 s.heap.size)) (F0 m 58 ls []))  (v0 : Nat) (v2 : Int32) (v3 : Option Nat) (v4 : Int32) (H : Heap) (locs : List Loc) (ls : Array Slot) (h : gh_H) (G : gh_Inv D h0 (gh_A h0 s.heap.size) s.heap s H locs h) (hl : gh_L ls 5 [(0, 1, va_rf (some v0)), (2, 1, .int v2), (3, 1, va_rf v3), (4, 1, .int v4)]) (hw : wb_X1_bind_58 D.2.2 K58 Q X v0 v2 v3 v4 h) : W p l e rm_X1_bind s m args below meth c H locs 4 24 (vx_MQ below (gh_Qi Q D h0 s.heap.size) (gh_X X D h0 s.heap.size) args s 11 366 (gh_A h0 s.heap.size)) (F0 m 58 ls []) := by
  unfold wb_X1_bind_58 at hw
  have hx := M.1.1
  have hb := M.1.2.1
  refine lv_iload hx hb dX1_bind_58 (gh_at hl 3 rfl) ?_
  refine gh_aload_n hx hb dX1_bind_60 rfl (gh_at hl 2 rfl) ?_
  obtain ⟨a1, lba1, fsa1, rfl, haa1, hw⟩ := hw
  refine gh_ki G (vx_runV M.1 (met_X7_sheets l D _ _ _ _ _ hw M.2.2.2.2.2) (cwV 0 (gh_Mts M) (lw_V q814 q644 q645 q71 q646) rfl rfl rfl ⟨rfl, by decide, by decide, rfl⟩ ⟨Nat.le_of_ble_eq_true rfl, Nat.le_of_ble_eq_true rfl⟩) (gh_preV (As := []) M G (gh_rec M G haa1 rfl)) rfl rfl hl.1.1 rfl (lv_room (Nat.le_of_ble_eq_true rfl)) dX1_bind_61 ⟨(Nat.le_of_ble_eq_true rfl), (Nat.le_of_ble_eq_true rfl)⟩) (gh_out M hex (by exact Nat.le_of_ble_eq_true rfl) (by exact Nat.le_of_ble_eq_true rfl)) (fun r2 h3 H locs hw G => ?_)
  refine lv_icmp_ge (tgt := 91) hx hb dX1_bind_64 (by decide) (fun hc => ?_) (fun hc => ?_)
  · replace hw := hw.1 hc
    refine gh_new (N := 3) (r := (RX10, TX10, 3)) (ci := 6) (fs := [.int 0, va_rf none, va_rf none]) M G hw tyX10 tyX10_ok q1411 q1412 q83 rfl rfl nd_X10 (Nat.le_of_ble_eq_true rfl) (Nat.le_of_ble_eq_true rfl) dX1_bind_91 (fun q4 h5 H hw G => ?_)
    refine lv_dup hx hb dX1_bind_94 (gh_cat _) ?_
    refine lv_iload_n hx hb dX1_bind_95 rfl (gh_at hl 1 rfl) ?_
    refine gh_aload_n hx hb dX1_bind_96 rfl (gh_at hl 2 rfl) ?_
    refine gh_getR M G hw fl_X1_152 dX1_bind_97 (fun x6 hw => ?_)
    refine gh_kv G (vx_runI M.1 (met_X10_init l D _ _ _ _ _ _ _ hw M.2.2.2.2.2) (cwI 2 (gh_Mts M) (lw_meth q1415) rfl rfl rfl (gh_Mts M _ q83) (gh_Mts M _ q1413) (gh_Mts M _ q1414) rfl ⟨by decide, by decide, rfl⟩ ⟨Nat.le_of_ble_eq_true rfl, Nat.le_of_ble_eq_true rfl⟩) (gh_pre M G (As := .ref q4 :: [.int v2, va_rf x6])) rfl rfl hl.1.1 rfl (lv_room (Nat.le_trans (gh_r1 (gh_cat _) gh_r0) (Nat.le_of_ble_eq_true rfl : 1 ≤ 8))) dX1_bind_100 ⟨(Nat.le_of_ble_eq_true rfl), (Nat.le_of_ble_eq_true rfl)⟩) (gh_out M hex (by exact Nat.le_of_ble_eq_true rfl) (by exact Nat.le_of_ble_eq_true rfl)) (fun h7 H locs hw G => ?_)
    refine gh_astore (lv' := [(4, 1, va_rf (some q4)), (0, 1, va_rf (some v0)), (2, 1, .int v2), (3, 1, va_rf (some a1))]) hx hb dX1_bind_103 hl (by decide) rfl (fun ls hl => ?_)
    refine gh_aload_n hx hb dX1_bind_105 rfl (gh_at hl 1 rfl) ?_
    refine gh_getR M G hw fl_X1_37 dX1_bind_106 (fun x8 hw => ?_)
    refine gh_aload hx hb dX1_bind_109 (gh_at hl 0 rfl) ?_
    obtain ⟨a9, lba9, fsa9, rfl, haa9, hw⟩ := hw
    refine gh_kFi G (vx_runF (C := "java/util/ArrayList") (M.2.1.1.1 8 _ rfl).2 M.1 (met_J2_add l D _ _ _ _ _ _ hw M.2.2.2.2.2) (va_cwF 1 (gh_Mts M) (gh_gF q358 q361 q363 q44 q365) rfl rfl rfl (M.2.2.1.2.1 _ (List.mem_of_getElem? (i := 5) rfl)) ⟨by decide, by decide, rfl⟩ ⟨Nat.le_of_ble_eq_true rfl, Nat.le_of_ble_eq_true rfl⟩) (gh_preV (As := [va_rf (some q4)]) M G (gh_rec M G haa9 rfl)) rfl rfl hl.1.1 rfl (lv_room (Nat.le_of_ble_eq_true rfl)) dX1_bind_111 ⟨(Nat.le_of_ble_eq_true rfl), (Nat.le_of_ble_eq_true rfl)⟩) (gh_out M hex (by exact Nat.le_of_ble_eq_true rfl) (by exact Nat.le_of_ble_eq_true rfl)) (fun r10 h11 H locs hw G => ?_)
    refine lv_pop hx hb dX1_bind_116 rfl ?_
    refine gh_aload_n hx hb dX1_bind_117 rfl (gh_at hl 1 rfl) ?_
    refine gh_getR M G hw fl_X1_34 dX1_bind_118 (fun x12 hw => ?_)
    refine gh_aload hx hb dX1_bind_121 (gh_at hl 0 rfl) ?_
    obtain ⟨a13, lba13, fsa13, rfl, haa13, hw⟩ := hw
    refine gh_kFi G (vx_runF (C := "java/util/ArrayList") (M.2.1.1.1 8 _ rfl).2 M.1 (met_J2_add l D _ _ _ _ _ _ hw M.2.2.2.2.2) (va_cwF 1 (gh_Mts M) (gh_gF q358 q361 q363 q44 q365) rfl rfl rfl (M.2.2.1.2.1 _ (List.mem_of_getElem? (i := 5) rfl)) ⟨by decide, by decide, rfl⟩ ⟨Nat.le_of_ble_eq_true rfl, Nat.le_of_ble_eq_true rfl⟩) (gh_preV (As := [va_rf (some q4)]) M G (gh_rec M G haa13 rfl)) rfl rfl hl.1.1 rfl (lv_room (Nat.le_of_ble_eq_true rfl)) dX1_bind_123 ⟨(Nat.le_of_ble_eq_true rfl), (Nat.le_of_ble_eq_true rfl)⟩) (gh_out M hex (by exact Nat.le_of_ble_eq_true rfl) (by exact Nat.le_of_ble_eq_true rfl)) (fun r14 h15 H locs hw G => ?_)
    refine lv_pop hx hb dX1_bind_128 rfl ?_
    refine gh_aload_n hx hb dX1_bind_129 rfl (gh_at hl 1 rfl) ?_
    refine gh_getR M G hw fl_X1_37 dX1_bind_130 (fun x16 hw => ?_)
    obtain ⟨a17, lba17, fsa17, rfl, haa17, hw⟩ := hw
    refine gh_kFi G (vx_runF (C := "java/util/ArrayList") (M.2.1.1.1 8 _ rfl).2 M.1 (met_J2_size l D _ _ _ _ _ hw M.2.2.2.2.2) (va_cwF 0 (gh_Mts M) (gh_gF q239 q243 q245 q44 q247) rfl rfl rfl (M.2.2.1.2.1 _ (List.mem_of_getElem? (i := 4) rfl)) ⟨by decide, by decide, rfl⟩ ⟨Nat.le_of_ble_eq_true rfl, Nat.le_of_ble_eq_true rfl⟩) (gh_preV (As := []) M G (gh_rec M G haa17 rfl)) rfl rfl hl.1.1 rfl (lv_room (Nat.le_of_ble_eq_true rfl)) dX1_bind_133 ⟨(Nat.le_of_ble_eq_true rfl), (Nat.le_of_ble_eq_true rfl)⟩) (gh_out M hex (by exact Nat.le_of_ble_eq_true rfl) (by exact Nat.le_of_ble_eq_true rfl)) (fun r18 h19 H locs hw G => ?_)
    refine lv_iconst (v := (1 : Int32)) hx hb dX1_bind_138 (by decide) ?_
    refine lv_isub hx hb dX1_bind_139 ?_
    exact gh_iret M G hr rfl hw (by exact Nat.le_of_ble_eq_true rfl) (by exact Nat.le_of_ble_eq_true rfl) dX1_bind_140
  · replace hw := hw.2 hc
    refine gh_aload_n hx hb dX1_bind_67 rfl (gh_at hl 2 rfl) ?_
    refine gh_getR M G hw fl_X1_179 dX1_bind_68 (fun x20 hw => ?_)
    refine lv_iload hx hb dX1_bind_71 (gh_at hl 3 rfl) ?_
    obtain ⟨a21, lba21, fsa21, rfl, haa21, hw⟩ := hw
    refine gh_kFq G (vx_runF (C := "java/util/ArrayList") (M.2.1.1.1 8 _ rfl).2 M.1 (met_J2_get l D _ _ _ _ _ _ hw M.2.2.2.2.2) (va_cwF 1 (gh_Mts M) (gh_gF q499 q502 q504 q44 q506) rfl rfl rfl (M.2.2.1.2.1 _ (List.mem_of_getElem? (i := 6) rfl)) ⟨by decide, by decide, rfl⟩ ⟨Nat.le_of_ble_eq_true rfl, Nat.le_of_ble_eq_true rfl⟩) (gh_preV (As := [.int v4]) M G (gh_rec M G haa21 rfl)) rfl rfl hl.1.1 rfl (lv_room (Nat.le_of_ble_eq_true rfl)) dX1_bind_73 ⟨(Nat.le_of_ble_eq_true rfl), (Nat.le_of_ble_eq_true rfl)⟩) (gh_out M hex (by exact Nat.le_of_ble_eq_true rfl) (by exact Nat.le_of_ble_eq_true rfl)) (fun r22 h23 H locs hw G => ?_)
    refine gh_cast (cis := [3]) M G hw q853 (List.forall_mem_cons.mpr ⟨⟨_, rfl, Or.inl ⟨rfl, rfl⟩⟩, fun _ h => absurd h List.not_mem_nil⟩) dX1_bind_78 (fun hw => ?_)
    refine lv_iload_n hx hb dX1_bind_81 rfl (gh_at hl 1 rfl) ?_
    obtain ⟨a24, lba24, fsa24, rfl, haa24, hw⟩ := hw
    refine gh_kv G (vx_runV M.1 (met_X9_take l D _ _ _ _ _ _ hw M.2.2.2.2.2) (cwV 1 (gh_Mts M) (lw_V q1410 q690 q691 q73 q692) rfl rfl rfl ⟨rfl, by decide, by decide, rfl⟩ ⟨Nat.le_of_ble_eq_true rfl, Nat.le_of_ble_eq_true rfl⟩) (gh_preV (As := [.int v2]) M G (gh_rec M G haa24 rfl)) rfl rfl hl.1.1 rfl (lv_room (Nat.le_of_ble_eq_true rfl)) dX1_bind_82 ⟨(Nat.le_of_ble_eq_true rfl), (Nat.le_of_ble_eq_true rfl)⟩) (gh_out M hex (by exact Nat.le_of_ble_eq_true rfl) (by exact Nat.le_of_ble_eq_true rfl)) (fun h25 H locs hw G => ?_)
    refine gh_iinc (k := 3) (v := (v4 + (1 : Int32))) (lv' := [(4, 1, .int (v4 + (1 : Int32))), (0, 1, va_rf (some v0)), (2, 1, .int v2), (3, 1, va_rf (some a1))]) hx hb dX1_bind_85 hl rfl rfl (by decide) rfl (fun ls hl => ?_)
    refine lv_goto (tgt := 58) hx hb dX1_bind_88 (by decide) ?_
    exact k58 v0 v2 (some a1) (v4 + (1 : Int32)) _ _ _ _ G (gh_sub hl [1, 2, 3, 0] rfl) hw
theorem wk_X1_bind_58 {D : gh_D} {p : Program} {l : Launch} {e : Env} {s : State} {m : MethodId} {args : Array Value} {below : List Frame} {meth : Method} {c : Code} {h0 : gh_H} (M : gh_M D p l s m args meth c RX1 cX1_bind 5 (gh_A h0 s.heap.size)) (hr : meth.sig.returnType = (some .int)) (hex : ∀ x ∈ c.exceptionTable.toList, False)   {Q : Int32 → gh_H → Prop} {X : String → gh_H → Prop}   : ∀ (n : Nat) (v0 : Nat) (v2 : Int32) (v3 : Option Nat) (v4 : Int32) (H : Heap) (locs : List Loc) (ls : Array Slot) (h : gh_H) (_ : gh_Inv D h0 (gh_A h0 s.heap.size) s.heap s H locs h) (_ : gh_L ls 5 [(0, 1, va_rf (some v0)), (2, 1, .int v2), (3, 1, va_rf v3), (4, 1, .int v4)]) (_ : wl_X1_bind_58 D.2.2 Q X n v0 v2 v3 v4 h), W p l e rm_X1_bind s m args below meth c H locs 4 24 (vx_MQ below (gh_Qi Q D h0 s.heap.size) (gh_X X D h0 s.heap.size) args s 11 366 (gh_A h0 s.heap.size)) (F0 m 58 ls []) := by
  intro fu
  induction fu with
  | zero => intro v0 v2 v3 v4 H locs ls h G hl hw; exact False.elim hw
  | succ n1 ih =>
    intro v0 v2 v3 v4 H locs ls h G hl hw
    exact wk1_X1_bind_58 M hr hex ih  v0 v2 v3 v4 _ _ _ _ G hl hw
set_option maxHeartbeats 4000000 in
theorem wk_X1_bind_52 {D : gh_D} {p : Program} {l : Launch} {e : Env} {s : State} {m : MethodId} {args : Array Value} {below : List Frame} {meth : Method} {c : Code} {h0 : gh_H} (M : gh_M D p l s m args meth c RX1 cX1_bind 5 (gh_A h0 s.heap.size)) (hr : meth.sig.returnType = (some .int)) (hex : ∀ x ∈ c.exceptionTable.toList, False)   {Q : Int32 → gh_H → Prop} {X : String → gh_H → Prop}   (v0 : Nat) (v2 : Int32) (v3 : Option Nat) (t0 : Int32) (H : Heap) (locs : List Loc) (ls : Array Slot) (h : gh_H) (G : gh_Inv D h0 (gh_A h0 s.heap.size) s.heap s H locs h) (hl : gh_L ls 5 [(0, 1, va_rf (some v0)), (2, 1, .int v2), (3, 1, va_rf v3)]) (hw : wb_X1_bind_52 D.2.2 Q X v0 v2 v3 t0 h) : W p l e rm_X1_bind s m args below meth c H locs 3 18 (vx_MQ below (gh_Qi Q D h0 s.heap.size) (gh_X X D h0 s.heap.size) args s 11 366 (gh_A h0 s.heap.size)) (F0 m 52 ls [.int t0]) := by
  unfold wb_X1_bind_52 at hw
  have hx := M.1.1
  have hb := M.1.2.1
  refine gh_kv G (vx_runS M.1 (met_X1_requirePossible l D _ _ _ _ _ hw M.2.2.2.2.2) (va_cwS 1 (gh_Mts M) (lw_S q859 q860 q41 q861) rfl rfl rfl ⟨by decide, by decide, rfl⟩ ⟨Nat.le_of_ble_eq_true rfl, Nat.le_of_ble_eq_true rfl⟩) (gh_pre M G (As := [.int t0])) rfl rfl hl.1.1 rfl (lv_room (Nat.le_of_ble_eq_true rfl)) dX1_bind_52 ⟨(Nat.le_of_ble_eq_true rfl), (Nat.le_of_ble_eq_true rfl)⟩) (gh_out M hex (by exact Nat.le_of_ble_eq_true rfl) (by exact Nat.le_of_ble_eq_true rfl)) (fun h1 H locs hw G => ?_)
  refine lv_iconst (v := (0 : Int32)) hx hb dX1_bind_55 (by decide) ?_
  refine gh_istore (lv' := [(4, 1, .int (0 : Int32)), (0, 1, va_rf (some v0)), (2, 1, .int v2), (3, 1, va_rf v3)]) hx hb dX1_bind_56 hl (by decide) rfl (fun ls hl => ?_)
  obtain ⟨n, hw⟩ := hw
  exact wk_X1_bind_58 M hr hex  n v0 v2 v3 (0 : Int32) _ _ _ _ G (gh_sub hl [1, 2, 3, 0] rfl) hw
set_option maxHeartbeats 4000000 in
theorem wk_X1_bind_36 {D : gh_D} {p : Program} {l : Launch} {e : Env} {s : State} {m : MethodId} {args : Array Value} {below : List Frame} {meth : Method} {c : Code} {h0 : gh_H} (M : gh_M D p l s m args meth c RX1 cX1_bind 5 (gh_A h0 s.heap.size)) (hr : meth.sig.returnType = (some .int)) (hex : ∀ x ∈ c.exceptionTable.toList, False)   {Q : Int32 → gh_H → Prop} {X : String → gh_H → Prop}   (v0 : Nat) (v2 : Int32) (v3 : Option Nat) (t0 : Int32) (H : Heap) (locs : List Loc) (ls : Array Slot) (h : gh_H) (G : gh_Inv D h0 (gh_A h0 s.heap.size) s.heap s H locs h) (hl : gh_L ls 5 [(0, 1, va_rf (some v0)), (2, 1, .int v2), (3, 1, va_rf v3)]) (hw : wb_X1_bind_36 D.2.2 Q X v0 v2 v3 t0 h) : W p l e rm_X1_bind s m args below meth c H locs 2 12 (vx_MQ below (gh_Qi Q D h0 s.heap.size) (gh_X X D h0 s.heap.size) args s 11 366 (gh_A h0 s.heap.size)) (F0 m 36 ls [.int t0]) := by
  unfold wb_X1_bind_36 at hw
  have hx := M.1.1
  have hb := M.1.2.1
  refine gh_kv G (vx_runS M.1 (met_X1_requireState l D _ _ _ _ _ hw M.2.2.2.2.2) (va_cwS 1 (gh_Mts M) (lw_S q266 q267 q41 q268) rfl rfl rfl ⟨by decide, by decide, rfl⟩ ⟨Nat.le_of_ble_eq_true rfl, Nat.le_of_ble_eq_true rfl⟩) (gh_pre M G (As := [.int t0])) rfl rfl hl.1.1 rfl (lv_room (Nat.le_of_ble_eq_true rfl)) dX1_bind_36 ⟨(Nat.le_of_ble_eq_true rfl), (Nat.le_of_ble_eq_true rfl)⟩) (gh_out M hex (by exact Nat.le_of_ble_eq_true rfl) (by exact Nat.le_of_ble_eq_true rfl)) (fun h1 H locs hw G => ?_)
  refine gh_aload_n hx hb dX1_bind_39 rfl (gh_at hl 2 rfl) ?_
  refine lv_iload_n hx hb dX1_bind_40 rfl (gh_at hl 1 rfl) ?_
  obtain ⟨a2, lba2, fsa2, rfl, haa2, hw⟩ := hw
  refine gh_ki G (vx_runV M.1 (met_X7_lacks l D _ _ _ _ _ _ hw M.2.2.2.2.2) (cwV 1 (gh_Mts M) (lw_V q1404 q1405 q1406 q71 q1407) rfl rfl rfl ⟨rfl, by decide, by decide, rfl⟩ ⟨Nat.le_of_ble_eq_true rfl, Nat.le_of_ble_eq_true rfl⟩) (gh_preV (As := [.int v2]) M G (gh_rec M G haa2 rfl)) rfl rfl hl.1.1 rfl (lv_room (Nat.le_of_ble_eq_true rfl)) dX1_bind_41 ⟨(Nat.le_of_ble_eq_true rfl), (Nat.le_of_ble_eq_true rfl)⟩) (gh_out M hex (by exact Nat.le_of_ble_eq_true rfl) (by exact Nat.le_of_ble_eq_true rfl)) (fun r3 h4 H locs hw G => ?_)
  refine lv_if_ne (tgt := 51) hx hb dX1_bind_44 (by decide) (fun hc => ?_) (fun hc => ?_)
  · replace hw := hw.2 hc
    refine lv_iconst (v := (0 : Int32)) hx hb dX1_bind_51 (by decide) ?_
    exact wk_X1_bind_52 M hr hex  v0 v2 (some a2) (0 : Int32) _ _ _ _ G (gh_sub hl [0, 1, 2] rfl) hw
  · replace hw := hw.1 hc
    refine lv_iconst (v := (1 : Int32)) hx hb dX1_bind_47 (by decide) ?_
    refine lv_goto (tgt := 52) hx hb dX1_bind_48 (by decide) ?_
    exact wk_X1_bind_52 M hr hex  v0 v2 (some a2) (1 : Int32) _ _ _ _ G (gh_sub hl [0, 1, 2] rfl) hw
set_option maxHeartbeats 4000000 in
theorem wk_X1_bind_35 {D : gh_D} {p : Program} {l : Launch} {e : Env} {s : State} {m : MethodId} {args : Array Value} {below : List Frame} {meth : Method} {c : Code} {h0 : gh_H} (M : gh_M D p l s m args meth c RX1 cX1_bind 5 (gh_A h0 s.heap.size)) (hr : meth.sig.returnType = (some .int)) (hex : ∀ x ∈ c.exceptionTable.toList, False)   {Q : Int32 → gh_H → Prop} {X : String → gh_H → Prop}   (v0 : Nat) (v2 : Int32) (v3 : Option Nat) (H : Heap) (locs : List Loc) (ls : Array Slot) (h : gh_H) (G : gh_Inv D h0 (gh_A h0 s.heap.size) s.heap s H locs h) (hl : gh_L ls 5 [(0, 1, va_rf (some v0)), (2, 1, .int v2), (3, 1, va_rf v3)]) (hw : wb_X1_bind_35 D.2.2 Q X v0 v2 v3 h) : W p l e rm_X1_bind s m args below meth c H locs 2 12 (vx_MQ below (gh_Qi Q D h0 s.heap.size) (gh_X X D h0 s.heap.size) args s 11 366 (gh_A h0 s.heap.size)) (F0 m 35 ls []) := by
  unfold wb_X1_bind_35 at hw
  have hx := M.1.1
  have hb := M.1.2.1
  refine lv_iconst (v := (0 : Int32)) hx hb dX1_bind_35 (by decide) ?_
  exact wk_X1_bind_36 M hr hex  v0 v2 v3 (0 : Int32) _ _ _ _ G (gh_sub hl [0, 1, 2] rfl) hw
set_option maxHeartbeats 4000000 in
theorem met_X1_bind (l : Launch) (D : gh_D) (v0 : Nat) (v1 : Int32) (v2 : Int32) (Q : Int32 → gh_H → Prop) (X : String → gh_H → Prop) (h : gh_H) (sz : Nat) (hw : wp_X1_bind D.2.2 v0 v1 v2 Q X h) (hst : l.stackTraces = false) : vx_Met l yX1_bind (ws_ yX1_bind cX1_bind 5 (some .int)) rm_X1_bind (gh_Pc D h sz [.ref v0, .int v1, .int v2]) (gh_Qi Q D h sz) (gh_X X D h sz) 11 366 (gh_A h sz) := by
  refine vx_ofW (by decide) rfl (fun p e s m args below meth c s₁ B hml hex hP => ?_)
  obtain ⟨rfl, rfl, hK, hT, hE, G⟩ := gh_start hP
  have M : gh_M D p l s m _ meth c RX1 cX1_bind 5 (gh_A h s.heap.size) := ⟨⟨B.exec, B.bytes, hml, findClass_of_methodNamed B.named, fun w hw => atoms_spec (ws := ws_ yX1_bind cX1_bind 5 (some .int)) B.pre w (List.mem_cons_of_mem _ hw)⟩, hK, hT, hE, B.notSynchronized, hst⟩
  have hr := B.returns
  have hx := M.1.1
  have hb := M.1.2.1
  refine gh_enter (vs := [(1, .ref v0), (1, .int v1), (1, .int v2)]) (gh_w1 rfl (gh_w1 rfl (gh_w1 rfl gh_wn))) (Nat.le_of_ble_eq_true rfl) (fun ls hl => ?_)
  replace hl : gh_L ls 5 [(0, 1, va_rf (some v0)), (1, 1, .int v1), (2, 1, .int v2)] := hl
  unfold wp_X1_bind at hw
  refine gh_aload_n hx hb dX1_bind_0 rfl (gh_at hl 0 rfl) ?_
  refine lv_iload_n hx hb dX1_bind_1 rfl (gh_at hl 1 rfl) ?_
  obtain ⟨a1, lba1, fsa1, hra1, haa1, hw⟩ := hw
  rw [← Option.some.inj hra1] at haa1
  refine gh_kq G (vx_runV M.1 (met_X1_jobNumbered l D _ _ _ _ _ _ hw M.2.2.2.2.2) (cwV 1 (gh_Mts M) (lw_V q791 q793 qs5 q41 q794) rfl rfl rfl ⟨rfl, by decide, by decide, rfl⟩ ⟨Nat.le_of_ble_eq_true rfl, Nat.le_of_ble_eq_true rfl⟩) (gh_preV (As := [.int v1]) M G (gh_rec M G haa1 rfl)) rfl rfl hl.1.1 rfl (lv_room (Nat.le_of_ble_eq_true rfl)) dX1_bind_2 ⟨(Nat.le_of_ble_eq_true rfl), (Nat.le_of_ble_eq_true rfl)⟩) (gh_out M hex (by exact Nat.le_of_ble_eq_true rfl) (by exact Nat.le_of_ble_eq_true rfl)) (fun r2 h3 H locs hw G => ?_)
  refine gh_astore_n (lv' := [(3, 1, va_rf r2), (0, 1, va_rf (some v0)), (1, 1, .int v1), (2, 1, .int v2)]) hx hb dX1_bind_5 rfl hl (by decide) rfl (fun ls hl => ?_)
  refine lv_iload_n hx hb dX1_bind_6 rfl (gh_at hl 3 rfl) ?_
  refine gh_kv G (vx_runS M.1 (met_X1_requireCount l D _ _ _ _ _ hw M.2.2.2.2.2) (va_cwS 1 (gh_Mts M) (lw_S q848 q849 q41 q850) rfl rfl rfl ⟨by decide, by decide, rfl⟩ ⟨Nat.le_of_ble_eq_true rfl, Nat.le_of_ble_eq_true rfl⟩) (gh_pre M G (As := [.int v2])) rfl rfl hl.1.1 rfl (lv_room (Nat.le_of_ble_eq_true rfl)) dX1_bind_7 ⟨(Nat.le_of_ble_eq_true rfl), (Nat.le_of_ble_eq_true rfl)⟩) (gh_out M hex (by exact Nat.le_of_ble_eq_true rfl) (by exact Nat.le_of_ble_eq_true rfl)) (fun h4 H locs hw G => ?_)
  refine gh_aload_n hx hb dX1_bind_10 rfl (gh_at hl 0 rfl) ?_
  obtain ⟨a5, lba5, fsa5, rfl, haa5, hw⟩ := hw
  refine gh_ki G (vx_runV M.1 (met_X7_isComplete l D _ _ _ _ _ hw M.2.2.2.2.2) (cwV 0 (gh_Mts M) (lw_V q813 q629 q630 q71 q631) rfl rfl rfl ⟨rfl, by decide, by decide, rfl⟩ ⟨Nat.le_of_ble_eq_true rfl, Nat.le_of_ble_eq_true rfl⟩) (gh_preV (As := []) M G (gh_rec M G haa5 rfl)) rfl rfl hl.1.1 rfl (lv_room (Nat.le_of_ble_eq_true rfl)) dX1_bind_11 ⟨(Nat.le_of_ble_eq_true rfl), (Nat.le_of_ble_eq_true rfl)⟩) (gh_out M hex (by exact Nat.le_of_ble_eq_true rfl) (by exact Nat.le_of_ble_eq_true rfl)) (fun r6 h7 H locs hw G => ?_)
  refine lv_if_eq (tgt := 35) hx hb dX1_bind_14 (by decide) (fun hc => ?_) (fun hc => ?_)
  · replace hw := hw.1 hc
    exact wk_X1_bind_35 M hr hex  v0 v2 (some a5) _ _ _ _ G (gh_sub hl [1, 3, 0] rfl) hw
  · replace hw := hw.2 hc
    refine gh_aload_n hx hb dX1_bind_17 rfl (gh_at hl 1 rfl) ?_
    refine gh_getR M G hw fl_X1_37 dX1_bind_18 (fun x8 hw => ?_)
    obtain ⟨a9, lba9, fsa9, rfl, haa9, hw⟩ := hw
    refine gh_kFi G (vx_runF (C := "java/util/ArrayList") (M.2.1.1.1 8 _ rfl).2 M.1 (met_J2_size l D _ _ _ _ _ hw M.2.2.2.2.2) (va_cwF 0 (gh_Mts M) (gh_gF q239 q243 q245 q44 q247) rfl rfl rfl (M.2.2.1.2.1 _ (List.mem_of_getElem? (i := 4) rfl)) ⟨by decide, by decide, rfl⟩ ⟨Nat.le_of_ble_eq_true rfl, Nat.le_of_ble_eq_true rfl⟩) (gh_preV (As := []) M G (gh_rec M G haa9 rfl)) rfl rfl hl.1.1 rfl (lv_room (Nat.le_of_ble_eq_true rfl)) dX1_bind_21 ⟨(Nat.le_of_ble_eq_true rfl), (Nat.le_of_ble_eq_true rfl)⟩) (gh_out M hex (by exact Nat.le_of_ble_eq_true rfl) (by exact Nat.le_of_ble_eq_true rfl)) (fun r10 h11 H locs hw G => ?_)
    refine lv_bipush (v := (100 : Int32)) hx hb dX1_bind_26 (by decide) ?_
    refine lv_icmp_ge (tgt := 35) hx hb dX1_bind_28 (by decide) (fun hc => ?_) (fun hc => ?_)
    · replace hw := hw.1 hc
      exact wk_X1_bind_35 M hr hex  v0 v2 (some a5) _ _ _ _ G (gh_sub hl [1, 3, 0] rfl) hw
    · replace hw := hw.2 hc
      refine lv_iconst (v := (1 : Int32)) hx hb dX1_bind_31 (by decide) ?_
      refine lv_goto (tgt := 36) hx hb dX1_bind_32 (by decide) ?_
      exact wk_X1_bind_36 M hr hex  v0 v2 (some a5) (1 : Int32) _ _ _ _ G (gh_sub hl [1, 3, 0] rfl) hw
/-! BinderyDeskLaw.bind (LBinderyDesk;II[J)I -/
def rm_X0_bind : Room := { frames := 9, cells := 11, slots := 366, locals := 235 }
def wb_X0_bind_13 (κ : Nat → Nat)  (Q : Int32 → gh_H → Prop) (X : String → gh_H → Prop) (t0 : Option Nat) (h : gh_H) : Prop := (Q (1 : Int32) h)
def wb_X0_bind_17 (κ : Nat → Nat)  (Q : Int32 → gh_H → Prop) (X : String → gh_H → Prop) (t0 : Option Nat) (h : gh_H) : Prop := (Q (2 : Int32) h)
def wb_X0_bind_21 (κ : Nat → Nat)  (Q : Int32 → gh_H → Prop) (X : String → gh_H → Prop) (t0 : Option Nat) (h : gh_H) : Prop := (Q (3 : Int32) h)
def wb_X0_bind_25 (κ : Nat → Nat)  (Q : Int32 → gh_H → Prop) (X : String → gh_H → Prop) (t0 : Option Nat) (h : gh_H) : Prop := (Q (4 : Int32) h)
def wp_X0_bind (κ : Nat → Nat) (v0 : Option Nat) (v1 : Int32) (v2 : Int32) (v3 : Option Nat) (Q : Int32 → gh_H → Prop) (X : String → gh_H → Prop) (h : gh_H) : Prop := (gh_RC h v0 0 (fun a1 => (wp_X1_bind κ a1 v1 v2 (fun r2 h3 => (gh_SJ h3 v3 (0 : Int32) (r2.toInt64) (fun h4 => (Q (0 : Int32) h4)))) (fun E h9 => (E = "java/lang/IndexOutOfBoundsException" ∧ ∀ q9 : Nat, wb_X0_bind_13 κ Q X (some q9) h9) ∨ (E = "java/lang/IllegalArgumentException" ∧ ∀ q9 : Nat, wb_X0_bind_17 κ Q X (some q9) h9) ∨ (E = "java/lang/IllegalStateException" ∧ ∀ q9 : Nat, wb_X0_bind_21 κ Q X (some q9) h9) ∨ (E = "java/lang/UnsupportedOperationException" ∧ ∀ q9 : Nat, wb_X0_bind_25 κ Q X (some q9) h9)) h)))
set_option maxHeartbeats 4000000 in
theorem wk_X0_bind_13 {D : gh_D} {p : Program} {l : Launch} {e : Env} {s : State} {m : MethodId} {args : Array Value} {below : List Frame} {meth : Method} {c : Code} {h0 : gh_H} (M : gh_M D p l s m args meth c RX0 cX0_bind 5 (gh_A h0 s.heap.size)) (hr : meth.sig.returnType = (some .int)) (htab : c.exceptionTable.toList = tableOf [(0, 10, 13, 19), (0, 10, 17, 32), (0, 10, 21, 13), (0, 10, 25, 56)])   {Q : Int32 → gh_H → Prop} {X : String → gh_H → Prop}   (t0 : Option Nat) (H : Heap) (locs : List Loc) (ls : Array Slot) (h : gh_H) (G : gh_Inv D h0 (gh_A h0 s.heap.size) s.heap s H locs h) (hl : gh_L ls 5 []) (hw : wb_X0_bind_13 D.2.2 Q X t0 h) : W p l e rm_X0_bind s m args below meth c H locs 11 366 (vx_MQ below (gh_Qi Q D h0 s.heap.size) (gh_X X D h0 s.heap.size) args s 11 366 (gh_A h0 s.heap.size)) (F0 m 13 ls [va_rf t0]) := by
  unfold wb_X0_bind_13 at hw
  have hx := M.1.1
  have hb := M.1.2.1
  refine gh_astore (lv' := [(4, 1, va_rf t0)]) hx hb dX0_bind_13 hl (by decide) rfl (fun ls hl => ?_)
  refine lv_iconst (v := (1 : Int32)) hx hb dX0_bind_15 (by decide) ?_
  exact gh_iret M G hr rfl hw (by exact Nat.le_of_ble_eq_true rfl) (by exact Nat.le_of_ble_eq_true rfl) dX0_bind_16
set_option maxHeartbeats 4000000 in
theorem wk_X0_bind_17 {D : gh_D} {p : Program} {l : Launch} {e : Env} {s : State} {m : MethodId} {args : Array Value} {below : List Frame} {meth : Method} {c : Code} {h0 : gh_H} (M : gh_M D p l s m args meth c RX0 cX0_bind 5 (gh_A h0 s.heap.size)) (hr : meth.sig.returnType = (some .int)) (htab : c.exceptionTable.toList = tableOf [(0, 10, 13, 19), (0, 10, 17, 32), (0, 10, 21, 13), (0, 10, 25, 56)])   {Q : Int32 → gh_H → Prop} {X : String → gh_H → Prop}   (t0 : Option Nat) (H : Heap) (locs : List Loc) (ls : Array Slot) (h : gh_H) (G : gh_Inv D h0 (gh_A h0 s.heap.size) s.heap s H locs h) (hl : gh_L ls 5 []) (hw : wb_X0_bind_17 D.2.2 Q X t0 h) : W p l e rm_X0_bind s m args below meth c H locs 11 366 (vx_MQ below (gh_Qi Q D h0 s.heap.size) (gh_X X D h0 s.heap.size) args s 11 366 (gh_A h0 s.heap.size)) (F0 m 17 ls [va_rf t0]) := by
  unfold wb_X0_bind_17 at hw
  have hx := M.1.1
  have hb := M.1.2.1
  refine gh_astore (lv' := [(4, 1, va_rf t0)]) hx hb dX0_bind_17 hl (by decide) rfl (fun ls hl => ?_)
  refine lv_iconst (v := (2 : Int32)) hx hb dX0_bind_19 (by decide) ?_
  exact gh_iret M G hr rfl hw (by exact Nat.le_of_ble_eq_true rfl) (by exact Nat.le_of_ble_eq_true rfl) dX0_bind_20
set_option maxHeartbeats 4000000 in
theorem wk_X0_bind_21 {D : gh_D} {p : Program} {l : Launch} {e : Env} {s : State} {m : MethodId} {args : Array Value} {below : List Frame} {meth : Method} {c : Code} {h0 : gh_H} (M : gh_M D p l s m args meth c RX0 cX0_bind 5 (gh_A h0 s.heap.size)) (hr : meth.sig.returnType = (some .int)) (htab : c.exceptionTable.toList = tableOf [(0, 10, 13, 19), (0, 10, 17, 32), (0, 10, 21, 13), (0, 10, 25, 56)])   {Q : Int32 → gh_H → Prop} {X : String → gh_H → Prop}   (t0 : Option Nat) (H : Heap) (locs : List Loc) (ls : Array Slot) (h : gh_H) (G : gh_Inv D h0 (gh_A h0 s.heap.size) s.heap s H locs h) (hl : gh_L ls 5 []) (hw : wb_X0_bind_21 D.2.2 Q X t0 h) : W p l e rm_X0_bind s m args below meth c H locs 11 366 (vx_MQ below (gh_Qi Q D h0 s.heap.size) (gh_X X D h0 s.heap.size) args s 11 366 (gh_A h0 s.heap.size)) (F0 m 21 ls [va_rf t0]) := by
  unfold wb_X0_bind_21 at hw
  have hx := M.1.1
  have hb := M.1.2.1
  refine gh_astore (lv' := [(4, 1, va_rf t0)]) hx hb dX0_bind_21 hl (by decide) rfl (fun ls hl => ?_)
  refine lv_iconst (v := (3 : Int32)) hx hb dX0_bind_23 (by decide) ?_
  exact gh_iret M G hr rfl hw (by exact Nat.le_of_ble_eq_true rfl) (by exact Nat.le_of_ble_eq_true rfl) dX0_bind_24
set_option maxHeartbeats 4000000 in
theorem wk_X0_bind_25 {D : gh_D} {p : Program} {l : Launch} {e : Env} {s : State} {m : MethodId} {args : Array Value} {below : List Frame} {meth : Method} {c : Code} {h0 : gh_H} (M : gh_M D p l s m args meth c RX0 cX0_bind 5 (gh_A h0 s.heap.size)) (hr : meth.sig.returnType = (some .int)) (htab : c.exceptionTable.toList = tableOf [(0, 10, 13, 19), (0, 10, 17, 32), (0, 10, 21, 13), (0, 10, 25, 56)])   {Q : Int32 → gh_H → Prop} {X : String → gh_H → Prop}   (t0 : Option Nat) (H : Heap) (locs : List Loc) (ls : Array Slot) (h : gh_H) (G : gh_Inv D h0 (gh_A h0 s.heap.size) s.heap s H locs h) (hl : gh_L ls 5 []) (hw : wb_X0_bind_25 D.2.2 Q X t0 h) : W p l e rm_X0_bind s m args below meth c H locs 11 366 (vx_MQ below (gh_Qi Q D h0 s.heap.size) (gh_X X D h0 s.heap.size) args s 11 366 (gh_A h0 s.heap.size)) (F0 m 25 ls [va_rf t0]) := by
  unfold wb_X0_bind_25 at hw
  have hx := M.1.1
  have hb := M.1.2.1
  refine gh_astore (lv' := [(4, 1, va_rf t0)]) hx hb dX0_bind_25 hl (by decide) rfl (fun ls hl => ?_)
  refine lv_iconst (v := (4 : Int32)) hx hb dX0_bind_27 (by decide) ?_
  exact gh_iret M G hr rfl hw (by exact Nat.le_of_ble_eq_true rfl) (by exact Nat.le_of_ble_eq_true rfl) dX0_bind_28
set_option maxHeartbeats 4000000 in
theorem met_X0_bind (l : Launch) (D : gh_D) (v0 : Option Nat) (v1 : Int32) (v2 : Int32) (v3 : Option Nat) (Q : Int32 → gh_H → Prop) (X : String → gh_H → Prop) (h : gh_H) (sz : Nat) (hw : wp_X0_bind D.2.2 v0 v1 v2 v3 Q X h) (hst : l.stackTraces = false) : vx_Met l yX0_bind (wsW_ yX0_bind cX0_bind 5 (some .int) [(0, 10, 13, 19), (0, 10, 17, 32), (0, 10, 21, 13), (0, 10, 25, 56)]) rm_X0_bind (gh_Pc D h sz [va_rf v0, .int v1, .int v2, va_rf v3]) (gh_Qi Q D h sz) (gh_X X D h sz) 11 366 (gh_A h sz) := by
  refine vx_ofWH (by decide) rfl (fun p e s m args below meth c s₁ B hml hP => ?_)
  have htab := vx_table (x := yX0_bind) B (atoms_spec (ws := wsW_ yX0_bind cX0_bind 5 (some .int) [(0, 10, 13, 19), (0, 10, 17, 32), (0, 10, 21, 13), (0, 10, 25, 56)]) B.pre _ List.mem_cons_self)
  obtain ⟨rfl, rfl, hK, hT, hE, G⟩ := gh_start hP
  have M : gh_M D p l s m _ meth c RX0 cX0_bind 5 (gh_A h s.heap.size) := ⟨⟨B.exec, B.bytes, hml, findClass_of_methodNamed B.named, fun w hw => atoms_spec (ws := wsW_ yX0_bind cX0_bind 5 (some .int) [(0, 10, 13, 19), (0, 10, 17, 32), (0, 10, 21, 13), (0, 10, 25, 56)]) B.pre w (List.mem_cons_of_mem _ hw)⟩, hK, hT, hE, B.notSynchronized, hst⟩
  have hr := B.returns
  have hx := M.1.1
  have hb := M.1.2.1
  refine gh_enter (vs := [(1, va_rf v0), (1, .int v1), (1, .int v2), (1, va_rf v3)]) (gh_w1 (gh_cat _) (gh_w1 rfl (gh_w1 rfl (gh_w1 (gh_cat _) gh_wn)))) (Nat.le_of_ble_eq_true rfl) (fun ls hl => ?_)
  replace hl : gh_L ls 5 [(0, 1, va_rf v0), (1, 1, .int v1), (2, 1, .int v2), (3, 1, va_rf v3)] := hl
  unfold wp_X0_bind at hw
  refine gh_aload_n hx hb dX0_bind_0 rfl (gh_at hl 3 rfl) ?_
  refine lv_iconst (v := (0 : Int32)) hx hb dX0_bind_1 (by decide) ?_
  refine gh_aload_n hx hb dX0_bind_2 rfl (gh_at hl 0 rfl) ?_
  refine lv_iload_n hx hb dX0_bind_3 rfl (gh_at hl 1 rfl) ?_
  refine lv_iload_n hx hb dX0_bind_4 rfl (gh_at hl 2 rfl) ?_
  obtain ⟨a1, lba1, fsa1, rfl, haa1, hw⟩ := hw
  refine gh_ki G (vx_runV M.1 (met_X1_bind l D _ _ _ _ _ _ _ hw M.2.2.2.2.2) (cwV 2 (gh_Mts M) (lw_V q1400 q1401 q1402 q41 q1403) rfl rfl rfl ⟨rfl, by decide, by decide, rfl⟩ ⟨Nat.le_of_ble_eq_true rfl, Nat.le_of_ble_eq_true rfl⟩) (gh_preV (As := [.int v1, .int v2]) M G (gh_rec M G haa1 rfl)) rfl rfl hl.1.1 rfl (lv_room (Nat.le_trans (gh_r1 rfl (gh_r1 (gh_cat _) gh_r0)) (Nat.le_of_ble_eq_true rfl : 2 ≤ 8))) dX0_bind_5 ⟨(Nat.le_of_ble_eq_true rfl), (Nat.le_of_ble_eq_true rfl)⟩) (fun E ce q9 h9 H locs hX G hce hcv hcl => ?_) (fun r2 h3 H locs hw G => ?_)
  · rcases hX with ⟨rfl, hX⟩ | ⟨rfl, hX⟩ | ⟨rfl, hX⟩ | ⟨rfl, hX⟩
    · replace hw := hX q9
      refine vx_catch (name := "java/lang/IndexOutOfBoundsException") M.1.2.2.2.1 (tableOf []) ⟨0, 10, 13, 19⟩ (tableOf [(0, 10, 17, 32), (0, 10, 21, 13), (0, 10, 25, 56)]) (htab.trans rfl) (fun _ h => absurd h List.not_mem_nil) (by decide) (by decide) (gh_Mts M _ q439) (va_Nw.use rfl (M.2.2.1.1 _ (List.mem_of_getElem? (i := 8) rfl))) hce hcv hcl ?_
      exact wk_X0_bind_13 M hr htab  (some q9) _ _ _ _ G (gh_sub hl [] rfl) hw
    · replace hw := hX q9
      refine vx_catch (name := "java/lang/IllegalArgumentException") M.1.2.2.2.1 (tableOf [(0, 10, 13, 19)]) ⟨0, 10, 17, 32⟩ (tableOf [(0, 10, 21, 13), (0, 10, 25, 56)]) (htab.trans rfl) (List.forall_mem_cons.mpr ⟨Or.inr ⟨by decide, "java/lang/IndexOutOfBoundsException", gh_Mts M _ q439, M.2.2.1.2.2.1 _ (List.mem_of_getElem? (i := 16) rfl)⟩, fun _ h => absurd h List.not_mem_nil⟩) (by decide) (by decide) (gh_Mts M _ q714) (va_Nw.use rfl (M.2.2.1.1 _ (List.mem_of_getElem? (i := 49) rfl))) hce hcv hcl ?_
      exact wk_X0_bind_17 M hr htab  (some q9) _ _ _ _ G (gh_sub hl [] rfl) hw
    · replace hw := hX q9
      refine vx_catch (name := "java/lang/IllegalStateException") M.1.2.2.2.1 (tableOf [(0, 10, 13, 19), (0, 10, 17, 32)]) ⟨0, 10, 21, 13⟩ (tableOf [(0, 10, 25, 56)]) (htab.trans rfl) (List.forall_mem_cons.mpr ⟨Or.inr ⟨by decide, "java/lang/IndexOutOfBoundsException", gh_Mts M _ q439, M.2.2.1.2.2.1 _ (List.mem_of_getElem? (i := 6) rfl)⟩, List.forall_mem_cons.mpr ⟨Or.inr ⟨by decide, "java/lang/IllegalArgumentException", gh_Mts M _ q714, M.2.2.1.2.2.1 _ (List.mem_of_getElem? (i := 8) rfl)⟩, fun _ h => absurd h List.not_mem_nil⟩⟩) (by decide) (by decide) (gh_Mts M _ q261) (va_Nw.use rfl (M.2.2.1.1 _ (List.mem_of_getElem? (i := 4) rfl))) hce hcv hcl ?_
      exact wk_X0_bind_21 M hr htab  (some q9) _ _ _ _ G (gh_sub hl [] rfl) hw
    · replace hw := hX q9
      refine vx_catch (name := "java/lang/UnsupportedOperationException") M.1.2.2.2.1 (tableOf [(0, 10, 13, 19), (0, 10, 17, 32), (0, 10, 21, 13)]) ⟨0, 10, 25, 56⟩ (tableOf []) (htab.trans rfl) (List.forall_mem_cons.mpr ⟨Or.inr ⟨by decide, "java/lang/IndexOutOfBoundsException", gh_Mts M _ q439, M.2.2.1.2.2.1 _ (List.mem_of_getElem? (i := 21) rfl)⟩, List.forall_mem_cons.mpr ⟨Or.inr ⟨by decide, "java/lang/IllegalArgumentException", gh_Mts M _ q714, M.2.2.1.2.2.1 _ (List.mem_of_getElem? (i := 24) rfl)⟩, List.forall_mem_cons.mpr ⟨Or.inr ⟨by decide, "java/lang/IllegalStateException", gh_Mts M _ q261, M.2.2.1.2.2.1 _ (List.mem_of_getElem? (i := 22) rfl)⟩, fun _ h => absurd h List.not_mem_nil⟩⟩⟩) (by decide) (by decide) (gh_Mts M _ q843) (va_Nw.use rfl (M.2.2.1.1 _ (List.mem_of_getElem? (i := 51) rfl))) hce hcv hcl ?_
      exact wk_X0_bind_25 M hr htab  (some q9) _ _ _ _ G (gh_sub hl [] rfl) hw
  · refine lv_i2l (v := (r2.toInt64)) hx hb dX0_bind_8 rfl ?_
    refine gh_jas M G hw dX0_bind_9 (fun h4 H locs hw G => ?_)
    refine lv_goto (tgt := 29) hx hb dX0_bind_10 (by decide) ?_
    refine lv_iconst (v := (0 : Int32)) hx hb dX0_bind_29 (by decide) ?_
    exact gh_iret M G hr rfl hw (by exact Nat.le_of_ble_eq_true rfl) (by exact Nat.le_of_ble_eq_true rfl) dX0_bind_30
/-! BinderyDeskModel.missing (II)I -/
def rm_X3_missing : Room := { frames := 3, cells := 0, slots := 0, locals := 82 }
def wb_X3_missing_50 (κ : Nat → Nat) (K5 : Nat → Int32 → Int32 → Int32 → Int32 → gh_H → Prop) (Q : Int32 → gh_H → Prop) (X : String → gh_H → Prop) (v0 : Nat) (v1 : Int32) (v2 : Int32) (v4 : Int32) (t0 : Int32) (t1 : Int32) (h : gh_H) : Prop := K5 v0 v1 v2 (t0 + t1) (v4 + (1 : Int32)) h
def wb_X3_missing_5 (κ : Nat → Nat) (K5 : Nat → Int32 → Int32 → Int32 → Int32 → gh_H → Prop) (Q : Int32 → gh_H → Prop) (X : String → gh_H → Prop) (v0 : Nat) (v1 : Int32) (v2 : Int32) (v3 : Int32) (v4 : Int32) (h : gh_H) : Prop := (gh_RC h (some v0) 1 (fun _ => (wp_X3_count κ v0 v1 (fun r2 h3 => ((r2 ≤ v4 → (Q v3 h3)) ∧ (¬ r2 ≤ v4 → (gh_GR h3 (some v0) [(1, 16)] (fun x4 => (gh_LI h3 x4 (((8 : Int32) * v1) + v4) (fun x5 => ((v2 ≤ x5 → wb_X3_missing_50 κ K5 Q X v0 v1 v2 v4 v3 (0 : Int32) h3) ∧ (¬ v2 ≤ x5 → (gh_GR h3 (some v0) [(1, 16)] (fun x6 => (gh_LI h3 x6 (((8 : Int32) * v1) + v4) (fun x7 => wb_X3_missing_50 κ K5 Q X v0 v1 v2 v4 v3 (v2 - x7) h3))))))))))))) X h)))
def wl_X3_missing_5 (κ : Nat → Nat)  (Q : Int32 → gh_H → Prop) (X : String → gh_H → Prop) : Nat → Nat → Int32 → Int32 → Int32 → Int32 → gh_H → Prop
  | 0 => fun _ _ _ _ _ _ => False
  | n + 1 => fun v0 v1 v2 v3 v4 h => wb_X3_missing_5 κ (wl_X3_missing_5 κ Q X n) Q X v0 v1 v2 v3 v4 h
def wp_X3_missing (κ : Nat → Nat) (v0 : Nat) (v1 : Int32) (v2 : Int32) (Q : Int32 → gh_H → Prop) (X : String → gh_H → Prop) (h : gh_H) : Prop := (∃ n : Nat, wl_X3_missing_5 κ Q X n v0 v1 v2 (0 : Int32) (0 : Int32) h)
set_option maxHeartbeats 4000000 in
theorem wk_X3_missing_50 {D : gh_D} {p : Program} {l : Launch} {e : Env} {s : State} {m : MethodId} {args : Array Value} {below : List Frame} {meth : Method} {c : Code} {h0 : gh_H} (M : gh_M D p l s m args meth c RX3 cX3_missing 5 (gh_A h0 s.heap.size)) (hr : meth.sig.returnType = (some .int)) (hex : ∀ x ∈ c.exceptionTable.toList, False) {K5 : Nat → Int32 → Int32 → Int32 → Int32 → gh_H → Prop}  {Q : Int32 → gh_H → Prop} {X : String → gh_H → Prop} (k5 : ∀ (v0 : Nat) (v1 : Int32) (v2 : Int32) (v3 : Int32) (v4 : Int32) (H : Heap) (locs : List Loc) (ls : Array Slot) (h : gh_H) (_ : gh_Inv D h0 (gh_A h0 s.heap.size) s.heap s H locs h) (_ : gh_L ls 5 [(0, 1, va_rf (some v0)), (1, 1, .int v1), (2, 1, .int v2), (3, 1, .int v3), (4, 1, .int v4)]) (_ : K5 v0 v1 v2 v3 v4 h), W p l e rm_X3_missing s m args below meth c H locs 0 0 (vx_MQ below (gh_Qi Q D h0 s.heap.size) (gh_X X D h0 s.heap.size) args s 0 0 (gh_A h0 s.heap.size)) (F0 m 5 ls []))  (v0 : Nat) (v1 : Int32) (v2 : Int32) (v4 : Int32) (t0 : Int32) (t1 : Int32) (H : Heap) (locs : List Loc) (ls : Array Slot) (h : gh_H) (G : gh_Inv D h0 (gh_A h0 s.heap.size) s.heap s H locs h) (hl : gh_L ls 5 [(0, 1, va_rf (some v0)), (1, 1, .int v1), (2, 1, .int v2), (4, 1, .int v4)]) (hw : wb_X3_missing_50 D.2.2 K5 Q X v0 v1 v2 v4 t0 t1 h) : W p l e rm_X3_missing s m args below meth c H locs 0 0 (vx_MQ below (gh_Qi Q D h0 s.heap.size) (gh_X X D h0 s.heap.size) args s 0 0 (gh_A h0 s.heap.size)) (F0 m 50 ls [.int t1, .int t0]) := by
  unfold wb_X3_missing_50 at hw
  have hx := M.1.1
  have hb := M.1.2.1
  refine lv_iadd hx hb dX3_missing_50 ?_
  refine gh_istore_n (lv' := [(3, 1, .int (t0 + t1)), (0, 1, va_rf (some v0)), (1, 1, .int v1), (2, 1, .int v2), (4, 1, .int v4)]) hx hb dX3_missing_51 rfl hl (by decide) rfl (fun ls hl => ?_)
  refine gh_iinc (k := 4) (v := (v4 + (1 : Int32))) (lv' := [(4, 1, .int (v4 + (1 : Int32))), (3, 1, .int (t0 + t1)), (0, 1, va_rf (some v0)), (1, 1, .int v1), (2, 1, .int v2)]) hx hb dX3_missing_52 hl rfl rfl (by decide) rfl (fun ls hl => ?_)
  refine lv_goto (tgt := 5) hx hb dX3_missing_55 (by decide) ?_
  exact k5 v0 v1 v2 (t0 + t1) (v4 + (1 : Int32)) _ _ _ _ G (gh_sub hl [2, 3, 4, 1, 0] rfl) hw
set_option maxHeartbeats 4000000 in
theorem wk1_X3_missing_5 {D : gh_D} {p : Program} {l : Launch} {e : Env} {s : State} {m : MethodId} {args : Array Value} {below : List Frame} {meth : Method} {c : Code} {h0 : gh_H} (M : gh_M D p l s m args meth c RX3 cX3_missing 5 (gh_A h0 s.heap.size)) (hr : meth.sig.returnType = (some .int)) (hex : ∀ x ∈ c.exceptionTable.toList, False) {K5 : Nat → Int32 → Int32 → Int32 → Int32 → gh_H → Prop}  {Q : Int32 → gh_H → Prop} {X : String → gh_H → Prop} (k5 : ∀ (v0 : Nat) (v1 : Int32) (v2 : Int32) (v3 : Int32) (v4 : Int32) (H : Heap) (locs : List Loc) (ls : Array Slot) (h : gh_H) (_ : gh_Inv D h0 (gh_A h0 s.heap.size) s.heap s H locs h) (_ : gh_L ls 5 [(0, 1, va_rf (some v0)), (1, 1, .int v1), (2, 1, .int v2), (3, 1, .int v3), (4, 1, .int v4)]) (_ : K5 v0 v1 v2 v3 v4 h), W p l e rm_X3_missing s m args below meth c H locs 0 0 (vx_MQ below (gh_Qi Q D h0 s.heap.size) (gh_X X D h0 s.heap.size) args s 0 0 (gh_A h0 s.heap.size)) (F0 m 5 ls []))  (v0 : Nat) (v1 : Int32) (v2 : Int32) (v3 : Int32) (v4 : Int32) (H : Heap) (locs : List Loc) (ls : Array Slot) (h : gh_H) (G : gh_Inv D h0 (gh_A h0 s.heap.size) s.heap s H locs h) (hl : gh_L ls 5 [(0, 1, va_rf (some v0)), (1, 1, .int v1), (2, 1, .int v2), (3, 1, .int v3), (4, 1, .int v4)]) (hw : wb_X3_missing_5 D.2.2 K5 Q X v0 v1 v2 v3 v4 h) : W p l e rm_X3_missing s m args below meth c H locs 0 0 (vx_MQ below (gh_Qi Q D h0 s.heap.size) (gh_X X D h0 s.heap.size) args s 0 0 (gh_A h0 s.heap.size)) (F0 m 5 ls []) := by
  unfold wb_X3_missing_5 at hw
  have hx := M.1.1
  have hb := M.1.2.1
  refine lv_iload hx hb dX3_missing_5 (gh_at hl 4 rfl) ?_
  refine gh_aload_n hx hb dX3_missing_7 rfl (gh_at hl 0 rfl) ?_
  refine lv_iload_n hx hb dX3_missing_8 rfl (gh_at hl 1 rfl) ?_
  obtain ⟨a1, lba1, fsa1, hra1, haa1, hw⟩ := hw
  rw [← Option.some.inj hra1] at haa1
  refine gh_ki G (vx_runV M.1 (met_X3_count l D _ _ _ _ _ _ hw M.2.2.2.2.2) (cwV 1 (gh_Mts M) (lw_V q1684 q1686 qs25 q50 q1687) rfl rfl rfl ⟨rfl, by decide, by decide, rfl⟩ ⟨Nat.le_of_ble_eq_true rfl, Nat.le_of_ble_eq_true rfl⟩) (gh_preV (As := [.int v1]) M G (gh_rec M G haa1 rfl)) rfl rfl hl.1.1 rfl (lv_room (Nat.le_of_ble_eq_true rfl)) dX3_missing_9 ⟨(Nat.le_of_ble_eq_true rfl), (Nat.le_of_ble_eq_true rfl)⟩) (gh_out M hex (by exact Nat.le_of_ble_eq_true rfl) (by exact Nat.le_of_ble_eq_true rfl)) (fun r2 h3 H locs hw G => ?_)
  refine lv_icmp_ge (tgt := 58) hx hb dX3_missing_12 (by decide) (fun hc => ?_) (fun hc => ?_)
  · replace hw := hw.1 hc
    refine lv_iload_n hx hb dX3_missing_58 rfl (gh_at hl 3 rfl) ?_
    exact gh_iret M G hr rfl hw (by exact Nat.le_of_ble_eq_true rfl) (by exact Nat.le_of_ble_eq_true rfl) dX3_missing_59
  · replace hw := hw.2 hc
    refine lv_iload_n hx hb dX3_missing_15 rfl (gh_at hl 3 rfl) ?_
    refine lv_iload_n hx hb dX3_missing_16 rfl (gh_at hl 2 rfl) ?_
    refine gh_aload_n hx hb dX3_missing_17 rfl (gh_at hl 0 rfl) ?_
    refine gh_getR M G hw fl_X3_22 dX3_missing_18 (fun x4 hw => ?_)
    refine lv_bipush (v := (8 : Int32)) hx hb dX3_missing_21 (by decide) ?_
    refine lv_iload_n hx hb dX3_missing_23 rfl (gh_at hl 1 rfl) ?_
    refine lv_imul hx hb dX3_missing_24 ?_
    refine lv_iload hx hb dX3_missing_25 (gh_at hl 4 rfl) ?_
    refine lv_iadd hx hb dX3_missing_27 ?_
    refine gh_ial M G hw dX3_missing_28 (fun x5 hw => ?_)
    refine lv_icmp_le (tgt := 49) hx hb dX3_missing_29 (by decide) (fun hc => ?_) (fun hc => ?_)
    · replace hw := hw.1 hc
      refine lv_iconst (v := (0 : Int32)) hx hb dX3_missing_49 (by decide) ?_
      exact wk_X3_missing_50 M hr hex k5 v0 v1 v2 v4 v3 (0 : Int32) _ _ _ _ G (gh_sub hl [0, 1, 2, 4] rfl) hw
    · replace hw := hw.2 hc
      refine lv_iload_n hx hb dX3_missing_32 rfl (gh_at hl 2 rfl) ?_
      refine gh_aload_n hx hb dX3_missing_33 rfl (gh_at hl 0 rfl) ?_
      refine gh_getR M G hw fl_X3_22 dX3_missing_34 (fun x6 hw => ?_)
      refine lv_bipush (v := (8 : Int32)) hx hb dX3_missing_37 (by decide) ?_
      refine lv_iload_n hx hb dX3_missing_39 rfl (gh_at hl 1 rfl) ?_
      refine lv_imul hx hb dX3_missing_40 ?_
      refine lv_iload hx hb dX3_missing_41 (gh_at hl 4 rfl) ?_
      refine lv_iadd hx hb dX3_missing_43 ?_
      refine gh_ial M G hw dX3_missing_44 (fun x7 hw => ?_)
      refine lv_isub hx hb dX3_missing_45 ?_
      refine lv_goto (tgt := 50) hx hb dX3_missing_46 (by decide) ?_
      exact wk_X3_missing_50 M hr hex k5 v0 v1 v2 v4 v3 (v2 - x7) _ _ _ _ G (gh_sub hl [0, 1, 2, 4] rfl) hw
theorem wk_X3_missing_5 {D : gh_D} {p : Program} {l : Launch} {e : Env} {s : State} {m : MethodId} {args : Array Value} {below : List Frame} {meth : Method} {c : Code} {h0 : gh_H} (M : gh_M D p l s m args meth c RX3 cX3_missing 5 (gh_A h0 s.heap.size)) (hr : meth.sig.returnType = (some .int)) (hex : ∀ x ∈ c.exceptionTable.toList, False)   {Q : Int32 → gh_H → Prop} {X : String → gh_H → Prop}   : ∀ (n : Nat) (v0 : Nat) (v1 : Int32) (v2 : Int32) (v3 : Int32) (v4 : Int32) (H : Heap) (locs : List Loc) (ls : Array Slot) (h : gh_H) (_ : gh_Inv D h0 (gh_A h0 s.heap.size) s.heap s H locs h) (_ : gh_L ls 5 [(0, 1, va_rf (some v0)), (1, 1, .int v1), (2, 1, .int v2), (3, 1, .int v3), (4, 1, .int v4)]) (_ : wl_X3_missing_5 D.2.2 Q X n v0 v1 v2 v3 v4 h), W p l e rm_X3_missing s m args below meth c H locs 0 0 (vx_MQ below (gh_Qi Q D h0 s.heap.size) (gh_X X D h0 s.heap.size) args s 0 0 (gh_A h0 s.heap.size)) (F0 m 5 ls []) := by
  intro fu
  induction fu with
  | zero => intro v0 v1 v2 v3 v4 H locs ls h G hl hw; exact False.elim hw
  | succ n1 ih =>
    intro v0 v1 v2 v3 v4 H locs ls h G hl hw
    exact wk1_X3_missing_5 M hr hex ih  v0 v1 v2 v3 v4 _ _ _ _ G hl hw
set_option maxHeartbeats 4000000 in
theorem met_X3_missing (l : Launch) (D : gh_D) (v0 : Nat) (v1 : Int32) (v2 : Int32) (Q : Int32 → gh_H → Prop) (X : String → gh_H → Prop) (h : gh_H) (sz : Nat) (hw : wp_X3_missing D.2.2 v0 v1 v2 Q X h) (hst : l.stackTraces = false) : vx_Met l yX3_missing (ws_ yX3_missing cX3_missing 5 (some .int)) rm_X3_missing (gh_Pc D h sz [.ref v0, .int v1, .int v2]) (gh_Qi Q D h sz) (gh_X X D h sz) 0 0 (gh_A h sz) := by
  refine vx_ofW (by decide) rfl (fun p e s m args below meth c s₁ B hml hex hP => ?_)
  obtain ⟨rfl, rfl, hK, hT, hE, G⟩ := gh_start hP
  have M : gh_M D p l s m _ meth c RX3 cX3_missing 5 (gh_A h s.heap.size) := ⟨⟨B.exec, B.bytes, hml, findClass_of_methodNamed B.named, fun w hw => atoms_spec (ws := ws_ yX3_missing cX3_missing 5 (some .int)) B.pre w (List.mem_cons_of_mem _ hw)⟩, hK, hT, hE, B.notSynchronized, hst⟩
  have hr := B.returns
  have hx := M.1.1
  have hb := M.1.2.1
  refine gh_enter (vs := [(1, .ref v0), (1, .int v1), (1, .int v2)]) (gh_w1 rfl (gh_w1 rfl (gh_w1 rfl gh_wn))) (Nat.le_of_ble_eq_true rfl) (fun ls hl => ?_)
  replace hl : gh_L ls 5 [(0, 1, va_rf (some v0)), (1, 1, .int v1), (2, 1, .int v2)] := hl
  unfold wp_X3_missing at hw
  refine lv_iconst (v := (0 : Int32)) hx hb dX3_missing_0 (by decide) ?_
  refine gh_istore_n (lv' := [(3, 1, .int (0 : Int32)), (0, 1, va_rf (some v0)), (1, 1, .int v1), (2, 1, .int v2)]) hx hb dX3_missing_1 rfl hl (by decide) rfl (fun ls hl => ?_)
  refine lv_iconst (v := (0 : Int32)) hx hb dX3_missing_2 (by decide) ?_
  refine gh_istore (lv' := [(4, 1, .int (0 : Int32)), (3, 1, .int (0 : Int32)), (0, 1, va_rf (some v0)), (1, 1, .int v1), (2, 1, .int v2)]) hx hb dX3_missing_3 hl (by decide) rfl (fun ls hl => ?_)
  obtain ⟨n, hw⟩ := hw
  exact wk_X3_missing_5 M hr hex  n v0 v1 v2 (0 : Int32) (0 : Int32) _ _ _ _ G (gh_sub hl [2, 3, 4, 1, 0] rfl) hw
/-! BinderyDeskModel.bind (II)I -/
theorem fl_X3_156 : gh_FL RX3 156 [(1, 3)] := by
  intro args s hts tb q hq
  simp only [List.mem_cons, List.not_mem_nil, or_false] at hq
  subst hq
  exact ⟨_, "BinderyDeskModel", rfl, by decide, Or.inl (hts _ q1572), (fun x h => h)⟩
theorem fp_X3_156 : gh_FP RX3 156 [(1, 3)] (.int) false := by
  refine ⟨fl_X3_156, fun q hq => ?_⟩
  simp only [List.mem_cons, List.not_mem_nil, or_false] at hq
  subst hq
  exact ⟨_, rfl, rfl, by decide +kernel, fun h => by cases h⟩
def rm_X3_bind : Room := { frames := 4, cells := 0, slots := 0, locals := 106 }
def wb_X3_bind_54 (κ : Nat → Nat)  (Q : Int32 → gh_H → Prop) (X : String → gh_H → Prop) (v0 : Nat) (h : gh_H) : Prop := (gh_RC h (some v0) 1 (fun _ => (wp_X3_fails κ v0 (3 : Int32) (fun r2 h3 => (Q r2 h3)) X h)))
def wb_X3_bind_149 (κ : Nat → Nat) (K149 : Nat → Int32 → Int32 → gh_H → Prop) (Q : Int32 → gh_H → Prop) (X : String → gh_H → Prop) (v0 : Nat) (v1 : Int32) (v3 : Int32) (h : gh_H) : Prop := (gh_GR h (some v0) [(1, 14)] (fun x1 => (gh_LI h x1 v1 (fun x2 => ((x2 ≤ v3 → (gh_GI h (some v0) [(1, 3)] (fun x3 => (gh_PV h (some v0) [(1, 3)] (.int (x3 + (1 : Int32))) (fun h4 => (gh_GI h4 (some v0) [(1, 3)] (fun x5 => (Q (x5 - (1 : Int32)) h4)))))))) ∧ (¬ x2 ≤ v3 → (gh_GR h (some v0) [(1, 25)] (fun x6 => (gh_GI h (some v0) [(1, 3)] (fun x7 => (gh_GR h (some v0) [(1, 12)] (fun x8 => (gh_GR h (some v0) [(1, 15)] (fun x9 => (gh_LI h x9 (((16 : Int32) * v1) + v3) (fun x10 => (gh_LI h x8 x10 (fun x11 => (gh_SI h x6 (((16 : Int32) * x7) + v3) x11 (fun h12 => K149 v0 v1 (v3 + (1 : Int32)) h12))))))))))))))))))))
def wl_X3_bind_149 (κ : Nat → Nat)  (Q : Int32 → gh_H → Prop) (X : String → gh_H → Prop) : Nat → Nat → Int32 → Int32 → gh_H → Prop
  | 0 => fun _ _ _ _ => False
  | n + 1 => fun v0 v1 v3 h => wb_X3_bind_149 κ (wl_X3_bind_149 κ Q X n) Q X v0 v1 v3 h
def wb_X3_bind_82 (κ : Nat → Nat) (K82 : Nat → Int32 → Int32 → Int32 → gh_H → Prop) (Q : Int32 → gh_H → Prop) (X : String → gh_H → Prop) (v0 : Nat) (v1 : Int32) (v2 : Int32) (v3 : Int32) (h : gh_H) : Prop := (gh_RC h (some v0) 1 (fun _ => (wp_X3_count κ v0 v1 (fun r2 h3 => ((r2 ≤ v3 → (gh_GR h3 (some v0) [(1, 22)] (fun x4 => (gh_GI h3 (some v0) [(1, 3)] (fun x5 => (gh_SI h3 x4 x5 v1 (fun h6 => (gh_GR h6 (some v0) [(1, 23)] (fun x7 => (gh_GI h6 (some v0) [(1, 3)] (fun x8 => (gh_SI h6 x7 x8 v2 (fun h9 => (gh_GR h9 (some v0) [(1, 24)] (fun x10 => (gh_GI h9 (some v0) [(1, 3)] (fun x11 => (gh_GR h9 (some v0) [(1, 14)] (fun x12 => (gh_LI h9 x12 v1 (fun x13 => (gh_SI h9 x10 x11 x13 (fun h14 => (∃ n : Nat, wl_X3_bind_149 κ Q X n v0 v1 (0 : Int32) h14)))))))))))))))))))))))) ∧ (¬ r2 ≤ v3 → (gh_GR h3 (some v0) [(1, 16)] (fun x15 => (gh_LI h3 x15 (((8 : Int32) * v1) + v3) (fun x16 => (gh_SI h3 x15 (((8 : Int32) * v1) + v3) (x16 - v2) (fun h17 => K82 v0 v1 v2 (v3 + (1 : Int32)) h17))))))))) X h)))
def wl_X3_bind_82 (κ : Nat → Nat)  (Q : Int32 → gh_H → Prop) (X : String → gh_H → Prop) : Nat → Nat → Int32 → Int32 → Int32 → gh_H → Prop
  | 0 => fun _ _ _ _ _ => False
  | n + 1 => fun v0 v1 v2 v3 h => wb_X3_bind_82 κ (wl_X3_bind_82 κ Q X n) Q X v0 v1 v2 v3 h
def wp_X3_bind (κ : Nat → Nat) (v0 : Nat) (v1 : Int32) (v2 : Int32) (Q : Int32 → gh_H → Prop) (X : String → gh_H → Prop) (h : gh_H) : Prop := (gh_GI h (some v0) [(1, 2)] (fun x1 => (wp_X3_in κ v1 (0 : Int32) (x1 - (1 : Int32)) (fun r2 h3 => ((r2 = 0 → (gh_RC h3 (some v0) 1 (fun _ => (wp_X3_fails κ v0 (1 : Int32) (fun r21 h22 => (Q r21 h22)) X h3)))) ∧ (¬ r2 = 0 → (wp_X3_in κ v2 (1 : Int32) (500 : Int32) (fun r4 h5 => ((r4 = 0 → (gh_RC h5 (some v0) 1 (fun _ => (wp_X3_fails κ v0 (2 : Int32) (fun r18 h19 => (Q r18 h19)) X h5)))) ∧ (¬ r4 = 0 → (gh_RC h5 (some v0) 1 (fun _ => (wp_X3_isWhole κ v0 v1 (fun r7 h8 => ((r7 = 0 → wb_X3_bind_54 κ Q X v0 h8) ∧ (¬ r7 = 0 → (gh_GI h8 (some v0) [(1, 3)] (fun x9 => ((x9 = (100 : Int32) → wb_X3_bind_54 κ Q X v0 h8) ∧ (¬ x9 = (100 : Int32) → (gh_RC h8 (some v0) 1 (fun _ => (wp_X3_missing κ v0 v1 v2 (fun r11 h12 => ((r11 ≤ 0 → (gh_PV h12 (some v0) [(1, 0)] (.int (0 : Int32)) (fun h13 => (∃ n : Nat, wl_X3_bind_82 κ Q X n v0 v1 v2 (0 : Int32) h13)))) ∧ (¬ r11 ≤ 0 → (gh_RC h12 (some v0) 1 (fun _ => (wp_X3_fails κ v0 (4 : Int32) (fun r15 h16 => (Q r15 h16)) X h12)))))) X h8)))))))))) X h5)))))) X h3)))) X h)))
set_option maxHeartbeats 4000000 in
theorem wk_X3_bind_54 {D : gh_D} {p : Program} {l : Launch} {e : Env} {s : State} {m : MethodId} {args : Array Value} {below : List Frame} {meth : Method} {c : Code} {h0 : gh_H} (M : gh_M D p l s m args meth c RX3 cX3_bind 4 (gh_A h0 s.heap.size)) (hr : meth.sig.returnType = (some .int)) (hex : ∀ x ∈ c.exceptionTable.toList, False)   {Q : Int32 → gh_H → Prop} {X : String → gh_H → Prop}   (v0 : Nat) (H : Heap) (locs : List Loc) (ls : Array Slot) (h : gh_H) (G : gh_Inv D h0 (gh_A h0 s.heap.size) s.heap s H locs h) (hl : gh_L ls 4 [(0, 1, va_rf (some v0))]) (hw : wb_X3_bind_54 D.2.2 Q X v0 h) : W p l e rm_X3_bind s m args below meth c H locs 0 0 (vx_MQ below (gh_Qi Q D h0 s.heap.size) (gh_X X D h0 s.heap.size) args s 0 0 (gh_A h0 s.heap.size)) (F0 m 54 ls []) := by
  unfold wb_X3_bind_54 at hw
  have hx := M.1.1
  have hb := M.1.2.1
  refine gh_aload_n hx hb dX3_bind_54 rfl (gh_at hl 0 rfl) ?_
  refine lv_iconst (v := (3 : Int32)) hx hb dX3_bind_55 (by decide) ?_
  obtain ⟨a1, lba1, fsa1, hra1, haa1, hw⟩ := hw
  rw [← Option.some.inj hra1] at haa1
  refine gh_ki G (vx_runV M.1 (met_X3_fails l D _ _ _ _ _ _ hw M.2.2.2.2.2) (cwV 1 (gh_Mts M) (lw_V q1657 q1659 qs21 q50 q1660) rfl rfl rfl ⟨rfl, by decide, by decide, rfl⟩ ⟨Nat.le_of_ble_eq_true rfl, Nat.le_of_ble_eq_true rfl⟩) (gh_preV (As := [.int (3 : Int32)]) M G (gh_rec M G haa1 rfl)) rfl rfl hl.1.1 rfl (lv_room (Nat.le_of_ble_eq_true rfl)) dX3_bind_56 ⟨(Nat.le_of_ble_eq_true rfl), (Nat.le_of_ble_eq_true rfl)⟩) (gh_out M hex (by exact Nat.le_of_ble_eq_true rfl) (by exact Nat.le_of_ble_eq_true rfl)) (fun r2 h3 H locs hw G => ?_)
  exact gh_iret M G hr rfl hw (by exact Nat.le_of_ble_eq_true rfl) (by exact Nat.le_of_ble_eq_true rfl) dX3_bind_59
set_option maxHeartbeats 4000000 in
theorem wk1_X3_bind_149 {D : gh_D} {p : Program} {l : Launch} {e : Env} {s : State} {m : MethodId} {args : Array Value} {below : List Frame} {meth : Method} {c : Code} {h0 : gh_H} (M : gh_M D p l s m args meth c RX3 cX3_bind 4 (gh_A h0 s.heap.size)) (hr : meth.sig.returnType = (some .int)) (hex : ∀ x ∈ c.exceptionTable.toList, False) {K149 : Nat → Int32 → Int32 → gh_H → Prop}  {Q : Int32 → gh_H → Prop} {X : String → gh_H → Prop} (k149 : ∀ (v0 : Nat) (v1 : Int32) (v3 : Int32) (H : Heap) (locs : List Loc) (ls : Array Slot) (h : gh_H) (_ : gh_Inv D h0 (gh_A h0 s.heap.size) s.heap s H locs h) (_ : gh_L ls 4 [(0, 1, va_rf (some v0)), (1, 1, .int v1), (3, 1, .int v3)]) (_ : K149 v0 v1 v3 h), W p l e rm_X3_bind s m args below meth c H locs 0 0 (vx_MQ below (gh_Qi Q D h0 s.heap.size) (gh_X X D h0 s.heap.size) args s 0 0 (gh_A h0 s.heap.size)) (F0 m 149 ls []))  (v0 : Nat) (v1 : Int32) (v3 : Int32) (H : Heap) (locs : List Loc) (ls : Array Slot) (h : gh_H) (G : gh_Inv D h0 (gh_A h0 s.heap.size) s.heap s H locs h) (hl : gh_L ls 4 [(0, 1, va_rf (some v0)), (1, 1, .int v1), (3, 1, .int v3)]) (hw : wb_X3_bind_149 D.2.2 K149 Q X v0 v1 v3 h) : W p l e rm_X3_bind s m args below meth c H locs 0 0 (vx_MQ below (gh_Qi Q D h0 s.heap.size) (gh_X X D h0 s.heap.size) args s 0 0 (gh_A h0 s.heap.size)) (F0 m 149 ls []) := by
  unfold wb_X3_bind_149 at hw
  have hx := M.1.1
  have hb := M.1.2.1
  refine lv_iload_n hx hb dX3_bind_149 rfl (gh_at hl 2 rfl) ?_
  refine gh_aload_n hx hb dX3_bind_150 rfl (gh_at hl 0 rfl) ?_
  refine gh_getR M G hw fl_X3_16 dX3_bind_151 (fun x1 hw => ?_)
  refine lv_iload_n hx hb dX3_bind_154 rfl (gh_at hl 1 rfl) ?_
  refine gh_ial M G hw dX3_bind_155 (fun x2 hw => ?_)
  refine lv_icmp_ge (tgt := 195) hx hb dX3_bind_156 (by decide) (fun hc => ?_) (fun hc => ?_)
  · replace hw := hw.1 hc
    refine gh_aload_n hx hb dX3_bind_195 rfl (gh_at hl 0 rfl) ?_
    refine lv_dup hx hb dX3_bind_196 (gh_cat _) ?_
    refine gh_getI M G hw fl_X3_156 dX3_bind_197 (fun x3 hw => ?_)
    refine lv_iconst (v := (1 : Int32)) hx hb dX3_bind_200 (by decide) ?_
    refine lv_iadd hx hb dX3_bind_201 ?_
    refine gh_put M G hw fp_X3_156 rfl rfl dX3_bind_202 (fun h4 H locs hw G => ?_)
    refine gh_aload_n hx hb dX3_bind_205 rfl (gh_at hl 0 rfl) ?_
    refine gh_getI M G hw fl_X3_156 dX3_bind_206 (fun x5 hw => ?_)
    refine lv_iconst (v := (1 : Int32)) hx hb dX3_bind_209 (by decide) ?_
    refine lv_isub hx hb dX3_bind_210 ?_
    exact gh_iret M G hr rfl hw (by exact Nat.le_of_ble_eq_true rfl) (by exact Nat.le_of_ble_eq_true rfl) dX3_bind_211
  · replace hw := hw.2 hc
    refine gh_aload_n hx hb dX3_bind_159 rfl (gh_at hl 0 rfl) ?_
    refine gh_getR M G hw fl_X3_50 dX3_bind_160 (fun x6 hw => ?_)
    refine lv_bipush (v := (16 : Int32)) hx hb dX3_bind_163 (by decide) ?_
    refine gh_aload_n hx hb dX3_bind_165 rfl (gh_at hl 0 rfl) ?_
    refine gh_getI M G hw fl_X3_156 dX3_bind_166 (fun x7 hw => ?_)
    refine lv_imul hx hb dX3_bind_169 ?_
    refine lv_iload_n hx hb dX3_bind_170 rfl (gh_at hl 2 rfl) ?_
    refine lv_iadd hx hb dX3_bind_171 ?_
    refine gh_aload_n hx hb dX3_bind_172 rfl (gh_at hl 0 rfl) ?_
    refine gh_getR M G hw fl_X3_7 dX3_bind_173 (fun x8 hw => ?_)
    refine gh_aload_n hx hb dX3_bind_176 rfl (gh_at hl 0 rfl) ?_
    refine gh_getR M G hw fl_X3_19 dX3_bind_177 (fun x9 hw => ?_)
    refine lv_bipush (v := (16 : Int32)) hx hb dX3_bind_180 (by decide) ?_
    refine lv_iload_n hx hb dX3_bind_182 rfl (gh_at hl 1 rfl) ?_
    refine lv_imul hx hb dX3_bind_183 ?_
    refine lv_iload_n hx hb dX3_bind_184 rfl (gh_at hl 2 rfl) ?_
    refine lv_iadd hx hb dX3_bind_185 ?_
    refine gh_ial M G hw dX3_bind_186 (fun x10 hw => ?_)
    refine gh_ial M G hw dX3_bind_187 (fun x11 hw => ?_)
    refine gh_ias M G hw dX3_bind_188 (fun h12 H locs hw G => ?_)
    refine gh_iinc (k := 2) (v := (v3 + (1 : Int32))) (lv' := [(3, 1, .int (v3 + (1 : Int32))), (0, 1, va_rf (some v0)), (1, 1, .int v1)]) hx hb dX3_bind_189 hl rfl rfl (by decide) rfl (fun ls hl => ?_)
    refine lv_goto (tgt := 149) hx hb dX3_bind_192 (by decide) ?_
    exact k149 v0 v1 (v3 + (1 : Int32)) _ _ _ _ G (gh_sub hl [1, 2, 0] rfl) hw
theorem wk_X3_bind_149 {D : gh_D} {p : Program} {l : Launch} {e : Env} {s : State} {m : MethodId} {args : Array Value} {below : List Frame} {meth : Method} {c : Code} {h0 : gh_H} (M : gh_M D p l s m args meth c RX3 cX3_bind 4 (gh_A h0 s.heap.size)) (hr : meth.sig.returnType = (some .int)) (hex : ∀ x ∈ c.exceptionTable.toList, False)   {Q : Int32 → gh_H → Prop} {X : String → gh_H → Prop}   : ∀ (n : Nat) (v0 : Nat) (v1 : Int32) (v3 : Int32) (H : Heap) (locs : List Loc) (ls : Array Slot) (h : gh_H) (_ : gh_Inv D h0 (gh_A h0 s.heap.size) s.heap s H locs h) (_ : gh_L ls 4 [(0, 1, va_rf (some v0)), (1, 1, .int v1), (3, 1, .int v3)]) (_ : wl_X3_bind_149 D.2.2 Q X n v0 v1 v3 h), W p l e rm_X3_bind s m args below meth c H locs 0 0 (vx_MQ below (gh_Qi Q D h0 s.heap.size) (gh_X X D h0 s.heap.size) args s 0 0 (gh_A h0 s.heap.size)) (F0 m 149 ls []) := by
  intro fu
  induction fu with
  | zero => intro v0 v1 v3 H locs ls h G hl hw; exact False.elim hw
  | succ n1 ih =>
    intro v0 v1 v3 H locs ls h G hl hw
    exact wk1_X3_bind_149 M hr hex ih  v0 v1 v3 _ _ _ _ G hl hw
set_option maxHeartbeats 4000000 in
theorem wk1_X3_bind_82 {D : gh_D} {p : Program} {l : Launch} {e : Env} {s : State} {m : MethodId} {args : Array Value} {below : List Frame} {meth : Method} {c : Code} {h0 : gh_H} (M : gh_M D p l s m args meth c RX3 cX3_bind 4 (gh_A h0 s.heap.size)) (hr : meth.sig.returnType = (some .int)) (hex : ∀ x ∈ c.exceptionTable.toList, False) {K82 : Nat → Int32 → Int32 → Int32 → gh_H → Prop}  {Q : Int32 → gh_H → Prop} {X : String → gh_H → Prop} (k82 : ∀ (v0 : Nat) (v1 : Int32) (v2 : Int32) (v3 : Int32) (H : Heap) (locs : List Loc) (ls : Array Slot) (h : gh_H) (_ : gh_Inv D h0 (gh_A h0 s.heap.size) s.heap s H locs h) (_ : gh_L ls 4 [(0, 1, va_rf (some v0)), (1, 1, .int v1), (2, 1, .int v2), (3, 1, .int v3)]) (_ : K82 v0 v1 v2 v3 h), W p l e rm_X3_bind s m args below meth c H locs 0 0 (vx_MQ below (gh_Qi Q D h0 s.heap.size) (gh_X X D h0 s.heap.size) args s 0 0 (gh_A h0 s.heap.size)) (F0 m 82 ls []))  (v0 : Nat) (v1 : Int32) (v2 : Int32) (v3 : Int32) (H : Heap) (locs : List Loc) (ls : Array Slot) (h : gh_H) (G : gh_Inv D h0 (gh_A h0 s.heap.size) s.heap s H locs h) (hl : gh_L ls 4 [(0, 1, va_rf (some v0)), (1, 1, .int v1), (2, 1, .int v2), (3, 1, .int v3)]) (hw : wb_X3_bind_82 D.2.2 K82 Q X v0 v1 v2 v3 h) : W p l e rm_X3_bind s m args below meth c H locs 0 0 (vx_MQ below (gh_Qi Q D h0 s.heap.size) (gh_X X D h0 s.heap.size) args s 0 0 (gh_A h0 s.heap.size)) (F0 m 82 ls []) := by
  unfold wb_X3_bind_82 at hw
  have hx := M.1.1
  have hb := M.1.2.1
  refine lv_iload_n hx hb dX3_bind_82 rfl (gh_at hl 3 rfl) ?_
  refine gh_aload_n hx hb dX3_bind_83 rfl (gh_at hl 0 rfl) ?_
  refine lv_iload_n hx hb dX3_bind_84 rfl (gh_at hl 1 rfl) ?_
  obtain ⟨a1, lba1, fsa1, hra1, haa1, hw⟩ := hw
  rw [← Option.some.inj hra1] at haa1
  refine gh_ki G (vx_runV M.1 (met_X3_count l D _ _ _ _ _ _ hw M.2.2.2.2.2) (cwV 1 (gh_Mts M) (lw_V q1684 q1686 qs25 q50 q1687) rfl rfl rfl ⟨rfl, by decide, by decide, rfl⟩ ⟨Nat.le_of_ble_eq_true rfl, Nat.le_of_ble_eq_true rfl⟩) (gh_preV (As := [.int v1]) M G (gh_rec M G haa1 rfl)) rfl rfl hl.1.1 rfl (lv_room (Nat.le_of_ble_eq_true rfl)) dX3_bind_85 ⟨(Nat.le_of_ble_eq_true rfl), (Nat.le_of_ble_eq_true rfl)⟩) (gh_out M hex (by exact Nat.le_of_ble_eq_true rfl) (by exact Nat.le_of_ble_eq_true rfl)) (fun r2 h3 H locs hw G => ?_)
  refine lv_icmp_ge (tgt := 112) hx hb dX3_bind_88 (by decide) (fun hc => ?_) (fun hc => ?_)
  · replace hw := hw.1 hc
    refine gh_aload_n hx hb dX3_bind_112 rfl (gh_at hl 0 rfl) ?_
    refine gh_getR M G hw fl_X3_41 dX3_bind_113 (fun x4 hw => ?_)
    refine gh_aload_n hx hb dX3_bind_116 rfl (gh_at hl 0 rfl) ?_
    refine gh_getI M G hw fl_X3_156 dX3_bind_117 (fun x5 hw => ?_)
    refine lv_iload_n hx hb dX3_bind_120 rfl (gh_at hl 1 rfl) ?_
    refine gh_ias M G hw dX3_bind_121 (fun h6 H locs hw G => ?_)
    refine gh_aload_n hx hb dX3_bind_122 rfl (gh_at hl 0 rfl) ?_
    refine gh_getR M G hw fl_X3_44 dX3_bind_123 (fun x7 hw => ?_)
    refine gh_aload_n hx hb dX3_bind_126 rfl (gh_at hl 0 rfl) ?_
    refine gh_getI M G hw fl_X3_156 dX3_bind_127 (fun x8 hw => ?_)
    refine lv_iload_n hx hb dX3_bind_130 rfl (gh_at hl 2 rfl) ?_
    refine gh_ias M G hw dX3_bind_131 (fun h9 H locs hw G => ?_)
    refine gh_aload_n hx hb dX3_bind_132 rfl (gh_at hl 0 rfl) ?_
    refine gh_getR M G hw fl_X3_47 dX3_bind_133 (fun x10 hw => ?_)
    refine gh_aload_n hx hb dX3_bind_136 rfl (gh_at hl 0 rfl) ?_
    refine gh_getI M G hw fl_X3_156 dX3_bind_137 (fun x11 hw => ?_)
    refine gh_aload_n hx hb dX3_bind_140 rfl (gh_at hl 0 rfl) ?_
    refine gh_getR M G hw fl_X3_16 dX3_bind_141 (fun x12 hw => ?_)
    refine lv_iload_n hx hb dX3_bind_144 rfl (gh_at hl 1 rfl) ?_
    refine gh_ial M G hw dX3_bind_145 (fun x13 hw => ?_)
    refine gh_ias M G hw dX3_bind_146 (fun h14 H locs hw G => ?_)
    refine lv_iconst (v := (0 : Int32)) hx hb dX3_bind_147 (by decide) ?_
    refine gh_istore_n (lv' := [(3, 1, .int (0 : Int32)), (0, 1, va_rf (some v0)), (1, 1, .int v1), (2, 1, .int v2)]) hx hb dX3_bind_148 rfl hl (by decide) rfl (fun ls hl => ?_)
    obtain ⟨n, hw⟩ := hw
    exact wk_X3_bind_149 M hr hex  n v0 v1 (0 : Int32) _ _ _ _ G (gh_sub hl [1, 2, 0] rfl) hw
  · replace hw := hw.2 hc
    refine gh_aload_n hx hb dX3_bind_91 rfl (gh_at hl 0 rfl) ?_
    refine gh_getR M G hw fl_X3_22 dX3_bind_92 (fun x15 hw => ?_)
    refine lv_bipush (v := (8 : Int32)) hx hb dX3_bind_95 (by decide) ?_
    refine lv_iload_n hx hb dX3_bind_97 rfl (gh_at hl 1 rfl) ?_
    refine lv_imul hx hb dX3_bind_98 ?_
    refine lv_iload_n hx hb dX3_bind_99 rfl (gh_at hl 3 rfl) ?_
    refine lv_iadd hx hb dX3_bind_100 ?_
    refine lv_dup2_11 hx hb dX3_bind_101 rfl (gh_cat _) ?_
    refine gh_ial M G hw dX3_bind_102 (fun x16 hw => ?_)
    refine lv_iload_n hx hb dX3_bind_103 rfl (gh_at hl 2 rfl) ?_
    refine lv_isub hx hb dX3_bind_104 ?_
    refine gh_ias M G hw dX3_bind_105 (fun h17 H locs hw G => ?_)
    refine gh_iinc (k := 3) (v := (v3 + (1 : Int32))) (lv' := [(3, 1, .int (v3 + (1 : Int32))), (0, 1, va_rf (some v0)), (1, 1, .int v1), (2, 1, .int v2)]) hx hb dX3_bind_106 hl rfl rfl (by decide) rfl (fun ls hl => ?_)
    refine lv_goto (tgt := 82) hx hb dX3_bind_109 (by decide) ?_
    exact k82 v0 v1 v2 (v3 + (1 : Int32)) _ _ _ _ G (gh_sub hl [1, 2, 3, 0] rfl) hw
theorem wk_X3_bind_82 {D : gh_D} {p : Program} {l : Launch} {e : Env} {s : State} {m : MethodId} {args : Array Value} {below : List Frame} {meth : Method} {c : Code} {h0 : gh_H} (M : gh_M D p l s m args meth c RX3 cX3_bind 4 (gh_A h0 s.heap.size)) (hr : meth.sig.returnType = (some .int)) (hex : ∀ x ∈ c.exceptionTable.toList, False)   {Q : Int32 → gh_H → Prop} {X : String → gh_H → Prop}   : ∀ (n : Nat) (v0 : Nat) (v1 : Int32) (v2 : Int32) (v3 : Int32) (H : Heap) (locs : List Loc) (ls : Array Slot) (h : gh_H) (_ : gh_Inv D h0 (gh_A h0 s.heap.size) s.heap s H locs h) (_ : gh_L ls 4 [(0, 1, va_rf (some v0)), (1, 1, .int v1), (2, 1, .int v2), (3, 1, .int v3)]) (_ : wl_X3_bind_82 D.2.2 Q X n v0 v1 v2 v3 h), W p l e rm_X3_bind s m args below meth c H locs 0 0 (vx_MQ below (gh_Qi Q D h0 s.heap.size) (gh_X X D h0 s.heap.size) args s 0 0 (gh_A h0 s.heap.size)) (F0 m 82 ls []) := by
  intro fu
  induction fu with
  | zero => intro v0 v1 v2 v3 H locs ls h G hl hw; exact False.elim hw
  | succ n1 ih =>
    intro v0 v1 v2 v3 H locs ls h G hl hw
    exact wk1_X3_bind_82 M hr hex ih  v0 v1 v2 v3 _ _ _ _ G hl hw
set_option maxHeartbeats 4000000 in
theorem met_X3_bind (l : Launch) (D : gh_D) (v0 : Nat) (v1 : Int32) (v2 : Int32) (Q : Int32 → gh_H → Prop) (X : String → gh_H → Prop) (h : gh_H) (sz : Nat) (hw : wp_X3_bind D.2.2 v0 v1 v2 Q X h) (hst : l.stackTraces = false) : vx_Met l yX3_bind (ws_ yX3_bind cX3_bind 4 (some .int)) rm_X3_bind (gh_Pc D h sz [.ref v0, .int v1, .int v2]) (gh_Qi Q D h sz) (gh_X X D h sz) 0 0 (gh_A h sz) := by
  refine vx_ofW (by decide) rfl (fun p e s m args below meth c s₁ B hml hex hP => ?_)
  obtain ⟨rfl, rfl, hK, hT, hE, G⟩ := gh_start hP
  have M : gh_M D p l s m _ meth c RX3 cX3_bind 4 (gh_A h s.heap.size) := ⟨⟨B.exec, B.bytes, hml, findClass_of_methodNamed B.named, fun w hw => atoms_spec (ws := ws_ yX3_bind cX3_bind 4 (some .int)) B.pre w (List.mem_cons_of_mem _ hw)⟩, hK, hT, hE, B.notSynchronized, hst⟩
  have hr := B.returns
  have hx := M.1.1
  have hb := M.1.2.1
  refine gh_enter (vs := [(1, .ref v0), (1, .int v1), (1, .int v2)]) (gh_w1 rfl (gh_w1 rfl (gh_w1 rfl gh_wn))) (Nat.le_of_ble_eq_true rfl) (fun ls hl => ?_)
  replace hl : gh_L ls 4 [(0, 1, va_rf (some v0)), (1, 1, .int v1), (2, 1, .int v2)] := hl
  unfold wp_X3_bind at hw
  refine lv_iload_n hx hb dX3_bind_0 rfl (gh_at hl 1 rfl) ?_
  refine lv_iconst (v := (0 : Int32)) hx hb dX3_bind_1 (by decide) ?_
  refine gh_aload_n hx hb dX3_bind_2 rfl (gh_at hl 0 rfl) ?_
  refine gh_getI M G hw fl_X3_68 dX3_bind_3 (fun x1 hw => ?_)
  refine lv_iconst (v := (1 : Int32)) hx hb dX3_bind_6 (by decide) ?_
  refine lv_isub hx hb dX3_bind_7 ?_
  refine gh_ki G (vx_runS M.1 (met_X3_in l D _ _ _ _ _ _ _ hw M.2.2.2.2.2) (va_cwS 3 (gh_Mts M) (lw_S q1669 q1670 q50 q1671) rfl rfl rfl ⟨by decide, by decide, rfl⟩ ⟨Nat.le_of_ble_eq_true rfl, Nat.le_of_ble_eq_true rfl⟩) (gh_pre M G (As := [.int v1, .int (0 : Int32), .int (x1 - (1 : Int32))])) rfl rfl hl.1.1 rfl (lv_room (Nat.le_of_ble_eq_true rfl)) dX3_bind_8 ⟨(Nat.le_of_ble_eq_true rfl), (Nat.le_of_ble_eq_true rfl)⟩) (gh_out M hex (by exact Nat.le_of_ble_eq_true rfl) (by exact Nat.le_of_ble_eq_true rfl)) (fun r2 h3 H locs hw G => ?_)
  refine lv_if_ne (tgt := 20) hx hb dX3_bind_11 (by decide) (fun hc => ?_) (fun hc => ?_)
  · replace hw := hw.2 hc
    refine lv_iload_n hx hb dX3_bind_20 rfl (gh_at hl 2 rfl) ?_
    refine lv_iconst (v := (1 : Int32)) hx hb dX3_bind_21 (by decide) ?_
    refine lv_sipush (v := (500 : Int32)) hx hb dX3_bind_22 (by decide) ?_
    refine gh_ki G (vx_runS M.1 (met_X3_in l D _ _ _ _ _ _ _ hw M.2.2.2.2.2) (va_cwS 3 (gh_Mts M) (lw_S q1669 q1670 q50 q1671) rfl rfl rfl ⟨by decide, by decide, rfl⟩ ⟨Nat.le_of_ble_eq_true rfl, Nat.le_of_ble_eq_true rfl⟩) (gh_pre M G (As := [.int v2, .int (1 : Int32), .int (500 : Int32)])) rfl rfl hl.1.1 rfl (lv_room (Nat.le_of_ble_eq_true rfl)) dX3_bind_25 ⟨(Nat.le_of_ble_eq_true rfl), (Nat.le_of_ble_eq_true rfl)⟩) (gh_out M hex (by exact Nat.le_of_ble_eq_true rfl) (by exact Nat.le_of_ble_eq_true rfl)) (fun r4 h5 H locs hw G => ?_)
    refine lv_if_ne (tgt := 37) hx hb dX3_bind_28 (by decide) (fun hc => ?_) (fun hc => ?_)
    · replace hw := hw.2 hc
      refine gh_aload_n hx hb dX3_bind_37 rfl (gh_at hl 0 rfl) ?_
      refine lv_iload_n hx hb dX3_bind_38 rfl (gh_at hl 1 rfl) ?_
      obtain ⟨a6, lba6, fsa6, hra6, haa6, hw⟩ := hw
      rw [← Option.some.inj hra6] at haa6
      refine gh_ki G (vx_runV M.1 (met_X3_isWhole l D _ _ _ _ _ _ hw M.2.2.2.2.2) (cwV 1 (gh_Mts M) (lw_V q1676 q1678 qs23 q50 q1679) rfl rfl rfl ⟨rfl, by decide, by decide, rfl⟩ ⟨Nat.le_of_ble_eq_true rfl, Nat.le_of_ble_eq_true rfl⟩) (gh_preV (As := [.int v1]) M G (gh_rec M G haa6 rfl)) rfl rfl hl.1.1 rfl (lv_room (Nat.le_of_ble_eq_true rfl)) dX3_bind_39 ⟨(Nat.le_of_ble_eq_true rfl), (Nat.le_of_ble_eq_true rfl)⟩) (gh_out M hex (by exact Nat.le_of_ble_eq_true rfl) (by exact Nat.le_of_ble_eq_true rfl)) (fun r7 h8 H locs hw G => ?_)
      refine lv_if_eq (tgt := 54) hx hb dX3_bind_42 (by decide) (fun hc => ?_) (fun hc => ?_)
      · replace hw := hw.1 hc
        exact wk_X3_bind_54 M hr hex  v0 _ _ _ _ G (gh_sub hl [0] rfl) hw
      · replace hw := hw.2 hc
        refine gh_aload_n hx hb dX3_bind_45 rfl (gh_at hl 0 rfl) ?_
        refine gh_getI M G hw fl_X3_156 dX3_bind_46 (fun x9 hw => ?_)
        refine lv_bipush (v := (100 : Int32)) hx hb dX3_bind_49 (by decide) ?_
        refine lv_icmp_ne (tgt := 60) hx hb dX3_bind_51 (by decide) (fun hc => ?_) (fun hc => ?_)
        · replace hw := hw.2 hc
          refine gh_aload_n hx hb dX3_bind_60 rfl (gh_at hl 0 rfl) ?_
          refine lv_iload_n hx hb dX3_bind_61 rfl (gh_at hl 1 rfl) ?_
          refine lv_iload_n hx hb dX3_bind_62 rfl (gh_at hl 2 rfl) ?_
          obtain ⟨a10, lba10, fsa10, hra10, haa10, hw⟩ := hw
          rw [← Option.some.inj hra10] at haa10
          refine gh_ki G (vx_runV M.1 (met_X3_missing l D _ _ _ _ _ _ _ hw M.2.2.2.2.2) (cwV 2 (gh_Mts M) (lw_V q1801 q1803 qs39 q50 q1804) rfl rfl rfl ⟨rfl, by decide, by decide, rfl⟩ ⟨Nat.le_of_ble_eq_true rfl, Nat.le_of_ble_eq_true rfl⟩) (gh_preV (As := [.int v1, .int v2]) M G (gh_rec M G haa10 rfl)) rfl rfl hl.1.1 rfl (lv_room (Nat.le_of_ble_eq_true rfl)) dX3_bind_63 ⟨(Nat.le_of_ble_eq_true rfl), (Nat.le_of_ble_eq_true rfl)⟩) (gh_out M hex (by exact Nat.le_of_ble_eq_true rfl) (by exact Nat.le_of_ble_eq_true rfl)) (fun r11 h12 H locs hw G => ?_)
          refine lv_if_le (tgt := 75) hx hb dX3_bind_66 (by decide) (fun hc => ?_) (fun hc => ?_)
          · replace hw := hw.1 hc
            refine gh_aload_n hx hb dX3_bind_75 rfl (gh_at hl 0 rfl) ?_
            refine lv_iconst (v := (0 : Int32)) hx hb dX3_bind_76 (by decide) ?_
            refine gh_put M G hw fp_X3_53 rfl rfl dX3_bind_77 (fun h13 H locs hw G => ?_)
            refine lv_iconst (v := (0 : Int32)) hx hb dX3_bind_80 (by decide) ?_
            refine gh_istore_n (lv' := [(3, 1, .int (0 : Int32)), (0, 1, va_rf (some v0)), (1, 1, .int v1), (2, 1, .int v2)]) hx hb dX3_bind_81 rfl hl (by decide) rfl (fun ls hl => ?_)
            obtain ⟨n, hw⟩ := hw
            exact wk_X3_bind_82 M hr hex  n v0 v1 v2 (0 : Int32) _ _ _ _ G (gh_sub hl [1, 2, 3, 0] rfl) hw
          · replace hw := hw.2 hc
            refine gh_aload_n hx hb dX3_bind_69 rfl (gh_at hl 0 rfl) ?_
            refine lv_iconst (v := (4 : Int32)) hx hb dX3_bind_70 (by decide) ?_
            obtain ⟨a14, lba14, fsa14, hra14, haa14, hw⟩ := hw
            rw [← Option.some.inj hra14] at haa14
            refine gh_ki G (vx_runV M.1 (met_X3_fails l D _ _ _ _ _ _ hw M.2.2.2.2.2) (cwV 1 (gh_Mts M) (lw_V q1657 q1659 qs21 q50 q1660) rfl rfl rfl ⟨rfl, by decide, by decide, rfl⟩ ⟨Nat.le_of_ble_eq_true rfl, Nat.le_of_ble_eq_true rfl⟩) (gh_preV (As := [.int (4 : Int32)]) M G (gh_rec M G haa14 rfl)) rfl rfl hl.1.1 rfl (lv_room (Nat.le_of_ble_eq_true rfl)) dX3_bind_71 ⟨(Nat.le_of_ble_eq_true rfl), (Nat.le_of_ble_eq_true rfl)⟩) (gh_out M hex (by exact Nat.le_of_ble_eq_true rfl) (by exact Nat.le_of_ble_eq_true rfl)) (fun r15 h16 H locs hw G => ?_)
            exact gh_iret M G hr rfl hw (by exact Nat.le_of_ble_eq_true rfl) (by exact Nat.le_of_ble_eq_true rfl) dX3_bind_74
        · replace hw := hw.1 hc
          exact wk_X3_bind_54 M hr hex  v0 _ _ _ _ G (gh_sub hl [0] rfl) hw
    · replace hw := hw.1 hc
      refine gh_aload_n hx hb dX3_bind_31 rfl (gh_at hl 0 rfl) ?_
      refine lv_iconst (v := (2 : Int32)) hx hb dX3_bind_32 (by decide) ?_
      obtain ⟨a17, lba17, fsa17, hra17, haa17, hw⟩ := hw
      rw [← Option.some.inj hra17] at haa17
      refine gh_ki G (vx_runV M.1 (met_X3_fails l D _ _ _ _ _ _ hw M.2.2.2.2.2) (cwV 1 (gh_Mts M) (lw_V q1657 q1659 qs21 q50 q1660) rfl rfl rfl ⟨rfl, by decide, by decide, rfl⟩ ⟨Nat.le_of_ble_eq_true rfl, Nat.le_of_ble_eq_true rfl⟩) (gh_preV (As := [.int (2 : Int32)]) M G (gh_rec M G haa17 rfl)) rfl rfl hl.1.1 rfl (lv_room (Nat.le_of_ble_eq_true rfl)) dX3_bind_33 ⟨(Nat.le_of_ble_eq_true rfl), (Nat.le_of_ble_eq_true rfl)⟩) (gh_out M hex (by exact Nat.le_of_ble_eq_true rfl) (by exact Nat.le_of_ble_eq_true rfl)) (fun r18 h19 H locs hw G => ?_)
      exact gh_iret M G hr rfl hw (by exact Nat.le_of_ble_eq_true rfl) (by exact Nat.le_of_ble_eq_true rfl) dX3_bind_36
  · replace hw := hw.1 hc
    refine gh_aload_n hx hb dX3_bind_14 rfl (gh_at hl 0 rfl) ?_
    refine lv_iconst (v := (1 : Int32)) hx hb dX3_bind_15 (by decide) ?_
    obtain ⟨a20, lba20, fsa20, hra20, haa20, hw⟩ := hw
    rw [← Option.some.inj hra20] at haa20
    refine gh_ki G (vx_runV M.1 (met_X3_fails l D _ _ _ _ _ _ hw M.2.2.2.2.2) (cwV 1 (gh_Mts M) (lw_V q1657 q1659 qs21 q50 q1660) rfl rfl rfl ⟨rfl, by decide, by decide, rfl⟩ ⟨Nat.le_of_ble_eq_true rfl, Nat.le_of_ble_eq_true rfl⟩) (gh_preV (As := [.int (1 : Int32)]) M G (gh_rec M G haa20 rfl)) rfl rfl hl.1.1 rfl (lv_room (Nat.le_of_ble_eq_true rfl)) dX3_bind_16 ⟨(Nat.le_of_ble_eq_true rfl), (Nat.le_of_ble_eq_true rfl)⟩) (gh_out M hex (by exact Nat.le_of_ble_eq_true rfl) (by exact Nat.le_of_ble_eq_true rfl)) (fun r21 h22 H locs hw G => ?_)
    exact gh_iret M G hr rfl hw (by exact Nat.le_of_ble_eq_true rfl) (by exact Nat.le_of_ble_eq_true rfl) dX3_bind_19
