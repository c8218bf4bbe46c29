set_option maxRecDepth 100000
/-! java/util/TreeMap.rotateRight (Ljava/util/TreeMap$Entry;)V -/
def rm_J6_rotateRight : Room := { frames := 1, cells := 0, slots := 0, locals := 40 }
def wb_J6_rotateRight_95 (κ : Nat → Nat)  (Q : gh_H → Prop) (X : String → gh_H → Prop)  (h : gh_H) : Prop := (Q h)
def wb_J6_rotateRight_85 (κ : Nat → Nat)  (Q : gh_H → Prop) (X : String → gh_H → Prop) (v1 : Option Nat) (v2 : Option Nat) (h : gh_H) : Prop := (gh_PV h v2 [(12, 3)] (va_rf v1) (fun h1 => (gh_PV h1 v1 [(12, 4)] (va_rf v2) (fun h2 => wb_J6_rotateRight_95 κ Q X h2))))
def wb_J6_rotateRight_32 (κ : Nat → Nat)  (Q : gh_H → Prop) (X : String → gh_H → Prop) (v0 : Nat) (v1 : Option Nat) (v2 : Option Nat) (h : gh_H) : Prop := (gh_GR h v1 [(12, 4)] (fun x1 => (gh_PV h v2 [(12, 4)] (va_rf x1) (fun h2 => (gh_GR h2 v1 [(12, 4)] (fun x3 => ((x3 = none → (gh_PV h2 (some v0) [(11, 3)] (va_rf v2) (fun h10 => wb_J6_rotateRight_85 κ Q X v1 v2 h10))) ∧ (¬ x3 = none → (gh_GR h2 v1 [(12, 4)] (fun x4 => (gh_GR h2 x4 [(12, 3)] (fun x5 => ((x5 = v1 → (gh_GR h2 v1 [(12, 4)] (fun x8 => (gh_PV h2 x8 [(12, 3)] (va_rf v2) (fun h9 => wb_J6_rotateRight_85 κ Q X v1 v2 h9))))) ∧ (¬ x5 = v1 → (gh_GR h2 v1 [(12, 4)] (fun x6 => (gh_PV h2 x6 [(12, 2)] (va_rf v2) (fun h7 => wb_J6_rotateRight_85 κ Q X v1 v2 h7))))))))))))))))))
def wp_J6_rotateRight (κ : Nat → Nat) (v0 : Nat) (v1 : Option Nat) (Q : gh_H → Prop) (X : String → gh_H → Prop) (h : gh_H) : Prop := ((v1 = none → wb_J6_rotateRight_95 κ Q X h) ∧ (¬ v1 = none → (gh_GR h v1 [(12, 2)] (fun x1 => (gh_GR h x1 [(12, 3)] (fun x2 => (gh_PV h v1 [(12, 2)] (va_rf x2) (fun h3 => (gh_GR h3 x1 [(12, 3)] (fun x4 => ((x4 = none → wb_J6_rotateRight_32 κ Q X v0 v1 x1 h3) ∧ (¬ x4 = none → (gh_GR h3 x1 [(12, 3)] (fun x5 => (gh_PV h3 x5 [(12, 4)] (va_rf v1) (fun h6 => wb_J6_rotateRight_32 κ Q X v0 v1 x1 h6))))))))))))))))
set_option maxHeartbeats 4000000 in
theorem wk_J6_rotateRight_95 {D : gh_D} {p : Program} {l : Launch} {e : Env} {s : State} {m : MethodId} {args : Array Value} {below : List Frame} {meth : Method} {c : Code} {h0 : gh_H} (M : gh_M D p l s m args meth c RJ6 cJ6_rotateRight 3 (gh_A h0 s.heap.size)) (hr : meth.sig.returnType = none) (hex : ∀ x ∈ c.exceptionTable.toList, False)   {Q : gh_H → Prop} {X : String → gh_H → Prop}    (H : Heap) (locs : List Loc) (ls : Array Slot) (h : gh_H) (G : gh_Inv D h0 (gh_A h0 s.heap.size) s.heap s H locs h) (hl : gh_L ls 3 []) (hw : wb_J6_rotateRight_95 D.2.2 Q X h) : W p l e rm_J6_rotateRight s m args below meth c H locs 0 0 (vx_MQ below (gh_Qv Q D h0 s.heap.size) (gh_X X D h0 s.heap.size) args s 0 0 (gh_A h0 s.heap.size)) (F0 m 95 ls []) := by
  unfold wb_J6_rotateRight_95 at hw
  have hx := M.1.1
  have hb := M.1.2.1
  exact gh_vret M G hr hw (by exact Nat.le_of_ble_eq_true rfl) (by exact Nat.le_of_ble_eq_true rfl) dJ6_rotateRight_95
set_option maxHeartbeats 4000000 in
theorem wk_J6_rotateRight_85 {D : gh_D} {p : Program} {l : Launch} {e : Env} {s : State} {m : MethodId} {args : Array Value} {below : List Frame} {meth : Method} {c : Code} {h0 : gh_H} (M : gh_M D p l s m args meth c RJ6 cJ6_rotateRight 3 (gh_A h0 s.heap.size)) (hr : meth.sig.returnType = none) (hex : ∀ x ∈ c.exceptionTable.toList, False)   {Q : gh_H → Prop} {X : String → gh_H → Prop}   (v1 : Option Nat) (v2 : Option Nat) (H : Heap) (locs : List Loc) (ls : Array Slot) (h : gh_H) (G : gh_Inv D h0 (gh_A h0 s.heap.size) s.heap s H locs h) (hl : gh_L ls 3 [(1, 1, va_rf v1), (2, 1, va_rf v2)]) (hw : wb_J6_rotateRight_85 D.2.2 Q X v1 v2 h) : W p l e rm_J6_rotateRight s m args below meth c H locs 0 0 (vx_MQ below (gh_Qv Q D h0 s.heap.size) (gh_X X D h0 s.heap.size) args s 0 0 (gh_A h0 s.heap.size)) (F0 m 85 ls []) := by
  unfold wb_J6_rotateRight_85 at hw
  have hx := M.1.1
  have hb := M.1.2.1
  refine gh_aload_n hx hb dJ6_rotateRight_85 rfl (gh_at hl 1 rfl) ?_
  refine gh_aload_n hx hb dJ6_rotateRight_86 rfl (gh_at hl 0 rfl) ?_
  refine gh_put M G hw fp_J6_114 (gh_narR _ _) (gh_fitR _ _) dJ6_rotateRight_87 (fun h1 H locs hw G => ?_)
  refine gh_aload_n hx hb dJ6_rotateRight_90 rfl (gh_at hl 0 rfl) ?_
  refine gh_aload_n hx hb dJ6_rotateRight_91 rfl (gh_at hl 1 rfl) ?_
  refine gh_put M G hw fp_J6_124 (gh_narR _ _) (gh_fitR _ _) dJ6_rotateRight_92 (fun h2 H locs hw G => ?_)
  exact wk_J6_rotateRight_95 M hr hex   _ _ _ _ G (gh_sub hl [] rfl) hw
set_option maxHeartbeats 4000000 in
theorem wk_J6_rotateRight_32 {D : gh_D} {p : Program} {l : Launch} {e : Env} {s : State} {m : MethodId} {args : Array Value} {below : List Frame} {meth : Method} {c : Code} {h0 : gh_H} (M : gh_M D p l s m args meth c RJ6 cJ6_rotateRight 3 (gh_A h0 s.heap.size)) (hr : meth.sig.returnType = none) (hex : ∀ x ∈ c.exceptionTable.toList, False)   {Q : gh_H → Prop} {X : String → gh_H → Prop}   (v0 : Nat) (v1 : Option Nat) (v2 : Option Nat) (H : Heap) (locs : List Loc) (ls : Array Slot) (h : gh_H) (G : gh_Inv D h0 (gh_A h0 s.heap.size) s.heap s H locs h) (hl : gh_L ls 3 [(0, 1, va_rf (some v0)), (1, 1, va_rf v1), (2, 1, va_rf v2)]) (hw : wb_J6_rotateRight_32 D.2.2 Q X v0 v1 v2 h) : W p l e rm_J6_rotateRight s m args below meth c H locs 0 0 (vx_MQ below (gh_Qv Q D h0 s.heap.size) (gh_X X D h0 s.heap.size) args s 0 0 (gh_A h0 s.heap.size)) (F0 m 32 ls []) := by
  unfold wb_J6_rotateRight_32 at hw
  have hx := M.1.1
  have hb := M.1.2.1
  refine gh_aload_n hx hb dJ6_rotateRight_32 rfl (gh_at hl 2 rfl) ?_
  refine gh_aload_n hx hb dJ6_rotateRight_33 rfl (gh_at hl 1 rfl) ?_
  refine gh_getR M G hw fl_J6_124 dJ6_rotateRight_34 (fun x1 hw => ?_)
  refine gh_put M G hw fp_J6_124 (gh_narR _ _) (gh_fitR _ _) dJ6_rotateRight_37 (fun h2 H locs hw G => ?_)
  refine gh_aload_n hx hb dJ6_rotateRight_40 rfl (gh_at hl 1 rfl) ?_
  refine gh_getR M G hw fl_J6_124 dJ6_rotateRight_41 (fun x3 hw => ?_)
  refine gh_ifnonnull (tgt := 55) hx hb dJ6_rotateRight_44 (by decide) (fun hc => ?_) (fun hc => ?_)
  · replace hw := hw.2 hc
    refine gh_aload_n hx hb dJ6_rotateRight_55 rfl (gh_at hl 1 rfl) ?_
    refine gh_getR M G hw fl_J6_124 dJ6_rotateRight_56 (fun x4 hw => ?_)
    refine gh_getR M G hw fl_J6_114 dJ6_rotateRight_59 (fun x5 hw => ?_)
    refine gh_aload_n hx hb dJ6_rotateRight_62 rfl (gh_at hl 1 rfl) ?_
    refine lv_acmp_ne (rx := x5) (ry := v1) (tgt := 77) hx hb dJ6_rotateRight_63 (by decide) (fun hc => ?_) (fun hc => ?_)
    · replace hw := hw.2 hc
      refine gh_aload_n hx hb dJ6_rotateRight_77 rfl (gh_at hl 1 rfl) ?_
      refine gh_getR M G hw fl_J6_124 dJ6_rotateRight_78 (fun x6 hw => ?_)
      refine gh_aload_n hx hb dJ6_rotateRight_81 rfl (gh_at hl 2 rfl) ?_
      refine gh_put M G hw fp_J6_111 (gh_narR _ _) (gh_fitR _ _) dJ6_rotateRight_82 (fun h7 H locs hw G => ?_)
      exact wk_J6_rotateRight_85 M hr hex  v1 v2 _ _ _ _ G (gh_sub hl [1, 2] rfl) hw
    · replace hw := hw.1 hc
      refine gh_aload_n hx hb dJ6_rotateRight_66 rfl (gh_at hl 1 rfl) ?_
      refine gh_getR M G hw fl_J6_124 dJ6_rotateRight_67 (fun x8 hw => ?_)
      refine gh_aload_n hx hb dJ6_rotateRight_70 rfl (gh_at hl 2 rfl) ?_
      refine gh_put M G hw fp_J6_114 (gh_narR _ _) (gh_fitR _ _) dJ6_rotateRight_71 (fun h9 H locs hw G => ?_)
      refine lv_goto (tgt := 85) hx hb dJ6_rotateRight_74 (by decide) ?_
      exact wk_J6_rotateRight_85 M hr hex  v1 v2 _ _ _ _ G (gh_sub hl [1, 2] rfl) hw
  · replace hw := hw.1 hc
    refine gh_aload_n hx hb dJ6_rotateRight_47 rfl (gh_at hl 0 rfl) ?_
    refine gh_aload_n hx hb dJ6_rotateRight_48 rfl (gh_at hl 2 rfl) ?_
    refine gh_put M G hw fp_J6_101 (gh_narR _ _) (gh_fitR _ _) dJ6_rotateRight_49 (fun h10 H locs hw G => ?_)
    refine lv_goto (tgt := 85) hx hb dJ6_rotateRight_52 (by decide) ?_
    exact wk_J6_rotateRight_85 M hr hex  v1 v2 _ _ _ _ G (gh_sub hl [1, 2] rfl) hw
set_option maxHeartbeats 4000000 in
theorem met_J6_rotateRight (l : Launch) (D : gh_D) (v0 : Nat) (v1 : Option Nat) (Q : gh_H → Prop) (X : String → gh_H → Prop) (h : gh_H) (sz : Nat) (hw : wp_J6_rotateRight D.2.2 v0 v1 Q X h) (hst : l.stackTraces = false) : vx_Met l yJ6_rotateRight (ws_ yJ6_rotateRight cJ6_rotateRight 3 none) rm_J6_rotateRight (gh_Pc D h sz [.ref v0, va_rf v1]) (gh_Qv Q D h sz) (gh_X X D h sz) 0 0 (gh_A h sz) := by
  refine vx_ofW (by decide) rfl (fun p e s m args below meth c s₁ B hml hex hP => ?_)
  obtain ⟨rfl, rfl, hK, hT, hE, G⟩ := gh_start hP
  have M : gh_M D p l s m _ meth c RJ6 cJ6_rotateRight 3 (gh_A h s.heap.size) := ⟨⟨B.exec, B.bytes, hml, findClass_of_methodNamed B.named, fun w hw => atoms_spec (ws := ws_ yJ6_rotateRight cJ6_rotateRight 3 none) B.pre w (List.mem_cons_of_mem _ hw)⟩, hK, hT, hE, B.notSynchronized, hst⟩
  have hr := B.returns
  have hx := M.1.1
  have hb := M.1.2.1
  refine gh_enter (vs := [(1, .ref v0), (1, va_rf v1)]) (gh_w1 rfl (gh_w1 (gh_cat _) gh_wn)) (Nat.le_of_ble_eq_true rfl) (fun ls hl => ?_)
  replace hl : gh_L ls 3 [(0, 1, va_rf (some v0)), (1, 1, va_rf v1)] := hl
  unfold wp_J6_rotateRight at hw
  refine gh_aload_n hx hb dJ6_rotateRight_0 rfl (gh_at hl 1 rfl) ?_
  refine gh_ifnull (tgt := 95) hx hb dJ6_rotateRight_1 (by decide) (fun hc => ?_) (fun hc => ?_)
  · replace hw := hw.1 hc
    exact wk_J6_rotateRight_95 M hr hex   _ _ _ _ G (gh_sub hl [] rfl) hw
  · replace hw := hw.2 hc
    refine gh_aload_n hx hb dJ6_rotateRight_4 rfl (gh_at hl 1 rfl) ?_
    refine gh_getR M G hw fl_J6_111 dJ6_rotateRight_5 (fun x1 hw => ?_)
    refine gh_astore_n (lv' := [(2, 1, va_rf x1), (0, 1, va_rf (some v0)), (1, 1, va_rf v1)]) hx hb dJ6_rotateRight_8 rfl hl (by decide) rfl (fun ls hl => ?_)
    refine gh_aload_n hx hb dJ6_rotateRight_9 rfl (gh_at hl 2 rfl) ?_
    refine gh_aload_n hx hb dJ6_rotateRight_10 rfl (gh_at hl 0 rfl) ?_
    refine gh_getR M G hw fl_J6_114 dJ6_rotateRight_11 (fun x2 hw => ?_)
    refine gh_put M G hw fp_J6_111 (gh_narR _ _) (gh_fitR _ _) dJ6_rotateRight_14 (fun h3 H locs hw G => ?_)
    refine gh_aload_n hx hb dJ6_rotateRight_17 rfl (gh_at hl 0 rfl) ?_
    refine gh_getR M G hw fl_J6_114 dJ6_rotateRight_18 (fun x4 hw => ?_)
    refine gh_ifnull (tgt := 32) hx hb dJ6_rotateRight_21 (by decide) (fun hc => ?_) (fun hc => ?_)
    · replace hw := hw.1 hc
      exact wk_J6_rotateRight_32 M hr hex  v0 v1 x1 _ _ _ _ G (gh_sub hl [1, 2, 0] rfl) hw
    · replace hw := hw.2 hc
      refine gh_aload_n hx hb dJ6_rotateRight_24 rfl (gh_at hl 0 rfl) ?_
      refine gh_getR M G hw fl_J6_114 dJ6_rotateRight_25 (fun x5 hw => ?_)
      refine gh_aload_n hx hb dJ6_rotateRight_28 rfl (gh_at hl 2 rfl) ?_
      refine gh_put M G hw fp_J6_124 (gh_narR _ _) (gh_fitR _ _) dJ6_rotateRight_29 (fun h6 H locs hw G => ?_)
      exact wk_J6_rotateRight_32 M hr hex  v0 v1 x1 _ _ _ _ G (gh_sub hl [1, 2, 0] rfl) hw
/-! java/util/TreeMap.fixAfterInsertion (Ljava/util/TreeMap$Entry;)V -/
def rm_J6_fixAfterInsertion : Room := { frames := 2, cells := 0, slots := 0, locals := 62 }
def wb_J6_fixAfterInsertion_258 (κ : Nat → Nat)  (Q : gh_H → Prop) (X : String → gh_H → Prop) (v0 : Nat) (h : gh_H) : Prop := (gh_GR h (some v0) [(11, 3)] (fun x1 => ((narrow .boolean (.int (1 : Int32)) = .int (1 : Int32) ∧ fits .boolean (.int (1 : Int32)) = true) ∧ (gh_PV h x1 [(12, 5)] (.int (1 : Int32)) (fun h2 => (Q h2))))))
def wb_J6_fixAfterInsertion_255 (κ : Nat → Nat) (K5 : Nat → Option Nat → gh_H → Prop) (Q : gh_H → Prop) (X : String → gh_H → Prop) (v0 : Nat) (v1 : Option Nat) (h : gh_H) : Prop := K5 v0 v1 h
def wb_J6_fixAfterInsertion_225 (κ : Nat → Nat) (K5 : Nat → Option Nat → gh_H → Prop) (Q : gh_H → Prop) (X : String → gh_H → Prop) (v0 : Nat) (v1 : Option Nat) (h : gh_H) : Prop := (wp_J6_parentOf κ v1 (fun r1 h2 => (wp_J6_setColor κ r1 (1 : Int32) (fun h3 => (wp_J6_parentOf κ v1 (fun r4 h5 => (wp_J6_parentOf κ r4 (fun r6 h7 => (wp_J6_setColor κ r6 (0 : Int32) (fun h8 => (wp_J6_parentOf κ v1 (fun r9 h10 => (wp_J6_parentOf κ r9 (fun r11 h12 => (gh_RC h12 (some v0) 11 (fun _ => (wp_J6_rotateLeft κ v0 r11 (fun h14 => wb_J6_fixAfterInsertion_255 κ K5 Q X v0 v1 h14) X h12)))) X h10)) X h8)) X h7)) X h5)) X h3)) X h2)) X h)
def wb_J6_fixAfterInsertion_148 (κ : Nat → Nat) (K5 : Nat → Option Nat → gh_H → Prop) (Q : gh_H → Prop) (X : String → gh_H → Prop) (v0 : Nat) (v1 : Option Nat) (h : gh_H) : Prop := K5 v0 v1 h
def wb_J6_fixAfterInsertion_118 (κ : Nat → Nat) (K5 : Nat → Option Nat → gh_H → Prop) (Q : gh_H → Prop) (X : String → gh_H → Prop) (v0 : Nat) (v1 : Option Nat) (h : gh_H) : Prop := (wp_J6_parentOf κ v1 (fun r1 h2 => (wp_J6_setColor κ r1 (1 : Int32) (fun h3 => (wp_J6_parentOf κ v1 (fun r4 h5 => (wp_J6_parentOf κ r4 (fun r6 h7 => (wp_J6_setColor κ r6 (0 : Int32) (fun h8 => (wp_J6_parentOf κ v1 (fun r9 h10 => (wp_J6_parentOf κ r9 (fun r11 h12 => (gh_RC h12 (some v0) 11 (fun _ => (wp_J6_rotateRight κ v0 r11 (fun h14 => wb_J6_fixAfterInsertion_148 κ K5 Q X v0 v1 h14) X h12)))) X h10)) X h8)) X h7)) X h5)) X h3)) X h2)) X h)
def wb_J6_fixAfterInsertion_5 (κ : Nat → Nat) (K5 : Nat → Option Nat → gh_H → Prop) (Q : gh_H → Prop) (X : String → gh_H → Prop) (v0 : Nat) (v1 : Option Nat) (h : gh_H) : Prop := ((v1 = none → wb_J6_fixAfterInsertion_258 κ Q X v0 h) ∧ (¬ v1 = none → (gh_GR h (some v0) [(11, 3)] (fun x1 => ((v1 = x1 → wb_J6_fixAfterInsertion_258 κ Q X v0 h) ∧ (¬ v1 = x1 → (gh_GR h v1 [(12, 4)] (fun x2 => (gh_GI h x2 [(12, 5)] (fun x3 => ((x3 = 0 → (wp_J6_parentOf κ v1 (fun r4 h5 => (wp_J6_parentOf κ v1 (fun r6 h7 => (wp_J6_parentOf κ r6 (fun r8 h9 => (wp_J6_leftOf κ r8 (fun r10 h11 => ((r4 = r10 → (wp_J6_parentOf κ v1 (fun r41 h42 => (wp_J6_parentOf κ r41 (fun r43 h44 => (wp_J6_rightOf κ r43 (fun r45 h46 => (wp_J6_colorOf κ r45 (fun r47 h48 => ((r47 = 0 → (wp_J6_parentOf κ v1 (fun r57 h58 => (wp_J6_setColor κ r57 (1 : Int32) (fun h59 => (wp_J6_setColor κ r45 (1 : Int32) (fun h60 => (wp_J6_parentOf κ v1 (fun r61 h62 => (wp_J6_parentOf κ r61 (fun r63 h64 => (wp_J6_setColor κ r63 (0 : Int32) (fun h65 => (wp_J6_parentOf κ v1 (fun r66 h67 => (wp_J6_parentOf κ r66 (fun r68 h69 => wb_J6_fixAfterInsertion_148 κ K5 Q X v0 r68 h69) X h67)) X h65)) X h64)) X h62)) X h60)) X h59)) X h58)) X h48)) ∧ (¬ r47 = 0 → (wp_J6_parentOf κ v1 (fun r49 h50 => (wp_J6_rightOf κ r49 (fun r51 h52 => ((v1 = r51 → (wp_J6_parentOf κ v1 (fun r53 h54 => (gh_RC h54 (some v0) 11 (fun _ => (wp_J6_rotateLeft κ v0 r53 (fun h56 => wb_J6_fixAfterInsertion_118 κ K5 Q X v0 r53 h56) X h54)))) X h52)) ∧ (¬ v1 = r51 → wb_J6_fixAfterInsertion_118 κ K5 Q X v0 v1 h52))) X h50)) X h48)))) X h46)) X h44)) X h42)) X h11)) ∧ (¬ r4 = r10 → (wp_J6_parentOf κ v1 (fun r12 h13 => (wp_J6_parentOf κ r12 (fun r14 h15 => (wp_J6_leftOf κ r14 (fun r16 h17 => (wp_J6_colorOf κ r16 (fun r18 h19 => ((r18 = 0 → (wp_J6_parentOf κ v1 (fun r28 h29 => (wp_J6_setColor κ r28 (1 : Int32) (fun h30 => (wp_J6_setColor κ r16 (1 : Int32) (fun h31 => (wp_J6_parentOf κ v1 (fun r32 h33 => (wp_J6_parentOf κ r32 (fun r34 h35 => (wp_J6_setColor κ r34 (0 : Int32) (fun h36 => (wp_J6_parentOf κ v1 (fun r37 h38 => (wp_J6_parentOf κ r37 (fun r39 h40 => wb_J6_fixAfterInsertion_255 κ K5 Q X v0 r39 h40) X h38)) X h36)) X h35)) X h33)) X h31)) X h30)) X h29)) X h19)) ∧ (¬ r18 = 0 → (wp_J6_parentOf κ v1 (fun r20 h21 => (wp_J6_leftOf κ r20 (fun r22 h23 => ((v1 = r22 → (wp_J6_parentOf κ v1 (fun r24 h25 => (gh_RC h25 (some v0) 11 (fun _ => (wp_J6_rotateRight κ v0 r24 (fun h27 => wb_J6_fixAfterInsertion_225 κ K5 Q X v0 r24 h27) X h25)))) X h23)) ∧ (¬ v1 = r22 → wb_J6_fixAfterInsertion_225 κ K5 Q X v0 v1 h23))) X h21)) X h19)))) X h17)) X h15)) X h13)) X h11)))) X h9)) X h7)) X h5)) X h)) ∧ (¬ x3 = 0 → wb_J6_fixAfterInsertion_258 κ Q X v0 h))))))))))))
def wl_J6_fixAfterInsertion_5 (κ : Nat → Nat)  (Q : gh_H → Prop) (X : String → gh_H → Prop) : Nat → Nat → Option Nat → gh_H → Prop
  | 0 => fun _ _ _ => False
  | n + 1 => fun v0 v1 h => wb_J6_fixAfterInsertion_5 κ (wl_J6_fixAfterInsertion_5 κ Q X n) Q X v0 v1 h
def wp_J6_fixAfterInsertion (κ : Nat → Nat) (v0 : Nat) (v1 : Option Nat) (Q : gh_H → Prop) (X : String → gh_H → Prop) (h : gh_H) : Prop := ((narrow .boolean (.int (0 : Int32)) = .int (0 : Int32) ∧ fits .boolean (.int (0 : Int32)) = true) ∧ (gh_PV h v1 [(12, 5)] (.int (0 : Int32)) (fun h1 => (∃ n : Nat, wl_J6_fixAfterInsertion_5 κ Q X n v0 v1 h1))))
set_option maxHeartbeats 4000000 in
theorem wk_J6_fixAfterInsertion_258 {D : gh_D} {p : Program} {l : Launch} {e : Env} {s : State} {m : MethodId} {args : Array Value} {below : List Frame} {meth : Method} {c : Code} {h0 : gh_H} (M : gh_M D p l s m args meth c RJ6 cJ6_fixAfterInsertion 3 (gh_A h0 s.heap.size)) (hr : meth.sig.returnType = none) (hex : ∀ x ∈ c.exceptionTable.toList, False)   {Q : gh_H → Prop} {X : String → gh_H → Prop}   (v0 : Nat) (H : Heap) (locs : List Loc) (ls : Array Slot) (h : gh_H) (G : gh_Inv D h0 (gh_A h0 s.heap.size) s.heap s H locs h) (hl : gh_L ls 3 [(0, 1, va_rf (some v0))]) (hw : wb_J6_fixAfterInsertion_258 D.2.2 Q X v0 h) : W p l e rm_J6_fixAfterInsertion s m args below meth c H locs 0 0 (vx_MQ below (gh_Qv Q D h0 s.heap.size) (gh_X X D h0 s.heap.size) args s 0 0 (gh_A h0 s.heap.size)) (F0 m 258 ls []) := by
  unfold wb_J6_fixAfterInsertion_258 at hw
  have hx := M.1.1
  have hb := M.1.2.1
  refine gh_aload_n hx hb dJ6_fixAfterInsertion_258 rfl (gh_at hl 0 rfl) ?_
  refine gh_getR M G hw fl_J6_101 dJ6_fixAfterInsertion_259 (fun x1 hw => ?_)
  refine lv_iconst (v := (1 : Int32)) hx hb dJ6_fixAfterInsertion_262 (by decide) ?_
  obtain ⟨hn, hw⟩ := hw
  refine gh_put M G hw fp_J6_290 hn.1 hn.2 dJ6_fixAfterInsertion_263 (fun h2 H locs hw G => ?_)
  exact gh_vret M G hr hw (by exact Nat.le_of_ble_eq_true rfl) (by exact Nat.le_of_ble_eq_true rfl) dJ6_fixAfterInsertion_266
set_option maxHeartbeats 4000000 in
theorem wk_J6_fixAfterInsertion_255 {D : gh_D} {p : Program} {l : Launch} {e : Env} {s : State} {m : MethodId} {args : Array Value} {below : List Frame} {meth : Method} {c : Code} {h0 : gh_H} (M : gh_M D p l s m args meth c RJ6 cJ6_fixAfterInsertion 3 (gh_A h0 s.heap.size)) (hr : meth.sig.returnType = none) (hex : ∀ x ∈ c.exceptionTable.toList, False) {K5 : Nat → Option Nat → gh_H → Prop}  {Q : gh_H → Prop} {X : String → gh_H → Prop} (k5 : ∀ (v0 : Nat) (v1 : Option Nat) (H : Heap) (locs : List Loc) (ls : Array Slot) (h : gh_H) (_ : gh_Inv D h0 (gh_A h0 s.heap.size) s.heap s H locs h) (_ : gh_L ls 3 [(0, 1, va_rf (some v0)), (1, 1, va_rf v1)]) (_ : K5 v0 v1 h), W p l e rm_J6_fixAfterInsertion s m args below meth c H locs 0 0 (vx_MQ below (gh_Qv Q D h0 s.heap.size) (gh_X X D h0 s.heap.size) args s 0 0 (gh_A h0 s.heap.size)) (F0 m 5 ls []))  (v0 : Nat) (v1 : Option Nat) (H : Heap) (locs : List Loc) (ls : Array Slot) (h : gh_H) (G : gh_Inv D h0 (gh_A h0 s.heap.size) s.heap s H locs h) (hl : gh_L ls 3 [(0, 1, va_rf (some v0)), (1, 1, va_rf v1)]) (hw : wb_J6_fixAfterInsertion_255 D.2.2 K5 Q X v0 v1 h) : W p l e rm_J6_fixAfterInsertion s m args below meth c H locs 0 0 (vx_MQ below (gh_Qv Q D h0 s.heap.size) (gh_X X D h0 s.heap.size) args s 0 0 (gh_A h0 s.heap.size)) (F0 m 255 ls []) := by
  unfold wb_J6_fixAfterInsertion_255 at hw
  have hx := M.1.1
  have hb := M.1.2.1
  refine lv_goto (tgt := 5) hx hb dJ6_fixAfterInsertion_255 (by decide) ?_
  exact k5 v0 v1 _ _ _ _ G (gh_sub hl [0, 1] rfl) hw
set_option maxHeartbeats 4000000 in
theorem wk_J6_fixAfterInsertion_225 {D : gh_D} {p : Program} {l : Launch} {e : Env} {s : State} {m : MethodId} {args : Array Value} {below : List Frame} {meth : Method} {c : Code} {h0 : gh_H} (M : gh_M D p l s m args meth c RJ6 cJ6_fixAfterInsertion 3 (gh_A h0 s.heap.size)) (hr : meth.sig.returnType = none) (hex : ∀ x ∈ c.exceptionTable.toList, False) {K5 : Nat → Option Nat → gh_H → Prop}  {Q : gh_H → Prop} {X : String → gh_H → Prop} (k5 : ∀ (v0 : Nat) (v1 : Option Nat) (H : Heap) (locs : List Loc) (ls : Array Slot) (h : gh_H) (_ : gh_Inv D h0 (gh_A h0 s.heap.size) s.heap s H locs h) (_ : gh_L ls 3 [(0, 1, va_rf (some v0)), (1, 1, va_rf v1)]) (_ : K5 v0 v1 h), W p l e rm_J6_fixAfterInsertion s m args below meth c H locs 0 0 (vx_MQ below (gh_Qv Q D h0 s.heap.size) (gh_X X D h0 s.heap.size) args s 0 0 (gh_A h0 s.heap.size)) (F0 m 5 ls []))  (v0 : Nat) (v1 : Option Nat) (H : Heap) (locs : List Loc) (ls : Array Slot) (h : gh_H) (G : gh_Inv D h0 (gh_A h0 s.heap.size) s.heap s H locs h) (hl : gh_L ls 3 [(0, 1, va_rf (some v0)), (1, 1, va_rf v1)]) (hw : wb_J6_fixAfterInsertion_225 D.2.2 K5 Q X v0 v1 h) : W p l e rm_J6_fixAfterInsertion s m args below meth c H locs 0 0 (vx_MQ below (gh_Qv Q D h0 s.heap.size) (gh_X X D h0 s.heap.size) args s 0 0 (gh_A h0 s.heap.size)) (F0 m 225 ls []) := by
  unfold wb_J6_fixAfterInsertion_225 at hw
  have hx := M.1.1
  have hb := M.1.2.1
  refine gh_aload_n hx hb dJ6_fixAfterInsertion_225 rfl (gh_at hl 1 rfl) ?_
  refine gh_kq G (vx_runS M.1 (met_J6_parentOf l D _ _ _ _ _ hw M.2.2.2.2.2) (va_cwS 1 (gh_Mts M) (lw_S q1046 q1047 q48 q1048) rfl rfl rfl ⟨by decide, by decide, rfl⟩ ⟨Nat.le_of_ble_eq_true rfl, Nat.le_of_ble_eq_true rfl⟩) (gh_pre M G (As := [va_rf v1])) rfl rfl hl.1.1 rfl (lv_room (Nat.le_of_ble_eq_true rfl)) dJ6_fixAfterInsertion_226 ⟨(Nat.le_of_ble_eq_true rfl), (Nat.le_of_ble_eq_true rfl)⟩) (gh_out M hex (by exact Nat.le_of_ble_eq_true rfl) (by exact Nat.le_of_ble_eq_true rfl)) (fun r1 h2 H locs hw G => ?_)
  refine lv_iconst (v := (1 : Int32)) hx hb dJ6_fixAfterInsertion_229 (by decide) ?_
  refine gh_kv G (vx_runS M.1 (met_J6_setColor l D _ _ _ _ _ _ hw M.2.2.2.2.2) (va_cwS 2 (gh_Mts M) (lw_S q1058 q1059 q48 q1060) rfl rfl rfl ⟨by decide, by decide, rfl⟩ ⟨Nat.le_of_ble_eq_true rfl, Nat.le_of_ble_eq_true rfl⟩) (gh_pre M G (As := [va_rf r1, .int (1 : Int32)])) rfl rfl hl.1.1 rfl (lv_room (Nat.le_of_ble_eq_true rfl)) dJ6_fixAfterInsertion_230 ⟨(Nat.le_of_ble_eq_true rfl), (Nat.le_of_ble_eq_true rfl)⟩) (gh_out M hex (by exact Nat.le_of_ble_eq_true rfl) (by exact Nat.le_of_ble_eq_true rfl)) (fun h3 H locs hw G => ?_)
  refine gh_aload_n hx hb dJ6_fixAfterInsertion_233 rfl (gh_at hl 1 rfl) ?_
  refine gh_kq G (vx_runS M.1 (met_J6_parentOf l D _ _ _ _ _ hw M.2.2.2.2.2) (va_cwS 1 (gh_Mts M) (lw_S q1046 q1047 q48 q1048) rfl rfl rfl ⟨by decide, by decide, rfl⟩ ⟨Nat.le_of_ble_eq_true rfl, Nat.le_of_ble_eq_true rfl⟩) (gh_pre M G (As := [va_rf v1])) rfl rfl hl.1.1 rfl (lv_room (Nat.le_of_ble_eq_true rfl)) dJ6_fixAfterInsertion_234 ⟨(Nat.le_of_ble_eq_true rfl), (Nat.le_of_ble_eq_true rfl)⟩) (gh_out M hex (by exact Nat.le_of_ble_eq_true rfl) (by exact Nat.le_of_ble_eq_true rfl)) (fun r4 h5 H locs hw G => ?_)
  refine gh_kq G (vx_runS M.1 (met_J6_parentOf l D _ _ _ _ _ hw M.2.2.2.2.2) (va_cwS 1 (gh_Mts M) (lw_S q1046 q1047 q48 q1048) rfl rfl rfl ⟨by decide, by decide, rfl⟩ ⟨Nat.le_of_ble_eq_true rfl, Nat.le_of_ble_eq_true rfl⟩) (gh_pre M G (As := [va_rf r4])) rfl rfl hl.1.1 rfl (lv_room (Nat.le_of_ble_eq_true rfl)) dJ6_fixAfterInsertion_237 ⟨(Nat.le_of_ble_eq_true rfl), (Nat.le_of_ble_eq_true rfl)⟩) (gh_out M hex (by exact Nat.le_of_ble_eq_true rfl) (by exact Nat.le_of_ble_eq_true rfl)) (fun r6 h7 H locs hw G => ?_)
  refine lv_iconst (v := (0 : Int32)) hx hb dJ6_fixAfterInsertion_240 (by decide) ?_
  refine gh_kv G (vx_runS M.1 (met_J6_setColor l D _ _ _ _ _ _ hw M.2.2.2.2.2) (va_cwS 2 (gh_Mts M) (lw_S q1058 q1059 q48 q1060) rfl rfl rfl ⟨by decide, by decide, rfl⟩ ⟨Nat.le_of_ble_eq_true rfl, Nat.le_of_ble_eq_true rfl⟩) (gh_pre M G (As := [va_rf r6, .int (0 : Int32)])) rfl rfl hl.1.1 rfl (lv_room (Nat.le_of_ble_eq_true rfl)) dJ6_fixAfterInsertion_241 ⟨(Nat.le_of_ble_eq_true rfl), (Nat.le_of_ble_eq_true rfl)⟩) (gh_out M hex (by exact Nat.le_of_ble_eq_true rfl) (by exact Nat.le_of_ble_eq_true rfl)) (fun h8 H locs hw G => ?_)
  refine gh_aload_n hx hb dJ6_fixAfterInsertion_244 rfl (gh_at hl 0 rfl) ?_
  refine gh_aload_n hx hb dJ6_fixAfterInsertion_245 rfl (gh_at hl 1 rfl) ?_
  refine gh_kq G (vx_runS M.1 (met_J6_parentOf l D _ _ _ _ _ hw M.2.2.2.2.2) (va_cwS 1 (gh_Mts M) (lw_S q1046 q1047 q48 q1048) rfl rfl rfl ⟨by decide, by decide, rfl⟩ ⟨Nat.le_of_ble_eq_true rfl, Nat.le_of_ble_eq_true rfl⟩) (gh_pre M G (As := [va_rf v1])) rfl rfl hl.1.1 rfl (lv_room (Nat.le_trans (gh_r1 (gh_cat _) gh_r0) (Nat.le_of_ble_eq_true rfl : 1 ≤ 8))) dJ6_fixAfterInsertion_246 ⟨(Nat.le_of_ble_eq_true rfl), (Nat.le_of_ble_eq_true rfl)⟩) (gh_out M hex (by exact Nat.le_of_ble_eq_true rfl) (by exact Nat.le_of_ble_eq_true rfl)) (fun r9 h10 H locs hw G => ?_)
  refine gh_kq G (vx_runS M.1 (met_J6_parentOf l D _ _ _ _ _ hw M.2.2.2.2.2) (va_cwS 1 (gh_Mts M) (lw_S q1046 q1047 q48 q1048) rfl rfl rfl ⟨by decide, by decide, rfl⟩ ⟨Nat.le_of_ble_eq_true rfl, Nat.le_of_ble_eq_true rfl⟩) (gh_pre M G (As := [va_rf r9])) rfl rfl hl.1.1 rfl (lv_room (Nat.le_trans (gh_r1 (gh_cat _) gh_r0) (Nat.le_of_ble_eq_true rfl : 1 ≤ 8))) dJ6_fixAfterInsertion_249 ⟨(Nat.le_of_ble_eq_true rfl), (Nat.le_of_ble_eq_true rfl)⟩) (gh_out M hex (by exact Nat.le_of_ble_eq_true rfl) (by exact Nat.le_of_ble_eq_true rfl)) (fun r11 h12 H locs hw G => ?_)
  obtain ⟨a13, lba13, fsa13, hra13, haa13, hw⟩ := hw
  rw [← Option.some.inj hra13] at haa13
  refine gh_kv G (vx_runV M.1 (met_J6_rotateLeft l D _ _ _ _ _ _ hw M.2.2.2.2.2) (cwV 1 (gh_Mts M) (lw_V q1061 q1063 qs13 q48 q1064) rfl rfl rfl ⟨rfl, by decide, by decide, rfl⟩ ⟨Nat.le_of_ble_eq_true rfl, Nat.le_of_ble_eq_true rfl⟩) (gh_preV (As := [va_rf r11]) M G (gh_rec M G haa13 rfl)) rfl rfl hl.1.1 rfl (lv_room (Nat.le_of_ble_eq_true rfl)) dJ6_fixAfterInsertion_252 ⟨(Nat.le_of_ble_eq_true rfl), (Nat.le_of_ble_eq_true rfl)⟩) (gh_out M hex (by exact Nat.le_of_ble_eq_true rfl) (by exact Nat.le_of_ble_eq_true rfl)) (fun h14 H locs hw G => ?_)
  exact wk_J6_fixAfterInsertion_255 M hr hex k5 v0 v1 _ _ _ _ G (gh_sub hl [0, 1] rfl) hw
set_option maxHeartbeats 4000000 in
theorem wk_J6_fixAfterInsertion_148 {D : gh_D} {p : Program} {l : Launch} {e : Env} {s : State} {m : MethodId} {args : Array Value} {below : List Frame} {meth : Method} {c : Code} {h0 : gh_H} (M : gh_M D p l s m args meth c RJ6 cJ6_fixAfterInsertion 3 (gh_A h0 s.heap.size)) (hr : meth.sig.returnType = none) (hex : ∀ x ∈ c.exceptionTable.toList, False) {K5 : Nat → Option Nat → gh_H → Prop}  {Q : gh_H → Prop} {X : String → gh_H → Prop} (k5 : ∀ (v0 : Nat) (v1 : Option Nat) (H : Heap) (locs : List Loc) (ls : Array Slot) (h : gh_H) (_ : gh_Inv D h0 (gh_A h0 s.heap.size) s.heap s H locs h) (_ : gh_L ls 3 [(0, 1, va_rf (some v0)), (1, 1, va_rf v1)]) (_ : K5 v0 v1 h), W p l e rm_J6_fixAfterInsertion s m args below meth c H locs 0 0 (vx_MQ below (gh_Qv Q D h0 s.heap.size) (gh_X X D h0 s.heap.size) args s 0 0 (gh_A h0 s.heap.size)) (F0 m 5 ls []))  (v0 : Nat) (v1 : Option Nat) (H : Heap) (locs : List Loc) (ls : Array Slot) (h : gh_H) (G : gh_Inv D h0 (gh_A h0 s.heap.size) s.heap s H locs h) (hl : gh_L ls 3 [(0, 1, va_rf (some v0)), (1, 1, va_rf v1)]) (hw : wb_J6_fixAfterInsertion_148 D.2.2 K5 Q X v0 v1 h) : W p l e rm_J6_fixAfterInsertion s m args below meth c H locs 0 0 (vx_MQ below (gh_Qv Q D h0 s.heap.size) (gh_X X D h0 s.heap.size) args s 0 0 (gh_A h0 s.heap.size)) (F0 m 148 ls []) := by
  unfold wb_J6_fixAfterInsertion_148 at hw
  have hx := M.1.1
  have hb := M.1.2.1
  refine lv_goto (tgt := 5) hx hb dJ6_fixAfterInsertion_148 (by decide) ?_
  exact k5 v0 v1 _ _ _ _ G (gh_sub hl [0, 1] rfl) hw
set_option maxHeartbeats 4000000 in
theorem wk_J6_fixAfterInsertion_118 {D : gh_D} {p : Program} {l : Launch} {e : Env} {s : State} {m : MethodId} {args : Array Value} {below : List Frame} {meth : Method} {c : Code} {h0 : gh_H} (M : gh_M D p l s m args meth c RJ6 cJ6_fixAfterInsertion 3 (gh_A h0 s.heap.size)) (hr : meth.sig.returnType = none) (hex : ∀ x ∈ c.exceptionTable.toList, False) {K5 : Nat → Option Nat → gh_H → Prop}  {Q : gh_H → Prop} {X : String → gh_H → Prop} (k5 : ∀ (v0 : Nat) (v1 : Option Nat) (H : Heap) (locs : List Loc) (ls : Array Slot) (h : gh_H) (_ : gh_Inv D h0 (gh_A h0 s.heap.size) s.heap s H locs h) (_ : gh_L ls 3 [(0, 1, va_rf (some v0)), (1, 1, va_rf v1)]) (_ : K5 v0 v1 h), W p l e rm_J6_fixAfterInsertion s m args below meth c H locs 0 0 (vx_MQ below (gh_Qv Q D h0 s.heap.size) (gh_X X D h0 s.heap.size) args s 0 0 (gh_A h0 s.heap.size)) (F0 m 5 ls []))  (v0 : Nat) (v1 : Option Nat) (H : Heap) (locs : List Loc) (ls : Array Slot) (h : gh_H) (G : gh_Inv D h0 (gh_A h0 s.heap.size) s.heap s H locs h) (hl : gh_L ls 3 [(0, 1, va_rf (some v0)), (1, 1, va_rf v1)]) (hw : wb_J6_fixAfterInsertion_118 D.2.2 K5 Q X v0 v1 h) : W p l e rm_J6_fixAfterInsertion s m args below meth c H locs 0 0 (vx_MQ below (gh_Qv Q D h0 s.heap.size) (gh_X X D h0 s.heap.size) args s 0 0 (gh_A h0 s.heap.size)) (F0 m 118 ls []) := by
  unfold wb_J6_fixAfterInsertion_118 at hw
  have hx := M.1.1
  have hb := M.1.2.1
  refine gh_aload_n hx hb dJ6_fixAfterInsertion_118 rfl (gh_at hl 1 rfl) ?_
  refine gh_kq G (vx_runS M.1 (met_J6_parentOf l D _ _ _ _ _ hw M.2.2.2.2.2) (va_cwS 1 (gh_Mts M) (lw_S q1046 q1047 q48 q1048) rfl rfl rfl ⟨by decide, by decide, rfl⟩ ⟨Nat.le_of_ble_eq_true rfl, Nat.le_of_ble_eq_true rfl⟩) (gh_pre M G (As := [va_rf v1])) rfl rfl hl.1.1 rfl (lv_room (Nat.le_of_ble_eq_true rfl)) dJ6_fixAfterInsertion_119 ⟨(Nat.le_of_ble_eq_true rfl), (Nat.le_of_ble_eq_true rfl)⟩) (gh_out M hex (by exact Nat.le_of_ble_eq_true rfl) (by exact Nat.le_of_ble_eq_true rfl)) (fun r1 h2 H locs hw G => ?_)
  refine lv_iconst (v := (1 : Int32)) hx hb dJ6_fixAfterInsertion_122 (by decide) ?_
  refine gh_kv G (vx_runS M.1 (met_J6_setColor l D _ _ _ _ _ _ hw M.2.2.2.2.2) (va_cwS 2 (gh_Mts M) (lw_S q1058 q1059 q48 q1060) rfl rfl rfl ⟨by decide, by decide, rfl⟩ ⟨Nat.le_of_ble_eq_true rfl, Nat.le_of_ble_eq_true rfl⟩) (gh_pre M G (As := [va_rf r1, .int (1 : Int32)])) rfl rfl hl.1.1 rfl (lv_room (Nat.le_of_ble_eq_true rfl)) dJ6_fixAfterInsertion_123 ⟨(Nat.le_of_ble_eq_true rfl), (Nat.le_of_ble_eq_true rfl)⟩) (gh_out M hex (by exact Nat.le_of_ble_eq_true rfl) (by exact Nat.le_of_ble_eq_true rfl)) (fun h3 H locs hw G => ?_)
  refine gh_aload_n hx hb dJ6_fixAfterInsertion_126 rfl (gh_at hl 1 rfl) ?_
  refine gh_kq G (vx_runS M.1 (met_J6_parentOf l D _ _ _ _ _ hw M.2.2.2.2.2) (va_cwS 1 (gh_Mts M) (lw_S q1046 q1047 q48 q1048) rfl rfl rfl ⟨by decide, by decide, rfl⟩ ⟨Nat.le_of_ble_eq_true rfl, Nat.le_of_ble_eq_true rfl⟩) (gh_pre M G (As := [va_rf v1])) rfl rfl hl.1.1 rfl (lv_room (Nat.le_of_ble_eq_true rfl)) dJ6_fixAfterInsertion_127 ⟨(Nat.le_of_ble_eq_true rfl), (Nat.le_of_ble_eq_true rfl)⟩) (gh_out M hex (by exact Nat.le_of_ble_eq_true rfl) (by exact Nat.le_of_ble_eq_true rfl)) (fun r4 h5 H locs hw G => ?_)
  refine gh_kq G (vx_runS M.1 (met_J6_parentOf l D _ _ _ _ _ hw M.2.2.2.2.2) (va_cwS 1 (gh_Mts M) (lw_S q1046 q1047 q48 q1048) rfl rfl rfl ⟨by decide, by decide, rfl⟩ ⟨Nat.le_of_ble_eq_true rfl, Nat.le_of_ble_eq_true rfl⟩) (gh_pre M G (As := [va_rf r4])) rfl rfl hl.1.1 rfl (lv_room (Nat.le_of_ble_eq_true rfl)) dJ6_fixAfterInsertion_130 ⟨(Nat.le_of_ble_eq_true rfl), (Nat.le_of_ble_eq_true rfl)⟩) (gh_out M hex (by exact Nat.le_of_ble_eq_true rfl) (by exact Nat.le_of_ble_eq_true rfl)) (fun r6 h7 H locs hw G => ?_)
  refine lv_iconst (v := (0 : Int32)) hx hb dJ6_fixAfterInsertion_133 (by decide) ?_
  refine gh_kv G (vx_runS M.1 (met_J6_setColor l D _ _ _ _ _ _ hw M.2.2.2.2.2) (va_cwS 2 (gh_Mts M) (lw_S q1058 q1059 q48 q1060) rfl rfl rfl ⟨by decide, by decide, rfl⟩ ⟨Nat.le_of_ble_eq_true rfl, Nat.le_of_ble_eq_true rfl⟩) (gh_pre M G (As := [va_rf r6, .int (0 : Int32)])) rfl rfl hl.1.1 rfl (lv_room (Nat.le_of_ble_eq_true rfl)) dJ6_fixAfterInsertion_134 ⟨(Nat.le_of_ble_eq_true rfl), (Nat.le_of_ble_eq_true rfl)⟩) (gh_out M hex (by exact Nat.le_of_ble_eq_true rfl) (by exact Nat.le_of_ble_eq_true rfl)) (fun h8 H locs hw G => ?_)
  refine gh_aload_n hx hb dJ6_fixAfterInsertion_137 rfl (gh_at hl 0 rfl) ?_
  refine gh_aload_n hx hb dJ6_fixAfterInsertion_138 rfl (gh_at hl 1 rfl) ?_
  refine gh_kq G (vx_runS M.1 (met_J6_parentOf l D _ _ _ _ _ hw M.2.2.2.2.2) (va_cwS 1 (gh_Mts M) (lw_S q1046 q1047 q48 q1048) rfl rfl rfl ⟨by decide, by decide, rfl⟩ ⟨Nat.le_of_ble_eq_true rfl, Nat.le_of_ble_eq_true rfl⟩) (gh_pre M G (As := [va_rf v1])) rfl rfl hl.1.1 rfl (lv_room (Nat.le_trans (gh_r1 (gh_cat _) gh_r0) (Nat.le_of_ble_eq_true rfl : 1 ≤ 8))) dJ6_fixAfterInsertion_139 ⟨(Nat.le_of_ble_eq_true rfl), (Nat.le_of_ble_eq_true rfl)⟩) (gh_out M hex (by exact Nat.le_of_ble_eq_true rfl) (by exact Nat.le_of_ble_eq_true rfl)) (fun r9 h10 H locs hw G => ?_)
  refine gh_kq G (vx_runS M.1 (met_J6_parentOf l D _ _ _ _ _ hw M.2.2.2.2.2) (va_cwS 1 (gh_Mts M) (lw_S q1046 q1047 q48 q1048) rfl rfl rfl ⟨by decide, by decide, rfl⟩ ⟨Nat.le_of_ble_eq_true rfl, Nat.le_of_ble_eq_true rfl⟩) (gh_pre M G (As := [va_rf r9])) rfl rfl hl.1.1 rfl (lv_room (Nat.le_trans (gh_r1 (gh_cat _) gh_r0) (Nat.le_of_ble_eq_true rfl : 1 ≤ 8))) dJ6_fixAfterInsertion_142 ⟨(Nat.le_of_ble_eq_true rfl), (Nat.le_of_ble_eq_true rfl)⟩) (gh_out M hex (by exact Nat.le_of_ble_eq_true rfl) (by exact Nat.le_of_ble_eq_true rfl)) (fun r11 h12 H locs hw G => ?_)
  obtain ⟨a13, lba13, fsa13, hra13, haa13, hw⟩ := hw
  rw [← Option.some.inj hra13] at haa13
  refine gh_kv G (vx_runV M.1 (met_J6_rotateRight l D _ _ _ _ _ _ hw M.2.2.2.2.2) (cwV 1 (gh_Mts M) (lw_V q1065 q1067 qs14 q48 q1068) rfl rfl rfl ⟨rfl, by decide, by decide, rfl⟩ ⟨Nat.le_of_ble_eq_true rfl, Nat.le_of_ble_eq_true rfl⟩) (gh_preV (As := [va_rf r11]) M G (gh_rec M G haa13 rfl)) rfl rfl hl.1.1 rfl (lv_room (Nat.le_of_ble_eq_true rfl)) dJ6_fixAfterInsertion_145 ⟨(Nat.le_of_ble_eq_true rfl), (Nat.le_of_ble_eq_true rfl)⟩) (gh_out M hex (by exact Nat.le_of_ble_eq_true rfl) (by exact Nat.le_of_ble_eq_true rfl)) (fun h14 H locs hw G => ?_)
  exact wk_J6_fixAfterInsertion_148 M hr hex k5 v0 v1 _ _ _ _ G (gh_sub hl [0, 1] rfl) hw
set_option maxHeartbeats 4000000 in
theorem wk1_J6_fixAfterInsertion_5 {D : gh_D} {p : Program} {l : Launch} {e : Env} {s : State} {m : MethodId} {args : Array Value} {below : List Frame} {meth : Method} {c : Code} {h0 : gh_H} (M : gh_M D p l s m args meth c RJ6 cJ6_fixAfterInsertion 3 (gh_A h0 s.heap.size)) (hr : meth.sig.returnType = none) (hex : ∀ x ∈ c.exceptionTable.toList, False) {K5 : Nat → Option Nat → gh_H → Prop}  {Q : gh_H → Prop} {X : String → gh_H → Prop} (k5 : ∀ (v0 : Nat) (v1 : Option Nat) (H : Heap) (locs : List Loc) (ls : Array Slot) (h : gh_H) (_ : gh_Inv D h0 (gh_A h0 s.heap.size) s.heap s H locs h) (_ : gh_L ls 3 [(0, 1, va_rf (some v0)), (1, 1, va_rf v1)]) (_ : K5 v0 v1 h), W p l e rm_J6_fixAfterInsertion s m args below meth c H locs 0 0 (vx_MQ below (gh_Qv Q D h0 s.heap.size) (gh_X X D h0 s.heap.size) args s 0 0 (gh_A h0 s.heap.size)) (F0 m 5 ls []))  (v0 : Nat) (v1 : Option Nat) (H : Heap) (locs : List Loc) (ls : Array Slot) (h : gh_H) (G : gh_Inv D h0 (gh_A h0 s.heap.size) s.heap s H locs h) (hl : gh_L ls 3 [(0, 1, va_rf (some v0)), (1, 1, va_rf v1)]) (hw : wb_J6_fixAfterInsertion_5 D.2.2 K5 Q X v0 v1 h) : W p l e rm_J6_fixAfterInsertion s m args below meth c H locs 0 0 (vx_MQ below (gh_Qv Q D h0 s.heap.size) (gh_X X D h0 s.heap.size) args s 0 0 (gh_A h0 s.heap.size)) (F0 m 5 ls []) := by
  unfold wb_J6_fixAfterInsertion_5 at hw
  have hx := M.1.1
  have hb := M.1.2.1
  refine gh_aload_n hx hb dJ6_fixAfterInsertion_5 rfl (gh_at hl 1 rfl) ?_
  refine gh_ifnull (tgt := 258) hx hb dJ6_fixAfterInsertion_6 (by decide) (fun hc => ?_) (fun hc => ?_)
  · replace hw := hw.1 hc
    exact wk_J6_fixAfterInsertion_258 M hr hex  v0 _ _ _ _ G (gh_sub hl [0] rfl) hw
  · replace hw := hw.2 hc
    refine gh_aload_n hx hb dJ6_fixAfterInsertion_9 rfl (gh_at hl 1 rfl) ?_
    refine gh_aload_n hx hb dJ6_fixAfterInsertion_10 rfl (gh_at hl 0 rfl) ?_
    refine gh_getR M G hw fl_J6_101 dJ6_fixAfterInsertion_11 (fun x1 hw => ?_)
    refine lv_acmp_eq (rx := v1) (ry := x1) (tgt := 258) hx hb dJ6_fixAfterInsertion_14 (by decide) (fun hc => ?_) (fun hc => ?_)
    · replace hw := hw.1 hc
      exact wk_J6_fixAfterInsertion_258 M hr hex  v0 _ _ _ _ G (gh_sub hl [0] rfl) hw
    · replace hw := hw.2 hc
      refine gh_aload_n hx hb dJ6_fixAfterInsertion_17 rfl (gh_at hl 1 rfl) ?_
      refine gh_getR M G hw fl_J6_124 dJ6_fixAfterInsertion_18 (fun x2 hw => ?_)
      refine gh_getI M G hw fl_J6_290 dJ6_fixAfterInsertion_21 (fun x3 hw => ?_)
      refine lv_if_ne (tgt := 258) hx hb dJ6_fixAfterInsertion_24 (by decide) (fun hc => ?_) (fun hc => ?_)
      · replace hw := hw.2 hc
        exact wk_J6_fixAfterInsertion_258 M hr hex  v0 _ _ _ _ G (gh_sub hl [0] rfl) hw
      · replace hw := hw.1 hc
        refine gh_aload_n hx hb dJ6_fixAfterInsertion_27 rfl (gh_at hl 1 rfl) ?_
        refine gh_kq G (vx_runS M.1 (met_J6_parentOf l D _ _ _ _ _ hw M.2.2.2.2.2) (va_cwS 1 (gh_Mts M) (lw_S q1046 q1047 q48 q1048) rfl rfl rfl ⟨by decide, by decide, rfl⟩ ⟨Nat.le_of_ble_eq_true rfl, Nat.le_of_ble_eq_true rfl⟩) (gh_pre M G (As := [va_rf v1])) rfl rfl hl.1.1 rfl (lv_room (Nat.le_of_ble_eq_true rfl)) dJ6_fixAfterInsertion_28 ⟨(Nat.le_of_ble_eq_true rfl), (Nat.le_of_ble_eq_true rfl)⟩) (gh_out M hex (by exact Nat.le_of_ble_eq_true rfl) (by exact Nat.le_of_ble_eq_true rfl)) (fun r4 h5 H locs hw G => ?_)
        refine gh_aload_n hx hb dJ6_fixAfterInsertion_31 rfl (gh_at hl 1 rfl) ?_
        refine gh_kq G (vx_runS M.1 (met_J6_parentOf l D _ _ _ _ _ hw M.2.2.2.2.2) (va_cwS 1 (gh_Mts M) (lw_S q1046 q1047 q48 q1048) rfl rfl rfl ⟨by decide, by decide, rfl⟩ ⟨Nat.le_of_ble_eq_true rfl, Nat.le_of_ble_eq_true rfl⟩) (gh_pre M G (As := [va_rf v1])) rfl rfl hl.1.1 rfl (lv_room (Nat.le_trans (gh_r1 (gh_cat _) gh_r0) (Nat.le_of_ble_eq_true rfl : 1 ≤ 8))) dJ6_fixAfterInsertion_32 ⟨(Nat.le_of_ble_eq_true rfl), (Nat.le_of_ble_eq_true rfl)⟩) (gh_out M hex (by exact Nat.le_of_ble_eq_true rfl) (by exact Nat.le_of_ble_eq_true rfl)) (fun r6 h7 H locs hw G => ?_)
        refine gh_kq G (vx_runS M.1 (met_J6_parentOf l D _ _ _ _ _ hw M.2.2.2.2.2) (va_cwS 1 (gh_Mts M) (lw_S q1046 q1047 q48 q1048) rfl rfl rfl ⟨by decide, by decide, rfl⟩ ⟨Nat.le_of_ble_eq_true rfl, Nat.le_of_ble_eq_true rfl⟩) (gh_pre M G (As := [va_rf r6])) rfl rfl hl.1.1 rfl (lv_room (Nat.le_trans (gh_r1 (gh_cat _) gh_r0) (Nat.le_of_ble_eq_true rfl : 1 ≤ 8))) dJ6_fixAfterInsertion_35 ⟨(Nat.le_of_ble_eq_true rfl), (Nat.le_of_ble_eq_true rfl)⟩) (gh_out M hex (by exact Nat.le_of_ble_eq_true rfl) (by exact Nat.le_of_ble_eq_true rfl)) (fun r8 h9 H locs hw G => ?_)
        refine gh_kq G (vx_runS M.1 (met_J6_leftOf l D _ _ _ _ _ hw M.2.2.2.2.2) (va_cwS 1 (gh_Mts M) (lw_S q1049 q1050 q48 q1051) rfl rfl rfl ⟨by decide, by decide, rfl⟩ ⟨Nat.le_of_ble_eq_true rfl, Nat.le_of_ble_eq_true rfl⟩) (gh_pre M G (As := [va_rf r8])) rfl rfl hl.1.1 rfl (lv_room (Nat.le_trans (gh_r1 (gh_cat _) gh_r0) (Nat.le_of_ble_eq_true rfl : 1 ≤ 8))) dJ6_fixAfterInsertion_38 ⟨(Nat.le_of_ble_eq_true rfl), (Nat.le_of_ble_eq_true rfl)⟩) (gh_out M hex (by exact Nat.le_of_ble_eq_true rfl) (by exact Nat.le_of_ble_eq_true rfl)) (fun r10 h11 H locs hw G => ?_)
        refine lv_acmp_ne (rx := r4) (ry := r10) (tgt := 151) hx hb dJ6_fixAfterInsertion_41 (by decide) (fun hc => ?_) (fun hc => ?_)
        · replace hw := hw.2 hc
          refine gh_aload_n hx hb dJ6_fixAfterInsertion_151 rfl (gh_at hl 1 rfl) ?_
          refine gh_kq G (vx_runS M.1 (met_J6_parentOf l D _ _ _ _ _ hw M.2.2.2.2.2) (va_cwS 1 (gh_Mts M) (lw_S q1046 q1047 q48 q1048) rfl rfl rfl ⟨by decide, by decide, rfl⟩ ⟨Nat.le_of_ble_eq_true rfl, Nat.le_of_ble_eq_true rfl⟩) (gh_pre M G (As := [va_rf v1])) rfl rfl hl.1.1 rfl (lv_room (Nat.le_of_ble_eq_true rfl)) dJ6_fixAfterInsertion_152 ⟨(Nat.le_of_ble_eq_true rfl), (Nat.le_of_ble_eq_true rfl)⟩) (gh_out M hex (by exact Nat.le_of_ble_eq_true rfl) (by exact Nat.le_of_ble_eq_true rfl)) (fun r12 h13 H locs hw G => ?_)
          refine gh_kq G (vx_runS M.1 (met_J6_parentOf l D _ _ _ _ _ hw M.2.2.2.2.2) (va_cwS 1 (gh_Mts M) (lw_S q1046 q1047 q48 q1048) rfl rfl rfl ⟨by decide, by decide, rfl⟩ ⟨Nat.le_of_ble_eq_true rfl, Nat.le_of_ble_eq_true rfl⟩) (gh_pre M G (As := [va_rf r12])) rfl rfl hl.1.1 rfl (lv_room (Nat.le_of_ble_eq_true rfl)) dJ6_fixAfterInsertion_155 ⟨(Nat.le_of_ble_eq_true rfl), (Nat.le_of_ble_eq_true rfl)⟩) (gh_out M hex (by exact Nat.le_of_ble_eq_true rfl) (by exact Nat.le_of_ble_eq_true rfl)) (fun r14 h15 H locs hw G => ?_)
          refine gh_kq G (vx_runS M.1 (met_J6_leftOf l D _ _ _ _ _ hw M.2.2.2.2.2) (va_cwS 1 (gh_Mts M) (lw_S q1049 q1050 q48 q1051) rfl rfl rfl ⟨by decide, by decide, rfl⟩ ⟨Nat.le_of_ble_eq_true rfl, Nat.le_of_ble_eq_true rfl⟩) (gh_pre M G (As := [va_rf r14])) rfl rfl hl.1.1 rfl (lv_room (Nat.le_of_ble_eq_true rfl)) dJ6_fixAfterInsertion_158 ⟨(Nat.le_of_ble_eq_true rfl), (Nat.le_of_ble_eq_true rfl)⟩) (gh_out M hex (by exact Nat.le_of_ble_eq_true rfl) (by exact Nat.le_of_ble_eq_true rfl)) (fun r16 h17 H locs hw G => ?_)
          refine gh_astore_n (lv' := [(2, 1, va_rf r16), (0, 1, va_rf (some v0)), (1, 1, va_rf v1)]) hx hb dJ6_fixAfterInsertion_161 rfl hl (by decide) rfl (fun ls hl => ?_)
          refine gh_aload_n hx hb dJ6_fixAfterInsertion_162 rfl (gh_at hl 0 rfl) ?_
          refine gh_ki G (vx_runS M.1 (met_J6_colorOf l D _ _ _ _ _ hw M.2.2.2.2.2) (va_cwS 1 (gh_Mts M) (lw_S q1055 q1056 q48 q1057) rfl rfl rfl ⟨by decide, by decide, rfl⟩ ⟨Nat.le_of_ble_eq_true rfl, Nat.le_of_ble_eq_true rfl⟩) (gh_pre M G (As := [va_rf r16])) rfl rfl hl.1.1 rfl (lv_room (Nat.le_of_ble_eq_true rfl)) dJ6_fixAfterInsertion_163 ⟨(Nat.le_of_ble_eq_true rfl), (Nat.le_of_ble_eq_true rfl)⟩) (gh_out M hex (by exact Nat.le_of_ble_eq_true rfl) (by exact Nat.le_of_ble_eq_true rfl)) (fun r18 h19 H locs hw G => ?_)
          refine lv_if_ne (tgt := 204) hx hb dJ6_fixAfterInsertion_166 (by decide) (fun hc => ?_) (fun hc => ?_)
          · replace hw := hw.2 hc
            refine gh_aload_n hx hb dJ6_fixAfterInsertion_204 rfl (gh_at hl 2 rfl) ?_
            refine gh_aload_n hx hb dJ6_fixAfterInsertion_205 rfl (gh_at hl 2 rfl) ?_
            refine gh_kq G (vx_runS M.1 (met_J6_parentOf l D _ _ _ _ _ hw M.2.2.2.2.2) (va_cwS 1 (gh_Mts M) (lw_S q1046 q1047 q48 q1048) rfl rfl rfl ⟨by decide, by decide, rfl⟩ ⟨Nat.le_of_ble_eq_true rfl, Nat.le_of_ble_eq_true rfl⟩) (gh_pre M G (As := [va_rf v1])) rfl rfl hl.1.1 rfl (lv_room (Nat.le_trans (gh_r1 (gh_cat _) gh_r0) (Nat.le_of_ble_eq_true rfl : 1 ≤ 8))) dJ6_fixAfterInsertion_206 ⟨(Nat.le_of_ble_eq_true rfl), (Nat.le_of_ble_eq_true rfl)⟩) (gh_out M hex (by exact Nat.le_of_ble_eq_true rfl) (by exact Nat.le_of_ble_eq_true rfl)) (fun r20 h21 H locs hw G => ?_)
            refine gh_kq G (vx_runS M.1 (met_J6_leftOf l D _ _ _ _ _ hw M.2.2.2.2.2) (va_cwS 1 (gh_Mts M) (lw_S q1049 q1050 q48 q1051) rfl rfl rfl ⟨by decide, by decide, rfl⟩ ⟨Nat.le_of_ble_eq_true rfl, Nat.le_of_ble_eq_true rfl⟩) (gh_pre M G (As := [va_rf r20])) rfl rfl hl.1.1 rfl (lv_room (Nat.le_trans (gh_r1 (gh_cat _) gh_r0) (Nat.le_of_ble_eq_true rfl : 1 ≤ 8))) dJ6_fixAfterInsertion_209 ⟨(Nat.le_of_ble_eq_true rfl), (Nat.le_of_ble_eq_true rfl)⟩) (gh_out M hex (by exact Nat.le_of_ble_eq_true rfl) (by exact Nat.le_of_ble_eq_true rfl)) (fun r22 h23 H locs hw G => ?_)
            refine lv_acmp_ne (rx := v1) (ry := r22) (tgt := 225) hx hb dJ6_fixAfterInsertion_212 (by decide) (fun hc => ?_) (fun hc => ?_)
            · replace hw := hw.2 hc
              exact wk_J6_fixAfterInsertion_225 M hr hex k5 v0 v1 _ _ _ _ G (gh_sub hl [1, 2] rfl) hw
            · replace hw := hw.1 hc
              refine gh_aload_n hx hb dJ6_fixAfterInsertion_215 rfl (gh_at hl 2 rfl) ?_
              refine gh_kq G (vx_runS M.1 (met_J6_parentOf l D _ _ _ _ _ hw M.2.2.2.2.2) (va_cwS 1 (gh_Mts M) (lw_S q1046 q1047 q48 q1048) rfl rfl rfl ⟨by decide, by decide, rfl⟩ ⟨Nat.le_of_ble_eq_true rfl, Nat.le_of_ble_eq_true rfl⟩) (gh_pre M G (As := [va_rf v1])) rfl rfl hl.1.1 rfl (lv_room (Nat.le_of_ble_eq_true rfl)) dJ6_fixAfterInsertion_216 ⟨(Nat.le_of_ble_eq_true rfl), (Nat.le_of_ble_eq_true rfl)⟩) (gh_out M hex (by exact Nat.le_of_ble_eq_true rfl) (by exact Nat.le_of_ble_eq_true rfl)) (fun r24 h25 H locs hw G => ?_)
              refine gh_astore_n (lv' := [(1, 1, va_rf r24), (2, 1, va_rf r16), (0, 1, va_rf (some v0))]) hx hb dJ6_fixAfterInsertion_219 rfl hl (by decide) rfl (fun ls hl => ?_)
              refine gh_aload_n hx hb dJ6_fixAfterInsertion_220 rfl (gh_at hl 2 rfl) ?_
              refine gh_aload_n hx hb dJ6_fixAfterInsertion_221 rfl (gh_at hl 0 rfl) ?_
              obtain ⟨a26, lba26, fsa26, hra26, haa26, hw⟩ := hw
              rw [← Option.some.inj hra26] at haa26
              refine gh_kv G (vx_runV M.1 (met_J6_rotateRight l D _ _ _ _ _ _ hw M.2.2.2.2.2) (cwV 1 (gh_Mts M) (lw_V q1065 q1067 qs14 q48 q1068) rfl rfl rfl ⟨rfl, by decide, by decide, rfl⟩ ⟨Nat.le_of_ble_eq_true rfl, Nat.le_of_ble_eq_true rfl⟩) (gh_preV (As := [va_rf r24]) M G (gh_rec M G haa26 rfl)) rfl rfl hl.1.1 rfl (lv_room (Nat.le_of_ble_eq_true rfl)) dJ6_fixAfterInsertion_222 ⟨(Nat.le_of_ble_eq_true rfl), (Nat.le_of_ble_eq_true rfl)⟩) (gh_out M hex (by exact Nat.le_of_ble_eq_true rfl) (by exact Nat.le_of_ble_eq_true rfl)) (fun h27 H locs hw G => ?_)
              exact wk_J6_fixAfterInsertion_225 M hr hex k5 v0 r24 _ _ _ _ G (gh_sub hl [2, 0] rfl) hw
          · replace hw := hw.1 hc
            refine gh_aload_n hx hb dJ6_fixAfterInsertion_169 rfl (gh_at hl 2 rfl) ?_
            refine gh_kq G (vx_runS M.1 (met_J6_parentOf l D _ _ _ _ _ hw M.2.2.2.2.2) (va_cwS 1 (gh_Mts M) (lw_S q1046 q1047 q48 q1048) rfl rfl rfl ⟨by decide, by decide, rfl⟩ ⟨Nat.le_of_ble_eq_true rfl, Nat.le_of_ble_eq_true rfl⟩) (gh_pre M G (As := [va_rf v1])) rfl rfl hl.1.1 rfl (lv_room (Nat.le_of_ble_eq_true rfl)) dJ6_fixAfterInsertion_170 ⟨(Nat.le_of_ble_eq_true rfl), (Nat.le_of_ble_eq_true rfl)⟩) (gh_out M hex (by exact Nat.le_of_ble_eq_true rfl) (by exact Nat.le_of_ble_eq_true rfl)) (fun r28 h29 H locs hw G => ?_)
            refine lv_iconst (v := (1 : Int32)) hx hb dJ6_fixAfterInsertion_173 (by decide) ?_
            refine gh_kv G (vx_runS M.1 (met_J6_setColor l D _ _ _ _ _ _ hw M.2.2.2.2.2) (va_cwS 2 (gh_Mts M) (lw_S q1058 q1059 q48 q1060) rfl rfl rfl ⟨by decide, by decide, rfl⟩ ⟨Nat.le_of_ble_eq_true rfl, Nat.le_of_ble_eq_true rfl⟩) (gh_pre M G (As := [va_rf r28, .int (1 : Int32)])) rfl rfl hl.1.1 rfl (lv_room (Nat.le_of_ble_eq_true rfl)) dJ6_fixAfterInsertion_174 ⟨(Nat.le_of_ble_eq_true rfl), (Nat.le_of_ble_eq_true rfl)⟩) (gh_out M hex (by exact Nat.le_of_ble_eq_true rfl) (by exact Nat.le_of_ble_eq_true rfl)) (fun h30 H locs hw G => ?_)
            refine gh_aload_n hx hb dJ6_fixAfterInsertion_177 rfl (gh_at hl 0 rfl) ?_
            refine lv_iconst (v := (1 : Int32)) hx hb dJ6_fixAfterInsertion_178 (by decide) ?_
            refine gh_kv G (vx_runS M.1 (met_J6_setColor l D _ _ _ _ _ _ hw M.2.2.2.2.2) (va_cwS 2 (gh_Mts M) (lw_S q1058 q1059 q48 q1060) rfl rfl rfl ⟨by decide, by decide, rfl⟩ ⟨Nat.le_of_ble_eq_true rfl, Nat.le_of_ble_eq_true rfl⟩) (gh_pre M G (As := [va_rf r16, .int (1 : Int32)])) rfl rfl hl.1.1 rfl (lv_room (Nat.le_of_ble_eq_true rfl)) dJ6_fixAfterInsertion_179 ⟨(Nat.le_of_ble_eq_true rfl), (Nat.le_of_ble_eq_true rfl)⟩) (gh_out M hex (by exact Nat.le_of_ble_eq_true rfl) (by exact Nat.le_of_ble_eq_true rfl)) (fun h31 H locs hw G => ?_)
            refine gh_aload_n hx hb dJ6_fixAfterInsertion_182 rfl (gh_at hl 2 rfl) ?_
            refine gh_kq G (vx_runS M.1 (met_J6_parentOf l D _ _ _ _ _ hw M.2.2.2.2.2) (va_cwS 1 (gh_Mts M) (lw_S q1046 q1047 q48 q1048) rfl rfl rfl ⟨by decide, by decide, rfl⟩ ⟨Nat.le_of_ble_eq_true rfl, Nat.le_of_ble_eq_true rfl⟩) (gh_pre M G (As := [va_rf v1])) rfl rfl hl.1.1 rfl (lv_room (Nat.le_of_ble_eq_true rfl)) dJ6_fixAfterInsertion_183 ⟨(Nat.le_of_ble_eq_true rfl), (Nat.le_of_ble_eq_true rfl)⟩) (gh_out M hex (by exact Nat.le_of_ble_eq_true rfl) (by exact Nat.le_of_ble_eq_true rfl)) (fun r32 h33 H locs hw G => ?_)
            refine gh_kq G (vx_runS M.1 (met_J6_parentOf l D _ _ _ _ _ hw M.2.2.2.2.2) (va_cwS 1 (gh_Mts M) (lw_S q1046 q1047 q48 q1048) rfl rfl rfl ⟨by decide, by decide, rfl⟩ ⟨Nat.le_of_ble_eq_true rfl, Nat.le_of_ble_eq_true rfl⟩) (gh_pre M G (As := [va_rf r32])) rfl rfl hl.1.1 rfl (lv_room (Nat.le_of_ble_eq_true rfl)) dJ6_fixAfterInsertion_186 ⟨(Nat.le_of_ble_eq_true rfl), (Nat.le_of_ble_eq_true rfl)⟩) (gh_out M hex (by exact Nat.le_of_ble_eq_true rfl) (by exact Nat.le_of_ble_eq_true rfl)) (fun r34 h35 H locs hw G => ?_)
            refine lv_iconst (v := (0 : Int32)) hx hb dJ6_fixAfterInsertion_189 (by decide) ?_
            refine gh_kv G (vx_runS M.1 (met_J6_setColor l D _ _ _ _ _ _ hw M.2.2.2.2.2) (va_cwS 2 (gh_Mts M) (lw_S q1058 q1059 q48 q1060) rfl rfl rfl ⟨by decide, by decide, rfl⟩ ⟨Nat.le_of_ble_eq_true rfl, Nat.le_of_ble_eq_true rfl⟩) (gh_pre M G (As := [va_rf r34, .int (0 : Int32)])) rfl rfl hl.1.1 rfl (lv_room (Nat.le_of_ble_eq_true rfl)) dJ6_fixAfterInsertion_190 ⟨(Nat.le_of_ble_eq_true rfl), (Nat.le_of_ble_eq_true rfl)⟩) (gh_out M hex (by exact Nat.le_of_ble_eq_true rfl) (by exact Nat.le_of_ble_eq_true rfl)) (fun h36 H locs hw G => ?_)
            refine gh_aload_n hx hb dJ6_fixAfterInsertion_193 rfl (gh_at hl 2 rfl) ?_
            refine gh_kq G (vx_runS M.1 (met_J6_parentOf l D _ _ _ _ _ hw M.2.2.2.2.2) (va_cwS 1 (gh_Mts M) (lw_S q1046 q1047 q48 q1048) rfl rfl rfl ⟨by decide, by decide, rfl⟩ ⟨Nat.le_of_ble_eq_true rfl, Nat.le_of_ble_eq_true rfl⟩) (gh_pre M G (As := [va_rf v1])) rfl rfl hl.1.1 rfl (lv_room (Nat.le_of_ble_eq_true rfl)) dJ6_fixAfterInsertion_194 ⟨(Nat.le_of_ble_eq_true rfl), (Nat.le_of_ble_eq_true rfl)⟩) (gh_out M hex (by exact Nat.le_of_ble_eq_true rfl) (by exact Nat.le_of_ble_eq_true rfl)) (fun r37 h38 H locs hw G => ?_)
            refine gh_kq G (vx_runS M.1 (met_J6_parentOf l D _ _ _ _ _ hw M.2.2.2.2.2) (va_cwS 1 (gh_Mts M) (lw_S q1046 q1047 q48 q1048) rfl rfl rfl ⟨by decide, by decide, rfl⟩ ⟨Nat.le_of_ble_eq_true rfl, Nat.le_of_ble_eq_true rfl⟩) (gh_pre M G (As := [va_rf r37])) rfl rfl hl.1.1 rfl (lv_room (Nat.le_of_ble_eq_true rfl)) dJ6_fixAfterInsertion_197 ⟨(Nat.le_of_ble_eq_true rfl), (Nat.le_of_ble_eq_true rfl)⟩) (gh_out M hex (by exact Nat.le_of_ble_eq_true rfl) (by exact Nat.le_of_ble_eq_true rfl)) (fun r39 h40 H locs hw G => ?_)
            refine gh_astore_n (lv' := [(1, 1, va_rf r39), (2, 1, va_rf r16), (0, 1, va_rf (some v0))]) hx hb dJ6_fixAfterInsertion_200 rfl hl (by decide) rfl (fun ls hl => ?_)
            refine lv_goto (tgt := 255) hx hb dJ6_fixAfterInsertion_201 (by decide) ?_
            exact wk_J6_fixAfterInsertion_255 M hr hex k5 v0 r39 _ _ _ _ G (gh_sub hl [2, 0] rfl) hw
        · replace hw := hw.1 hc
          refine gh_aload_n hx hb dJ6_fixAfterInsertion_44 rfl (gh_at hl 1 rfl) ?_
          refine gh_kq G (vx_runS M.1 (met_J6_parentOf l D _ _ _ _ _ hw M.2.2.2.2.2) (va_cwS 1 (gh_Mts M) (lw_S q1046 q1047 q48 q1048) rfl rfl rfl ⟨by decide, by decide, rfl⟩ ⟨Nat.le_of_ble_eq_true rfl, Nat.le_of_ble_eq_true rfl⟩) (gh_pre M G (As := [va_rf v1])) rfl rfl hl.1.1 rfl (lv_room (Nat.le_of_ble_eq_true rfl)) dJ6_fixAfterInsertion_45 ⟨(Nat.le_of_ble_eq_true rfl), (Nat.le_of_ble_eq_true rfl)⟩) (gh_out M hex (by exact Nat.le_of_ble_eq_true rfl) (by exact Nat.le_of_ble_eq_true rfl)) (fun r41 h42 H locs hw G => ?_)
          refine gh_kq G (vx_runS M.1 (met_J6_parentOf l D _ _ _ _ _ hw M.2.2.2.2.2) (va_cwS 1 (gh_Mts M) (lw_S q1046 q1047 q48 q1048) rfl rfl rfl ⟨by decide, by decide, rfl⟩ ⟨Nat.le_of_ble_eq_true rfl, Nat.le_of_ble_eq_true rfl⟩) (gh_pre M G (As := [va_rf r41])) rfl rfl hl.1.1 rfl (lv_room (Nat.le_of_ble_eq_true rfl)) dJ6_fixAfterInsertion_48 ⟨(Nat.le_of_ble_eq_true rfl), (Nat.le_of_ble_eq_true rfl)⟩) (gh_out M hex (by exact Nat.le_of_ble_eq_true rfl) (by exact Nat.le_of_ble_eq_true rfl)) (fun r43 h44 H locs hw G => ?_)
          refine gh_kq G (vx_runS M.1 (met_J6_rightOf l D _ _ _ _ _ hw M.2.2.2.2.2) (va_cwS 1 (gh_Mts M) (lw_S q1052 q1053 q48 q1054) rfl rfl rfl ⟨by decide, by decide, rfl⟩ ⟨Nat.le_of_ble_eq_true rfl, Nat.le_of_ble_eq_true rfl⟩) (gh_pre M G (As := [va_rf r43])) rfl rfl hl.1.1 rfl (lv_room (Nat.le_of_ble_eq_true rfl)) dJ6_fixAfterInsertion_51 ⟨(Nat.le_of_ble_eq_true rfl), (Nat.le_of_ble_eq_true rfl)⟩) (gh_out M hex (by exact Nat.le_of_ble_eq_true rfl) (by exact Nat.le_of_ble_eq_true rfl)) (fun r45 h46 H locs hw G => ?_)
          refine gh_astore_n (lv' := [(2, 1, va_rf r45), (0, 1, va_rf (some v0)), (1, 1, va_rf v1)]) hx hb dJ6_fixAfterInsertion_54 rfl hl (by decide) rfl (fun ls hl => ?_)
          refine gh_aload_n hx hb dJ6_fixAfterInsertion_55 rfl (gh_at hl 0 rfl) ?_
          refine gh_ki G (vx_runS M.1 (met_J6_colorOf l D _ _ _ _ _ hw M.2.2.2.2.2) (va_cwS 1 (gh_Mts M) (lw_S q1055 q1056 q48 q1057) rfl rfl rfl ⟨by decide, by decide, rfl⟩ ⟨Nat.le_of_ble_eq_true rfl, Nat.le_of_ble_eq_true rfl⟩) (gh_pre M G (As := [va_rf r45])) rfl rfl hl.1.1 rfl (lv_room (Nat.le_of_ble_eq_true rfl)) dJ6_fixAfterInsertion_56 ⟨(Nat.le_of_ble_eq_true rfl), (Nat.le_of_ble_eq_true rfl)⟩) (gh_out M hex (by exact Nat.le_of_ble_eq_true rfl) (by exact Nat.le_of_ble_eq_true rfl)) (fun r47 h48 H locs hw G => ?_)
          refine lv_if_ne (tgt := 97) hx hb dJ6_fixAfterInsertion_59 (by decide) (fun hc => ?_) (fun hc => ?_)
          · replace hw := hw.2 hc
            refine gh_aload_n hx hb dJ6_fixAfterInsertion_97 rfl (gh_at hl 2 rfl) ?_
            refine gh_aload_n hx hb dJ6_fixAfterInsertion_98 rfl (gh_at hl 2 rfl) ?_
            refine gh_kq G (vx_runS M.1 (met_J6_parentOf l D _ _ _ _ _ hw M.2.2.2.2.2) (va_cwS 1 (gh_Mts M) (lw_S q1046 q1047 q48 q1048) rfl rfl rfl ⟨by decide, by decide, rfl⟩ ⟨Nat.le_of_ble_eq_true rfl, Nat.le_of_ble_eq_true rfl⟩) (gh_pre M G (As := [va_rf v1])) rfl rfl hl.1.1 rfl (lv_room (Nat.le_trans (gh_r1 (gh_cat _) gh_r0) (Nat.le_of_ble_eq_true rfl : 1 ≤ 8))) dJ6_fixAfterInsertion_99 ⟨(Nat.le_of_ble_eq_true rfl), (Nat.le_of_ble_eq_true rfl)⟩) (gh_out M hex (by exact Nat.le_of_ble_eq_true rfl) (by exact Nat.le_of_ble_eq_true rfl)) (fun r49 h50 H locs hw G => ?_)
            refine gh_kq G (vx_runS M.1 (met_J6_rightOf l D _ _ _ _ _ hw M.2.2.2.2.2) (va_cwS 1 (gh_Mts M) (lw_S q1052 q1053 q48 q1054) rfl rfl rfl ⟨by decide, by decide, rfl⟩ ⟨Nat.le_of_ble_eq_true rfl, Nat.le_of_ble_eq_true rfl⟩) (gh_pre M G (As := [va_rf r49])) rfl rfl hl.1.1 rfl (lv_room (Nat.le_trans (gh_r1 (gh_cat _) gh_r0) (Nat.le_of_ble_eq_true rfl : 1 ≤ 8))) dJ6_fixAfterInsertion_102 ⟨(Nat.le_of_ble_eq_true rfl), (Nat.le_of_ble_eq_true rfl)⟩) (gh_out M hex (by exact Nat.le_of_ble_eq_true rfl) (by exact Nat.le_of_ble_eq_true rfl)) (fun r51 h52 H locs hw G => ?_)
            refine lv_acmp_ne (rx := v1) (ry := r51) (tgt := 118) hx hb dJ6_fixAfterInsertion_105 (by decide) (fun hc => ?_) (fun hc => ?_)
            · replace hw := hw.2 hc
              exact wk_J6_fixAfterInsertion_118 M hr hex k5 v0 v1 _ _ _ _ G (gh_sub hl [1, 2] rfl) hw
            · replace hw := hw.1 hc
              refine gh_aload_n hx hb dJ6_fixAfterInsertion_108 rfl (gh_at hl 2 rfl) ?_
              refine gh_kq G (vx_runS M.1 (met_J6_parentOf l D _ _ _ _ _ hw M.2.2.2.2.2) (va_cwS 1 (gh_Mts M) (lw_S q1046 q1047 q48 q1048) rfl rfl rfl ⟨by decide, by decide, rfl⟩ ⟨Nat.le_of_ble_eq_true rfl, Nat.le_of_ble_eq_true rfl⟩) (gh_pre M G (As := [va_rf v1])) rfl rfl hl.1.1 rfl (lv_room (Nat.le_of_ble_eq_true rfl)) dJ6_fixAfterInsertion_109 ⟨(Nat.le_of_ble_eq_true rfl), (Nat.le_of_ble_eq_true rfl)⟩) (gh_out M hex (by exact Nat.le_of_ble_eq_true rfl) (by exact Nat.le_of_ble_eq_true rfl)) (fun r53 h54 H locs hw G => ?_)
              refine gh_astore_n (lv' := [(1, 1, va_rf r53), (2, 1, va_rf r45), (0, 1, va_rf (some v0))]) hx hb dJ6_fixAfterInsertion_112 rfl hl (by decide) rfl (fun ls hl => ?_)
              refine gh_aload_n hx hb dJ6_fixAfterInsertion_113 rfl (gh_at hl 2 rfl) ?_
              refine gh_aload_n hx hb dJ6_fixAfterInsertion_114 rfl (gh_at hl 0 rfl) ?_
              obtain ⟨a55, lba55, fsa55, hra55, haa55, hw⟩ := hw
              rw [← Option.some.inj hra55] at haa55
              refine gh_kv G (vx_runV M.1 (met_J6_rotateLeft l D _ _ _ _ _ _ hw M.2.2.2.2.2) (cwV 1 (gh_Mts M) (lw_V q1061 q1063 qs13 q48 q1064) rfl rfl rfl ⟨rfl, by decide, by decide, rfl⟩ ⟨Nat.le_of_ble_eq_true rfl, Nat.le_of_ble_eq_true rfl⟩) (gh_preV (As := [va_rf r53]) M G (gh_rec M G haa55 rfl)) rfl rfl hl.1.1 rfl (lv_room (Nat.le_of_ble_eq_true rfl)) dJ6_fixAfterInsertion_115 ⟨(Nat.le_of_ble_eq_true rfl), (Nat.le_of_ble_eq_true rfl)⟩) (gh_out M hex (by exact Nat.le_of_ble_eq_true rfl) (by exact Nat.le_of_ble_eq_true rfl)) (fun h56 H locs hw G => ?_)
              exact wk_J6_fixAfterInsertion_118 M hr hex k5 v0 r53 _ _ _ _ G (gh_sub hl [2, 0] rfl) hw
          · replace hw := hw.1 hc
            refine gh_aload_n hx hb dJ6_fixAfterInsertion_62 rfl (gh_at hl 2 rfl) ?_
            refine gh_kq G (vx_runS M.1 (met_J6_parentOf l D _ _ _ _ _ hw M.2.2.2.2.2) (va_cwS 1 (gh_Mts M) (lw_S q1046 q1047 q48 q1048) rfl rfl rfl ⟨by decide, by decide, rfl⟩ ⟨Nat.le_of_ble_eq_true rfl, Nat.le_of_ble_eq_true rfl⟩) (gh_pre M G (As := [va_rf v1])) rfl rfl hl.1.1 rfl (lv_room (Nat.le_of_ble_eq_true rfl)) dJ6_fixAfterInsertion_63 ⟨(Nat.le_of_ble_eq_true rfl), (Nat.le_of_ble_eq_true rfl)⟩) (gh_out M hex (by exact Nat.le_of_ble_eq_true rfl) (by exact Nat.le_of_ble_eq_true rfl)) (fun r57 h58 H locs hw G => ?_)
            refine lv_iconst (v := (1 : Int32)) hx hb dJ6_fixAfterInsertion_66 (by decide) ?_
            refine gh_kv G (vx_runS M.1 (met_J6_setColor l D _ _ _ _ _ _ hw M.2.2.2.2.2) (va_cwS 2 (gh_Mts M) (lw_S q1058 q1059 q48 q1060) rfl rfl rfl ⟨by decide, by decide, rfl⟩ ⟨Nat.le_of_ble_eq_true rfl, Nat.le_of_ble_eq_true rfl⟩) (gh_pre M G (As := [va_rf r57, .int (1 : Int32)])) rfl rfl hl.1.1 rfl (lv_room (Nat.le_of_ble_eq_true rfl)) dJ6_fixAfterInsertion_67 ⟨(Nat.le_of_ble_eq_true rfl), (Nat.le_of_ble_eq_true rfl)⟩) (gh_out M hex (by exact Nat.le_of_ble_eq_true rfl) (by exact Nat.le_of_ble_eq_true rfl)) (fun h59 H locs hw G => ?_)
            refine gh_aload_n hx hb dJ6_fixAfterInsertion_70 rfl (gh_at hl 0 rfl) ?_
            refine lv_iconst (v := (1 : Int32)) hx hb dJ6_fixAfterInsertion_71 (by decide) ?_
            refine gh_kv G (vx_runS M.1 (met_J6_setColor l D _ _ _ _ _ _ hw M.2.2.2.2.2) (va_cwS 2 (gh_Mts M) (lw_S q1058 q1059 q48 q1060) rfl rfl rfl ⟨by decide, by decide, rfl⟩ ⟨Nat.le_of_ble_eq_true rfl, Nat.le_of_ble_eq_true rfl⟩) (gh_pre M G (As := [va_rf r45, .int (1 : Int32)])) rfl rfl hl.1.1 rfl (lv_room (Nat.le_of_ble_eq_true rfl)) dJ6_fixAfterInsertion_72 ⟨(Nat.le_of_ble_eq_true rfl), (Nat.le_of_ble_eq_true rfl)⟩) (gh_out M hex (by exact Nat.le_of_ble_eq_true rfl) (by exact Nat.le_of_ble_eq_true rfl)) (fun h60 H locs hw G => ?_)
            refine gh_aload_n hx hb dJ6_fixAfterInsertion_75 rfl (gh_at hl 2 rfl) ?_
            refine gh_kq G (vx_runS M.1 (met_J6_parentOf l D _ _ _ _ _ hw M.2.2.2.2.2) (va_cwS 1 (gh_Mts M) (lw_S q1046 q1047 q48 q1048) rfl rfl rfl ⟨by decide, by decide, rfl⟩ ⟨Nat.le_of_ble_eq_true rfl, Nat.le_of_ble_eq_true rfl⟩) (gh_pre M G (As := [va_rf v1])) rfl rfl hl.1.1 rfl (lv_room (Nat.le_of_ble_eq_true rfl)) dJ6_fixAfterInsertion_76 ⟨(Nat.le_of_ble_eq_true rfl), (Nat.le_of_ble_eq_true rfl)⟩) (gh_out M hex (by exact Nat.le_of_ble_eq_true rfl) (by exact Nat.le_of_ble_eq_true rfl)) (fun r61 h62 H locs hw G => ?_)
            refine gh_kq G (vx_runS M.1 (met_J6_parentOf l D _ _ _ _ _ hw M.2.2.2.2.2) (va_cwS 1 (gh_Mts M) (lw_S q1046 q1047 q48 q1048) rfl rfl rfl ⟨by decide, by decide, rfl⟩ ⟨Nat.le_of_ble_eq_true rfl, Nat.le_of_ble_eq_true rfl⟩) (gh_pre M G (As := [va_rf r61])) rfl rfl hl.1.1 rfl (lv_room (Nat.le_of_ble_eq_true rfl)) dJ6_fixAfterInsertion_79 ⟨(Nat.le_of_ble_eq_true rfl), (Nat.le_of_ble_eq_true rfl)⟩) (gh_out M hex (by exact Nat.le_of_ble_eq_true rfl) (by exact Nat.le_of_ble_eq_true rfl)) (fun r63 h64 H locs hw G => ?_)
            refine lv_iconst (v := (0 : Int32)) hx hb dJ6_fixAfterInsertion_82 (by decide) ?_
            refine gh_kv G (vx_runS M.1 (met_J6_setColor l D _ _ _ _ _ _ hw M.2.2.2.2.2) (va_cwS 2 (gh_Mts M) (lw_S q1058 q1059 q48 q1060) rfl rfl rfl ⟨by decide, by decide, rfl⟩ ⟨Nat.le_of_ble_eq_true rfl, Nat.le_of_ble_eq_true rfl⟩) (gh_pre M G (As := [va_rf r63, .int (0 : Int32)])) rfl rfl hl.1.1 rfl (lv_room (Nat.le_of_ble_eq_true rfl)) dJ6_fixAfterInsertion_83 ⟨(Nat.le_of_ble_eq_true rfl), (Nat.le_of_ble_eq_true rfl)⟩) (gh_out M hex (by exact Nat.le_of_ble_eq_true rfl) (by exact Nat.le_of_ble_eq_true rfl)) (fun h65 H locs hw G => ?_)
            refine gh_aload_n hx hb dJ6_fixAfterInsertion_86 rfl (gh_at hl 2 rfl) ?_
            refine gh_kq G (vx_runS M.1 (met_J6_parentOf l D _ _ _ _ _ hw M.2.2.2.2.2) (va_cwS 1 (gh_Mts M) (lw_S q1046 q1047 q48 q1048) rfl rfl rfl ⟨by decide, by decide, rfl⟩ ⟨Nat.le_of_ble_eq_true rfl, Nat.le_of_ble_eq_true rfl⟩) (gh_pre M G (As := [va_rf v1])) rfl rfl hl.1.1 rfl (lv_room (Nat.le_of_ble_eq_true rfl)) dJ6_fixAfterInsertion_87 ⟨(Nat.le_of_ble_eq_true rfl), (Nat.le_of_ble_eq_true rfl)⟩) (gh_out M hex (by exact Nat.le_of_ble_eq_true rfl) (by exact Nat.le_of_ble_eq_true rfl)) (fun r66 h67 H locs hw G => ?_)
            refine gh_kq G (vx_runS M.1 (met_J6_parentOf l D _ _ _ _ _ hw M.2.2.2.2.2) (va_cwS 1 (gh_Mts M) (lw_S q1046 q1047 q48 q1048) rfl rfl rfl ⟨by decide, by decide, rfl⟩ ⟨Nat.le_of_ble_eq_true rfl, Nat.le_of_ble_eq_true rfl⟩) (gh_pre M G (As := [va_rf r66])) rfl rfl hl.1.1 rfl (lv_room (Nat.le_of_ble_eq_true rfl)) dJ6_fixAfterInsertion_90 ⟨(Nat.le_of_ble_eq_true rfl), (Nat.le_of_ble_eq_true rfl)⟩) (gh_out M hex (by exact Nat.le_of_ble_eq_true rfl) (by exact Nat.le_of_ble_eq_true rfl)) (fun r68 h69 H locs hw G => ?_)
            refine gh_astore_n (lv' := [(1, 1, va_rf r68), (2, 1, va_rf r45), (0, 1, va_rf (some v0))]) hx hb dJ6_fixAfterInsertion_93 rfl hl (by decide) rfl (fun ls hl => ?_)
            refine lv_goto (tgt := 148) hx hb dJ6_fixAfterInsertion_94 (by decide) ?_
            exact wk_J6_fixAfterInsertion_148 M hr hex k5 v0 r68 _ _ _ _ G (gh_sub hl [2, 0] rfl) hw
theorem wk_J6_fixAfterInsertion_5 {D : gh_D} {p : Program} {l : Launch} {e : Env} {s : State} {m : MethodId} {args : Array Value} {below : List Frame} {meth : Method} {c : Code} {h0 : gh_H} (M : gh_M D p l s m args meth c RJ6 cJ6_fixAfterInsertion 3 (gh_A h0 s.heap.size)) (hr : meth.sig.returnType = none) (hex : ∀ x ∈ c.exceptionTable.toList, False)   {Q : gh_H → Prop} {X : String → gh_H → Prop}   : ∀ (n : Nat) (v0 : Nat) (v1 : Option Nat) (H : Heap) (locs : List Loc) (ls : Array Slot) (h : gh_H) (_ : gh_Inv D h0 (gh_A h0 s.heap.size) s.heap s H locs h) (_ : gh_L ls 3 [(0, 1, va_rf (some v0)), (1, 1, va_rf v1)]) (_ : wl_J6_fixAfterInsertion_5 D.2.2 Q X n v0 v1 h), W p l e rm_J6_fixAfterInsertion s m args below meth c H locs 0 0 (vx_MQ below (gh_Qv Q D h0 s.heap.size) (gh_X X D h0 s.heap.size) args s 0 0 (gh_A h0 s.heap.size)) (F0 m 5 ls []) := by
  intro fu
  induction fu with
  | zero => intro v0 v1 H locs ls h G hl hw; exact False.elim hw
  | succ n1 ih =>
    intro v0 v1 H locs ls h G hl hw
    exact wk1_J6_fixAfterInsertion_5 M hr hex ih  v0 v1 _ _ _ _ G hl hw
set_option maxHeartbeats 4000000 in
theorem met_J6_fixAfterInsertion (l : Launch) (D : gh_D) (v0 : Nat) (v1 : Option Nat) (Q : gh_H → Prop) (X : String → gh_H → Prop) (h : gh_H) (sz : Nat) (hw : wp_J6_fixAfterInsertion D.2.2 v0 v1 Q X h) (hst : l.stackTraces = false) : vx_Met l yJ6_fixAfterInsertion (ws_ yJ6_fixAfterInsertion cJ6_fixAfterInsertion 3 none) rm_J6_fixAfterInsertion (gh_Pc D h sz [.ref v0, va_rf v1]) (gh_Qv Q D h sz) (gh_X X D h sz) 0 0 (gh_A h sz) := by
  refine vx_ofW (by decide) rfl (fun p e s m args below meth c s₁ B hml hex hP => ?_)
  obtain ⟨rfl, rfl, hK, hT, hE, G⟩ := gh_start hP
  have M : gh_M D p l s m _ meth c RJ6 cJ6_fixAfterInsertion 3 (gh_A h s.heap.size) := ⟨⟨B.exec, B.bytes, hml, findClass_of_methodNamed B.named, fun w hw => atoms_spec (ws := ws_ yJ6_fixAfterInsertion cJ6_fixAfterInsertion 3 none) B.pre w (List.mem_cons_of_mem _ hw)⟩, hK, hT, hE, B.notSynchronized, hst⟩
  have hr := B.returns
  have hx := M.1.1
  have hb := M.1.2.1
  refine gh_enter (vs := [(1, .ref v0), (1, va_rf v1)]) (gh_w1 rfl (gh_w1 (gh_cat _) gh_wn)) (Nat.le_of_ble_eq_true rfl) (fun ls hl => ?_)
  replace hl : gh_L ls 3 [(0, 1, va_rf (some v0)), (1, 1, va_rf v1)] := hl
  unfold wp_J6_fixAfterInsertion at hw
  refine gh_aload_n hx hb dJ6_fixAfterInsertion_0 rfl (gh_at hl 1 rfl) ?_
  refine lv_iconst (v := (0 : Int32)) hx hb dJ6_fixAfterInsertion_1 (by decide) ?_
  obtain ⟨hn, hw⟩ := hw
  refine gh_put M G hw fp_J6_290 hn.1 hn.2 dJ6_fixAfterInsertion_2 (fun h1 H locs hw G => ?_)
  obtain ⟨n, hw⟩ := hw
  exact wk_J6_fixAfterInsertion_5 M hr hex  n v0 v1 _ _ _ _ G (gh_sub hl [0, 1] rfl) hw
/-! java/util/TreeMap.addEntry (Ljava/lang/Object;Ljava/lang/Object;Ljava/util/TreeMap$Entry;Z)V -/
def rm_J6_addEntry : Room := { frames := 3, cells := 1, slots := 6, locals := 103 }
def wb_J6_addEntry_32 (κ : Nat → Nat)  (Q : gh_H → Prop) (X : String → gh_H → Prop) (v0 : Nat) (v5 : Option Nat) (h : gh_H) : Prop := (gh_RC h (some v0) 11 (fun _ => (wp_J6_fixAfterInsertion κ v0 v5 (fun h2 => (gh_GI h2 (some v0) [(11, 4)] (fun x3 => (gh_PV h2 (some v0) [(11, 4)] (.int (x3 + (1 : Int32))) (fun h4 => (gh_GI h4 (some v0) [(11, 5)] (fun x5 => (gh_PV h4 (some v0) [(11, 5)] (.int (x5 + (1 : Int32))) (fun h6 => (Q h6)))))))))) X h)))
def wp_J6_addEntry (κ : Nat → Nat) (v0 : Nat) (v1 : Option Nat) (v2 : Option Nat) (v3 : Option Nat) (v4 : Int32) (Q : gh_H → Prop) (X : String → gh_H → Prop) (h : gh_H) : Prop := (gh_NO h 12 [va_rf none, va_rf none, va_rf none, va_rf none, va_rf none, .int 0] (fun q1 h2 => (wp_J26_init κ q1 v1 v2 v3 (fun h3 => ((v4 = 0 → (gh_PV h3 v3 [(12, 3)] (va_rf (some q1)) (fun h4 => wb_J6_addEntry_32 κ Q X v0 (some q1) h4))) ∧ (¬ v4 = 0 → (gh_PV h3 v3 [(12, 2)] (va_rf (some q1)) (fun h5 => wb_J6_addEntry_32 κ Q X v0 (some q1) h5))))) X h2)))
set_option maxHeartbeats 4000000 in
theorem wk_J6_addEntry_32 {D : gh_D} {p : Program} {l : Launch} {e : Env} {s : State} {m : MethodId} {args : Array Value} {below : List Frame} {meth : Method} {c : Code} {h0 : gh_H} (M : gh_M D p l s m args meth c RJ6 cJ6_addEntry 6 (gh_A h0 s.heap.size)) (hr : meth.sig.returnType = none) (hex : ∀ x ∈ c.exceptionTable.toList, False)   {Q : gh_H → Prop} {X : String → gh_H → Prop}   (v0 : Nat) (v5 : Option Nat) (H : Heap) (locs : List Loc) (ls : Array Slot) (h : gh_H) (G : gh_Inv D h0 (gh_A h0 s.heap.size) s.heap s H locs h) (hl : gh_L ls 6 [(0, 1, va_rf (some v0)), (5, 1, va_rf v5)]) (hw : wb_J6_addEntry_32 D.2.2 Q X v0 v5 h) : W p l e rm_J6_addEntry s m args below meth c H locs 1 6 (vx_MQ below (gh_Qv Q D h0 s.heap.size) (gh_X X D h0 s.heap.size) args s 1 6 (gh_A h0 s.heap.size)) (F0 m 32 ls []) := by
  unfold wb_J6_addEntry_32 at hw
  have hx := M.1.1
  have hb := M.1.2.1
  refine gh_aload_n hx hb dJ6_addEntry_32 rfl (gh_at hl 0 rfl) ?_
  refine gh_aload hx hb dJ6_addEntry_33 (gh_at hl 1 rfl) ?_
  obtain ⟨a1, lba1, fsa1, hra1, haa1, hw⟩ := hw
  rw [← Option.some.inj hra1] at haa1
  refine gh_kv G (vx_runV M.1 (met_J6_fixAfterInsertion l D _ _ _ _ _ _ hw M.2.2.2.2.2) (cwV 1 (gh_Mts M) (lw_V q1042 q1044 qs12 q48 q1045) rfl rfl rfl ⟨rfl, by decide, by decide, rfl⟩ ⟨Nat.le_of_ble_eq_true rfl, Nat.le_of_ble_eq_true rfl⟩) (gh_preV (As := [va_rf v5]) M G (gh_rec M G haa1 rfl)) rfl rfl hl.1.1 rfl (lv_room (Nat.le_of_ble_eq_true rfl)) dJ6_addEntry_35 ⟨(Nat.le_of_ble_eq_true rfl), (Nat.le_of_ble_eq_true rfl)⟩) (gh_out M hex (by exact Nat.le_of_ble_eq_true rfl) (by exact Nat.le_of_ble_eq_true rfl)) (fun h2 H locs hw G => ?_)
  refine gh_aload_n hx hb dJ6_addEntry_38 rfl (gh_at hl 0 rfl) ?_
  refine lv_dup hx hb dJ6_addEntry_39 (gh_cat _) ?_
  refine gh_getI M G hw fl_J6_7 dJ6_addEntry_40 (fun x3 hw => ?_)
  refine lv_iconst (v := (1 : Int32)) hx hb dJ6_addEntry_43 (by decide) ?_
  refine lv_iadd hx hb dJ6_addEntry_44 ?_
  refine gh_put M G hw fp_J6_7 rfl rfl dJ6_addEntry_45 (fun h4 H locs hw G => ?_)
  refine gh_aload_n hx hb dJ6_addEntry_48 rfl (gh_at hl 0 rfl) ?_
  refine lv_dup hx hb dJ6_addEntry_49 (gh_cat _) ?_
  refine gh_getI M G hw fl_J6_13 dJ6_addEntry_50 (fun x5 hw => ?_)
  refine lv_iconst (v := (1 : Int32)) hx hb dJ6_addEntry_53 (by decide) ?_
  refine lv_iadd hx hb dJ6_addEntry_54 ?_
  refine gh_put M G hw fp_J6_13 rfl rfl dJ6_addEntry_55 (fun h6 H locs hw G => ?_)
  exact gh_vret M G hr hw (by exact Nat.le_of_ble_eq_true rfl) (by exact Nat.le_of_ble_eq_true rfl) dJ6_addEntry_58
set_option maxHeartbeats 4000000 in
theorem met_J6_addEntry (l : Launch) (D : gh_D) (v0 : Nat) (v1 : Option Nat) (v2 : Option Nat) (v3 : Option Nat) (v4 : Int32) (Q : gh_H → Prop) (X : String → gh_H → Prop) (h : gh_H) (sz : Nat) (hw : wp_J6_addEntry D.2.2 v0 v1 v2 v3 v4 Q X h) (hst : l.stackTraces = false) : vx_Met l yJ6_addEntry (ws_ yJ6_addEntry cJ6_addEntry 6 none) rm_J6_addEntry (gh_Pc D h sz [.ref v0, va_rf v1, va_rf v2, va_rf v3, .int v4]) (gh_Qv Q D h sz) (gh_X X D h sz) 1 6 (gh_A h sz) := by
  refine vx_ofW (by decide) rfl (fun p e s m args below meth c s₁ B hml hex hP => ?_)
  obtain ⟨rfl, rfl, hK, hT, hE, G⟩ := gh_start hP
  have M : gh_M D p l s m _ meth c RJ6 cJ6_addEntry 6 (gh_A h s.heap.size) := ⟨⟨B.exec, B.bytes, hml, findClass_of_methodNamed B.named, fun w hw => atoms_spec (ws := ws_ yJ6_addEntry cJ6_addEntry 6 none) B.pre w (List.mem_cons_of_mem _ hw)⟩, hK, hT, hE, B.notSynchronized, hst⟩
  have hr := B.returns
  have hx := M.1.1
  have hb := M.1.2.1
  refine gh_enter (vs := [(1, .ref v0), (1, va_rf v1), (1, va_rf v2), (1, va_rf v3), (1, .int v4)]) (gh_w1 rfl (gh_w1 (gh_cat _) (gh_w1 (gh_cat _) (gh_w1 (gh_cat _) (gh_w1 rfl gh_wn))))) (Nat.le_of_ble_eq_true rfl) (fun ls hl => ?_)
  replace hl : gh_L ls 6 [(0, 1, va_rf (some v0)), (1, 1, va_rf v1), (2, 1, va_rf v2), (3, 1, va_rf v3), (4, 1, .int v4)] := hl
  unfold wp_J6_addEntry at hw
  refine gh_new (N := 6) (r := (RJ26, TJ26, 6)) (ci := 12) (fs := [va_rf none, va_rf none, va_rf none, va_rf none, va_rf none, .int 0]) M G hw tyJ26 tyJ26_ok q1003 q1004 q78 rfl rfl nd_J26 (Nat.le_of_ble_eq_true rfl) (Nat.le_of_ble_eq_true rfl) dJ6_addEntry_0 (fun q1 h2 H hw G => ?_)
  refine lv_dup hx hb dJ6_addEntry_3 (gh_cat _) ?_
  refine gh_aload_n hx hb dJ6_addEntry_4 rfl (gh_at hl 1 rfl) ?_
  refine gh_aload_n hx hb dJ6_addEntry_5 rfl (gh_at hl 2 rfl) ?_
  refine gh_aload_n hx hb dJ6_addEntry_6 rfl (gh_at hl 3 rfl) ?_
  refine gh_kv G (vx_runI M.1 (met_J26_init l D _ _ _ _ _ _ _ _ hw M.2.2.2.2.2) (cwI 3 (gh_Mts M) (lw_meth q1007) rfl rfl rfl (gh_Mts M _ q78) (gh_Mts M _ q1005) (gh_Mts M _ q1006) rfl ⟨by decide, by decide, rfl⟩ ⟨Nat.le_of_ble_eq_true rfl, Nat.le_of_ble_eq_true rfl⟩) (gh_pre M G (As := .ref q1 :: [va_rf v1, va_rf v2, va_rf v3])) rfl rfl hl.1.1 rfl (lv_room (Nat.le_trans (gh_r1 (gh_cat _) gh_r0) (Nat.le_of_ble_eq_true rfl : 1 ≤ 8))) dJ6_addEntry_7 ⟨(Nat.le_of_ble_eq_true rfl), (Nat.le_of_ble_eq_true rfl)⟩) (gh_out M hex (by exact Nat.le_of_ble_eq_true rfl) (by exact Nat.le_of_ble_eq_true rfl)) (fun h3 H locs hw G => ?_)
  refine gh_astore (lv' := [(5, 1, va_rf (some q1)), (0, 1, va_rf (some v0)), (1, 1, va_rf v1), (2, 1, va_rf v2), (3, 1, va_rf v3), (4, 1, .int v4)]) hx hb dJ6_addEntry_10 hl (by decide) rfl (fun ls hl => ?_)
  refine lv_iload hx hb dJ6_addEntry_12 (gh_at hl 5 rfl) ?_
  refine lv_if_eq (tgt := 26) hx hb dJ6_addEntry_14 (by decide) (fun hc => ?_) (fun hc => ?_)
  · replace hw := hw.1 hc
    refine gh_aload_n hx hb dJ6_addEntry_26 rfl (gh_at hl 4 rfl) ?_
    refine gh_aload hx hb dJ6_addEntry_27 (gh_at hl 0 rfl) ?_
    refine gh_put M G hw fp_J6_114 (gh_narR _ _) (gh_fitR _ _) dJ6_addEntry_29 (fun h4 H locs hw G => ?_)
    exact wk_J6_addEntry_32 M hr hex  v0 (some q1) _ _ _ _ G (gh_sub hl [1, 0] rfl) hw
  · replace hw := hw.2 hc
    refine gh_aload_n hx hb dJ6_addEntry_17 rfl (gh_at hl 4 rfl) ?_
    refine gh_aload hx hb dJ6_addEntry_18 (gh_at hl 0 rfl) ?_
    refine gh_put M G hw fp_J6_111 (gh_narR _ _) (gh_fitR _ _) dJ6_addEntry_20 (fun h5 H locs hw G => ?_)
    refine lv_goto (tgt := 32) hx hb dJ6_addEntry_23 (by decide) ?_
    exact wk_J6_addEntry_32 M hr hex  v0 (some q1) _ _ _ _ G (gh_sub hl [1, 0] rfl) hw
/-! java/util/TreeMap.put (Ljava/lang/Object;Ljava/lang/Object;Z)Ljava/lang/Object; -/
theorem fl_J6_58 : gh_FL RJ6 58 [(12, 1)] := by
  intro args s hts tb q hq
  simp only [List.mem_cons, List.not_mem_nil, or_false] at hq
  subst hq
  exact ⟨_, "java/util/TreeMap$Entry", rfl, by decide, Or.inl (hts _ q1013), (fun x h => h)⟩
theorem fp_J6_58 : gh_FP RJ6 58 [(12, 1)] (.object "java/lang/Object") false := by
  refine ⟨fl_J6_58, fun q hq => ?_⟩
  simp only [List.mem_cons, List.not_mem_nil, or_false] at hq
  subst hq
  exact ⟨_, rfl, rfl, by decide +kernel, fun h => by cases h⟩
theorem fl_J6_105 : gh_FL RJ6 105 [(12, 0)] := by
  intro args s hts tb q hq
  simp only [List.mem_cons, List.not_mem_nil, or_false] at hq
  subst hq
  exact ⟨_, "java/util/TreeMap$Entry", rfl, by decide, Or.inl (hts _ q1011), (fun x h => h)⟩
def rm_J6_put_2 : Room := { frames := 6, cells := 1, slots := 6, locals := 147 }
def wb_J6_put_2_193 (κ : Nat → Nat)  (Q : Option Nat → gh_H → Prop) (X : String → gh_H → Prop) (v9 : Option Nat) (h : gh_H) : Prop := (Q v9 h)
def wb_J6_put_2_187 (κ : Nat → Nat)  (Q : Option Nat → gh_H → Prop) (X : String → gh_H → Prop) (v2 : Option Nat) (v4 : Option Nat) (v9 : Option Nat) (h : gh_H) : Prop := (gh_PV h v4 [(12, 1)] (va_rf v2) (fun h1 => wb_J6_put_2_193 κ Q X v9 h1))
def wb_J6_put_2_216 (κ : Nat → Nat)  (Q : Option Nat → gh_H → Prop) (X : String → gh_H → Prop) (t0 : Option Nat) (t1 : Option Nat) (t2 : Option Nat) (t3 : Option Nat) (t4 : Int32) (h : gh_H) : Prop := (gh_RC h t0 11 (fun a1 => (wp_J6_addEntry κ a1 t1 t2 t3 t4 (fun h2 => (Q none h2)) X h)))
def wb_J6_put_2_196 (κ : Nat → Nat) (K123 : Nat → Option Nat → Option Nat → Int32 → Option Nat → Option Nat → gh_H → Prop) (Q : Option Nat → gh_H → Prop) (X : String → gh_H → Prop) (v0 : Nat) (v1 : Option Nat) (v2 : Option Nat) (v3 : Int32) (v4 : Option Nat) (v5 : Int32) (v6 : Option Nat) (v8 : Option Nat) (h : gh_H) : Prop := ((v4 = none → ((0 ≤ v5 → wb_J6_put_2_216 κ Q X (some v0) v1 v2 v6 (0 : Int32) h) ∧ (¬ 0 ≤ v5 → wb_J6_put_2_216 κ Q X (some v0) v1 v2 v6 (1 : Int32) h))) ∧ (¬ v4 = none → K123 v0 v1 v2 v3 v4 v8 h))
def wb_J6_put_2_123 (κ : Nat → Nat) (K123 : Nat → Option Nat → Option Nat → Int32 → Option Nat → Option Nat → gh_H → Prop) (Q : Option Nat → gh_H → Prop) (X : String → gh_H → Prop) (v0 : Nat) (v1 : Option Nat) (v2 : Option Nat) (v3 : Int32) (v4 : Option Nat) (v8 : Option Nat) (h : gh_H) : Prop := (gh_GR h v4 [(12, 0)] (fun x1 => (gh_RC h v8 15 (fun a2 => (wp_J25_compareTo κ a2 x1 (fun r3 h4 => ((0 ≤ r3 → ((r3 ≤ 0 → (gh_GR h4 v4 [(12, 1)] (fun x5 => ((v3 = 0 → ((x5 = none → wb_J6_put_2_187 κ Q X v2 v4 x5 h4) ∧ (¬ x5 = none → wb_J6_put_2_193 κ Q X x5 h4))) ∧ (¬ v3 = 0 → wb_J6_put_2_187 κ Q X v2 v4 x5 h4))))) ∧ (¬ r3 ≤ 0 → (gh_GR h4 v4 [(12, 3)] (fun x6 => wb_J6_put_2_196 κ K123 Q X v0 v1 v2 v3 x6 r3 v4 (some a2) h4))))) ∧ (¬ 0 ≤ r3 → (gh_GR h4 v4 [(12, 2)] (fun x7 => wb_J6_put_2_196 κ K123 Q X v0 v1 v2 v3 x7 r3 v4 (some a2) h4))))) X h)))))
def wl_J6_put_2_123 (κ : Nat → Nat)  (Q : Option Nat → gh_H → Prop) (X : String → gh_H → Prop) : Nat → Nat → Option Nat → Option Nat → Int32 → Option Nat → Option Nat → gh_H → Prop
  | 0 => fun _ _ _ _ _ _ _ => False
  | n + 1 => fun v0 v1 v2 v3 v4 v8 h => wb_J6_put_2_123 κ (wl_J6_put_2_123 κ Q X n) Q X v0 v1 v2 v3 v4 v8 h
def wp_J6_put_2 (κ : Nat → Nat) (v0 : Nat) (v1 : Option Nat) (v2 : Option Nat) (v3 : Int32) (Q : Option Nat → gh_H → Prop) (X : String → gh_H → Prop) (h : gh_H) : Prop := (gh_GR h (some v0) [(11, 3)] (fun x1 => ((x1 = none → (gh_RC h (some v0) 11 (fun _ => (wp_J6_addEntryToEmptyMap κ v0 v1 v2 (fun h7 => (Q none h7)) X h)))) ∧ (¬ x1 = none → (gh_GR h (some v0) [(11, 2)] (fun x2 => ((x2 = none → (wp_J17_requireNonNull κ v1 (fun r3 h4 => (gh_CK h4 v1 [15, 16, 17, 18] (∃ n : Nat, wl_J6_put_2_123 κ Q X n v0 v1 v2 v3 x1 v1 h4))) X h)) ∧ (¬ x2 = none → (gh_GR h x1 [(12, 0)] (fun x5 => False))))))))))
set_option maxHeartbeats 4000000 in
theorem wk_J6_put_2_193 {D : gh_D} {p : Program} {l : Launch} {e : Env} {s : State} {m : MethodId} {args : Array Value} {below : List Frame} {meth : Method} {c : Code} {h0 : gh_H} (M : gh_M D p l s m args meth c RJ6 cJ6_put_2 10 (gh_A h0 s.heap.size)) (hr : meth.sig.returnType = (some (.object "java/lang/Object"))) (hex : ∀ x ∈ c.exceptionTable.toList, False)   {Q : Option Nat → gh_H → Prop} {X : String → gh_H → Prop}   (v9 : Option Nat) (H : Heap) (locs : List Loc) (ls : Array Slot) (h : gh_H) (G : gh_Inv D h0 (gh_A h0 s.heap.size) s.heap s H locs h) (hl : gh_L ls 10 [(9, 1, va_rf v9)]) (hw : wb_J6_put_2_193 D.2.2 Q X v9 h) : W p l e rm_J6_put_2 s m args below meth c H locs 0 0 (vx_MQ below (gh_Qq Q D h0 s.heap.size) (gh_X X D h0 s.heap.size) args s 1 6 (gh_A h0 s.heap.size)) (F0 m 193 ls []) := by
  unfold wb_J6_put_2_193 at hw
  have hx := M.1.1
  have hb := M.1.2.1
  refine gh_aload hx hb dJ6_put_2_193 (gh_at hl 0 rfl) ?_
  exact gh_aret M G hr (Or.inl ⟨_, rfl⟩) hw (by exact Nat.le_of_ble_eq_true rfl) (by exact Nat.le_of_ble_eq_true rfl) dJ6_put_2_195
set_option maxHeartbeats 4000000 in
theorem wk_J6_put_2_187 {D : gh_D} {p : Program} {l : Launch} {e : Env} {s : State} {m : MethodId} {args : Array Value} {below : List Frame} {meth : Method} {c : Code} {h0 : gh_H} (M : gh_M D p l s m args meth c RJ6 cJ6_put_2 10 (gh_A h0 s.heap.size)) (hr : meth.sig.returnType = (some (.object "java/lang/Object"))) (hex : ∀ x ∈ c.exceptionTable.toList, False)   {Q : Option Nat → gh_H → Prop} {X : String → gh_H → Prop}   (v2 : Option Nat) (v4 : Option Nat) (v9 : Option Nat) (H : Heap) (locs : List Loc) (ls : Array Slot) (h : gh_H) (G : gh_Inv D h0 (gh_A h0 s.heap.size) s.heap s H locs h) (hl : gh_L ls 10 [(2, 1, va_rf v2), (4, 1, va_rf v4), (9, 1, va_rf v9)]) (hw : wb_J6_put_2_187 D.2.2 Q X v2 v4 v9 h) : W p l e rm_J6_put_2 s m args below meth c H locs 0 0 (vx_MQ below (gh_Qq Q D h0 s.heap.size) (gh_X X D h0 s.heap.size) args s 1 6 (gh_A h0 s.heap.size)) (F0 m 187 ls []) := by
  unfold wb_J6_put_2_187 at hw
  have hx := M.1.1
  have hb := M.1.2.1
  refine gh_aload hx hb dJ6_put_2_187 (gh_at hl 1 rfl) ?_
  refine gh_aload_n hx hb dJ6_put_2_189 rfl (gh_at hl 0 rfl) ?_
  refine gh_put M G hw fp_J6_58 (gh_narR _ _) (gh_fitR _ _) dJ6_put_2_190 (fun h1 H locs hw G => ?_)
  exact wk_J6_put_2_193 M hr hex  v9 _ _ _ _ G (gh_sub hl [2] rfl) hw
set_option maxHeartbeats 4000000 in
theorem wk_J6_put_2_216 {D : gh_D} {p : Program} {l : Launch} {e : Env} {s : State} {m : MethodId} {args : Array Value} {below : List Frame} {meth : Method} {c : Code} {h0 : gh_H} (M : gh_M D p l s m args meth c RJ6 cJ6_put_2 10 (gh_A h0 s.heap.size)) (hr : meth.sig.returnType = (some (.object "java/lang/Object"))) (hex : ∀ x ∈ c.exceptionTable.toList, False)   {Q : Option Nat → gh_H → Prop} {X : String → gh_H → Prop}   (t0 : Option Nat) (t1 : Option Nat) (t2 : Option Nat) (t3 : Option Nat) (t4 : Int32) (H : Heap) (locs : List Loc) (ls : Array Slot) (h : gh_H) (G : gh_Inv D h0 (gh_A h0 s.heap.size) s.heap s H locs h) (hl : gh_L ls 10 []) (hw : wb_J6_put_2_216 D.2.2 Q X t0 t1 t2 t3 t4 h) : W p l e rm_J6_put_2 s m args below meth c H locs 0 0 (vx_MQ below (gh_Qq Q D h0 s.heap.size) (gh_X X D h0 s.heap.size) args s 1 6 (gh_A h0 s.heap.size)) (F0 m 216 ls [.int t4, va_rf t3, va_rf t2, va_rf t1, va_rf t0]) := by
  unfold wb_J6_put_2_216 at hw
  have hx := M.1.1
  have hb := M.1.2.1
  obtain ⟨a1, lba1, fsa1, rfl, haa1, hw⟩ := hw
  refine gh_kv G (vx_runV M.1 (met_J6_addEntry l D _ _ _ _ _ _ _ _ _ hw M.2.2.2.2.2) (cwV 4 (gh_Mts M) (lw_V q1038 q1040 qs11 q48 q1041) rfl rfl rfl ⟨rfl, by decide, by decide, rfl⟩ ⟨Nat.le_of_ble_eq_true rfl, Nat.le_of_ble_eq_true rfl⟩) (gh_preV (As := [va_rf t1, va_rf t2, va_rf t3, .int t4]) M G (gh_rec M G haa1 rfl)) rfl rfl hl.1.1 rfl (lv_room (Nat.le_of_ble_eq_true rfl)) dJ6_put_2_216 ⟨(Nat.le_of_ble_eq_true rfl), (Nat.le_of_ble_eq_true rfl)⟩) (gh_out M hex (by exact Nat.le_of_ble_eq_true rfl) (by exact Nat.le_of_ble_eq_true rfl)) (fun h2 H locs hw G => ?_)
  refine gh_null hx hb dJ6_put_2_219 ?_
  exact gh_aret M G hr (Or.inl ⟨_, rfl⟩) hw (by exact Nat.le_of_ble_eq_true rfl) (by exact Nat.le_of_ble_eq_true rfl) dJ6_put_2_220
set_option maxHeartbeats 4000000 in
theorem wk_J6_put_2_196 {D : gh_D} {p : Program} {l : Launch} {e : Env} {s : State} {m : MethodId} {args : Array Value} {below : List Frame} {meth : Method} {c : Code} {h0 : gh_H} (M : gh_M D p l s m args meth c RJ6 cJ6_put_2 10 (gh_A h0 s.heap.size)) (hr : meth.sig.returnType = (some (.object "java/lang/Object"))) (hex : ∀ x ∈ c.exceptionTable.toList, False) {K123 : Nat → Option Nat → Option Nat → Int32 → Option Nat → Option Nat → gh_H → Prop}  {Q : Option Nat → gh_H → Prop} {X : String → gh_H → Prop} (k123 : ∀ (v0 : Nat) (v1 : Option Nat) (v2 : Option Nat) (v3 : Int32) (v4 : Option Nat) (v8 : Option Nat) (H : Heap) (locs : List Loc) (ls : Array Slot) (h : gh_H) (_ : gh_Inv D h0 (gh_A h0 s.heap.size) s.heap s H locs h) (_ : gh_L ls 10 [(0, 1, va_rf (some v0)), (1, 1, va_rf v1), (2, 1, va_rf v2), (3, 1, .int v3), (4, 1, va_rf v4), (8, 1, va_rf v8)]) (_ : K123 v0 v1 v2 v3 v4 v8 h), W p l e rm_J6_put_2 s m args below meth c H locs 0 0 (vx_MQ below (gh_Qq Q D h0 s.heap.size) (gh_X X D h0 s.heap.size) args s 1 6 (gh_A h0 s.heap.size)) (F0 m 123 ls []))  (v0 : Nat) (v1 : Option Nat) (v2 : Option Nat) (v3 : Int32) (v4 : Option Nat) (v5 : Int32) (v6 : Option Nat) (v8 : Option Nat) (H : Heap) (locs : List Loc) (ls : Array Slot) (h : gh_H) (G : gh_Inv D h0 (gh_A h0 s.heap.size) s.heap s H locs h) (hl : gh_L ls 10 [(0, 1, va_rf (some v0)), (1, 1, va_rf v1), (2, 1, va_rf v2), (3, 1, .int v3), (4, 1, va_rf v4), (5, 1, .int v5), (6, 1, va_rf v6), (8, 1, va_rf v8)]) (hw : wb_J6_put_2_196 D.2.2 K123 Q X v0 v1 v2 v3 v4 v5 v6 v8 h) : W p l e rm_J6_put_2 s m args below meth c H locs 0 0 (vx_MQ below (gh_Qq Q D h0 s.heap.size) (gh_X X D h0 s.heap.size) args s 1 6 (gh_A h0 s.heap.size)) (F0 m 196 ls []) := by
  unfold wb_J6_put_2_196 at hw
  have hx := M.1.1
  have hb := M.1.2.1
  refine gh_aload hx hb dJ6_put_2_196 (gh_at hl 4 rfl) ?_
  refine gh_ifnonnull (tgt := 123) hx hb dJ6_put_2_198 (by decide) (fun hc => ?_) (fun hc => ?_)
  · replace hw := hw.2 hc
    exact k123 v0 v1 v2 v3 v4 v8 _ _ _ _ G (gh_sub hl [0, 1, 2, 3, 4, 7] rfl) hw
  · replace hw := hw.1 hc
    refine gh_aload_n hx hb dJ6_put_2_201 rfl (gh_at hl 0 rfl) ?_
    refine gh_aload_n hx hb dJ6_put_2_202 rfl (gh_at hl 1 rfl) ?_
    refine gh_aload_n hx hb dJ6_put_2_203 rfl (gh_at hl 2 rfl) ?_
    refine gh_aload hx hb dJ6_put_2_204 (gh_at hl 6 rfl) ?_
    refine lv_iload hx hb dJ6_put_2_206 (gh_at hl 5 rfl) ?_
    refine lv_if_ge (tgt := 215) hx hb dJ6_put_2_208 (by decide) (fun hc => ?_) (fun hc => ?_)
    · replace hw := hw.1 hc
      refine lv_iconst (v := (0 : Int32)) hx hb dJ6_put_2_215 (by decide) ?_
      exact wk_J6_put_2_216 M hr hex  (some v0) v1 v2 v6 (0 : Int32) _ _ _ _ G (gh_sub hl [] rfl) hw
    · replace hw := hw.2 hc
      refine lv_iconst (v := (1 : Int32)) hx hb dJ6_put_2_211 (by decide) ?_
      refine lv_goto (tgt := 216) hx hb dJ6_put_2_212 (by decide) ?_
      exact wk_J6_put_2_216 M hr hex  (some v0) v1 v2 v6 (1 : Int32) _ _ _ _ G (gh_sub hl [] rfl) hw
set_option maxHeartbeats 4000000 in
theorem wk1_J6_put_2_123 {D : gh_D} {p : Program} {l : Launch} {e : Env} {s : State} {m : MethodId} {args : Array Value} {below : List Frame} {meth : Method} {c : Code} {h0 : gh_H} (M : gh_M D p l s m args meth c RJ6 cJ6_put_2 10 (gh_A h0 s.heap.size)) (hr : meth.sig.returnType = (some (.object "java/lang/Object"))) (hex : ∀ x ∈ c.exceptionTable.toList, False) {K123 : Nat → Option Nat → Option Nat → Int32 → Option Nat → Option Nat → gh_H → Prop}  {Q : Option Nat → gh_H → Prop} {X : String → gh_H → Prop} (k123 : ∀ (v0 : Nat) (v1 : Option Nat) (v2 : Option Nat) (v3 : Int32) (v4 : Option Nat) (v8 : Option Nat) (H : Heap) (locs : List Loc) (ls : Array Slot) (h : gh_H) (_ : gh_Inv D h0 (gh_A h0 s.heap.size) s.heap s H locs h) (_ : gh_L ls 10 [(0, 1, va_rf (some v0)), (1, 1, va_rf v1), (2, 1, va_rf v2), (3, 1, .int v3), (4, 1, va_rf v4), (8, 1, va_rf v8)]) (_ : K123 v0 v1 v2 v3 v4 v8 h), W p l e rm_J6_put_2 s m args below meth c H locs 0 0 (vx_MQ below (gh_Qq Q D h0 s.heap.size) (gh_X X D h0 s.heap.size) args s 1 6 (gh_A h0 s.heap.size)) (F0 m 123 ls []))  (v0 : Nat) (v1 : Option Nat) (v2 : Option Nat) (v3 : Int32) (v4 : Option Nat) (v8 : Option Nat) (H : Heap) (locs : List Loc) (ls : Array Slot) (h : gh_H) (G : gh_Inv D h0 (gh_A h0 s.heap.size) s.heap s H locs h) (hl : gh_L ls 10 [(0, 1, va_rf (some v0)), (1, 1, va_rf v1), (2, 1, va_rf v2), (3, 1, .int v3), (4, 1, va_rf v4), (8, 1, va_rf v8)]) (hw : wb_J6_put_2_123 D.2.2 K123 Q X v0 v1 v2 v3 v4 v8 h) : W p l e rm_J6_put_2 s m args below meth c H locs 0 0 (vx_MQ below (gh_Qq Q D h0 s.heap.size) (gh_X X D h0 s.heap.size) args s 1 6 (gh_A h0 s.heap.size)) (F0 m 123 ls []) := by
  unfold wb_J6_put_2_123 at hw
  have hx := M.1.1
  have hb := M.1.2.1
  refine gh_aload hx hb dJ6_put_2_123 (gh_at hl 4 rfl) ?_
  refine gh_astore (lv' := [(6, 1, va_rf v4), (0, 1, va_rf (some v0)), (1, 1, va_rf v1), (2, 1, va_rf v2), (3, 1, .int v3), (4, 1, va_rf v4), (8, 1, va_rf v8)]) hx hb dJ6_put_2_125 hl (by decide) rfl (fun ls hl => ?_)
  refine gh_aload hx hb dJ6_put_2_127 (gh_at hl 6 rfl) ?_
  refine gh_aload hx hb dJ6_put_2_129 (gh_at hl 5 rfl) ?_
  refine gh_getR M G hw fl_J6_105 dJ6_put_2_131 (fun x1 hw => ?_)
  obtain ⟨a2, lba2, fsa2, rfl, haa2, hw⟩ := hw
  refine gh_kFi G (vx_runF (C := "java/lang/Integer") (M.2.1.1.1 15 _ rfl).2 M.1 (met_J25_compareTo l D _ _ _ _ _ _ hw M.2.2.2.2.2) (va_cwF 1 (gh_Mts M) (gh_gF q938 q970 q972 q76 q974) rfl rfl rfl (M.2.2.1.2.1 _ (List.mem_of_getElem? (i := 14) rfl)) ⟨by decide, by decide, rfl⟩ ⟨Nat.le_of_ble_eq_true rfl, Nat.le_of_ble_eq_true rfl⟩) (gh_preV (As := [va_rf x1]) M G (gh_rec M G haa2 rfl)) rfl rfl hl.1.1 rfl (lv_room (Nat.le_of_ble_eq_true rfl)) dJ6_put_2_134 ⟨(Nat.le_of_ble_eq_true rfl), (Nat.le_of_ble_eq_true rfl)⟩) (gh_out M hex (by exact Nat.le_of_ble_eq_true rfl) (by exact Nat.le_of_ble_eq_true rfl)) (fun r3 h4 H locs hw G => ?_)
  refine gh_istore (lv' := [(5, 1, .int r3), (6, 1, va_rf v4), (0, 1, va_rf (some v0)), (1, 1, va_rf v1), (2, 1, va_rf v2), (3, 1, .int v3), (4, 1, va_rf v4), (8, 1, va_rf (some a2))]) hx hb dJ6_put_2_139 hl (by decide) rfl (fun ls hl => ?_)
  refine lv_iload hx hb dJ6_put_2_141 (gh_at hl 0 rfl) ?_
  refine lv_if_ge (tgt := 156) hx hb dJ6_put_2_143 (by decide) (fun hc => ?_) (fun hc => ?_)
  · replace hw := hw.1 hc
    refine lv_iload hx hb dJ6_put_2_156 (gh_at hl 0 rfl) ?_
    refine lv_if_le (tgt := 171) hx hb dJ6_put_2_158 (by decide) (fun hc => ?_) (fun hc => ?_)
    · replace hw := hw.1 hc
      refine gh_aload hx hb dJ6_put_2_171 (gh_at hl 6 rfl) ?_
      refine gh_getR M G hw fl_J6_58 dJ6_put_2_173 (fun x5 hw => ?_)
      refine gh_astore (lv' := [(9, 1, va_rf x5), (5, 1, .int r3), (6, 1, va_rf v4), (0, 1, va_rf (some v0)), (1, 1, va_rf v1), (2, 1, va_rf v2), (3, 1, .int v3), (4, 1, va_rf v4), (8, 1, va_rf (some a2))]) hx hb dJ6_put_2_176 hl (by decide) rfl (fun ls hl => ?_)
      refine lv_iload_n hx hb dJ6_put_2_178 rfl (gh_at hl 6 rfl) ?_
      refine lv_if_ne (tgt := 187) hx hb dJ6_put_2_179 (by decide) (fun hc => ?_) (fun hc => ?_)
      · replace hw := hw.2 hc
        exact wk_J6_put_2_187 M hr hex  v2 v4 x5 _ _ _ _ G (gh_sub hl [5, 7, 0] rfl) hw
      · replace hw := hw.1 hc
        refine gh_aload hx hb dJ6_put_2_182 (gh_at hl 0 rfl) ?_
        refine gh_ifnonnull (tgt := 193) hx hb dJ6_put_2_184 (by decide) (fun hc => ?_) (fun hc => ?_)
        · replace hw := hw.2 hc
          exact wk_J6_put_2_193 M hr hex  x5 _ _ _ _ G (gh_sub hl [0] rfl) hw
        · replace hw := hw.1 hc
          exact wk_J6_put_2_187 M hr hex  v2 v4 x5 _ _ _ _ G (gh_sub hl [5, 7, 0] rfl) hw
    · replace hw := hw.2 hc
      refine gh_aload hx hb dJ6_put_2_161 (gh_at hl 6 rfl) ?_
      refine gh_getR M G hw fl_J6_114 dJ6_put_2_163 (fun x6 hw => ?_)
      refine gh_astore (lv' := [(4, 1, va_rf x6), (5, 1, .int r3), (6, 1, va_rf v4), (0, 1, va_rf (some v0)), (1, 1, va_rf v1), (2, 1, va_rf v2), (3, 1, .int v3), (8, 1, va_rf (some a2))]) hx hb dJ6_put_2_166 hl (by decide) rfl (fun ls hl => ?_)
      refine lv_goto (tgt := 196) hx hb dJ6_put_2_168 (by decide) ?_
      exact wk_J6_put_2_196 M hr hex k123 v0 v1 v2 v3 x6 r3 v4 (some a2) _ _ _ _ G (gh_sub hl [3, 4, 5, 6, 0, 1, 2, 7] rfl) hw
  · replace hw := hw.2 hc
    refine gh_aload hx hb dJ6_put_2_146 (gh_at hl 6 rfl) ?_
    refine gh_getR M G hw fl_J6_111 dJ6_put_2_148 (fun x7 hw => ?_)
    refine gh_astore (lv' := [(4, 1, va_rf x7), (5, 1, .int r3), (6, 1, va_rf v4), (0, 1, va_rf (some v0)), (1, 1, va_rf v1), (2, 1, va_rf v2), (3, 1, .int v3), (8, 1, va_rf (some a2))]) hx hb dJ6_put_2_151 hl (by decide) rfl (fun ls hl => ?_)
    refine lv_goto (tgt := 196) hx hb dJ6_put_2_153 (by decide) ?_
    exact wk_J6_put_2_196 M hr hex k123 v0 v1 v2 v3 x7 r3 v4 (some a2) _ _ _ _ G (gh_sub hl [3, 4, 5, 6, 0, 1, 2, 7] rfl) hw
theorem wk_J6_put_2_123 {D : gh_D} {p : Program} {l : Launch} {e : Env} {s : State} {m : MethodId} {args : Array Value} {below : List Frame} {meth : Method} {c : Code} {h0 : gh_H} (M : gh_M D p l s m args meth c RJ6 cJ6_put_2 10 (gh_A h0 s.heap.size)) (hr : meth.sig.returnType = (some (.object "java/lang/Object"))) (hex : ∀ x ∈ c.exceptionTable.toList, False)   {Q : Option Nat → gh_H → Prop} {X : String → gh_H → Prop}   : ∀ (n : Nat) (v0 : Nat) (v1 : Option Nat) (v2 : Option Nat) (v3 : Int32) (v4 : Option Nat) (v8 : Option Nat) (H : Heap) (locs : List Loc) (ls : Array Slot) (h : gh_H) (_ : gh_Inv D h0 (gh_A h0 s.heap.size) s.heap s H locs h) (_ : gh_L ls 10 [(0, 1, va_rf (some v0)), (1, 1, va_rf v1), (2, 1, va_rf v2), (3, 1, .int v3), (4, 1, va_rf v4), (8, 1, va_rf v8)]) (_ : wl_J6_put_2_123 D.2.2 Q X n v0 v1 v2 v3 v4 v8 h), W p l e rm_J6_put_2 s m args below meth c H locs 0 0 (vx_MQ below (gh_Qq Q D h0 s.heap.size) (gh_X X D h0 s.heap.size) args s 1 6 (gh_A h0 s.heap.size)) (F0 m 123 ls []) := by
  intro fu
  induction fu with
  | zero => intro v0 v1 v2 v3 v4 v8 H locs ls h G hl hw; exact False.elim hw
  | succ n1 ih =>
    intro v0 v1 v2 v3 v4 v8 H locs ls h G hl hw
    exact wk1_J6_put_2_123 M hr hex ih  v0 v1 v2 v3 v4 v8 _ _ _ _ G hl hw
set_option maxHeartbeats 4000000 in
theorem met_J6_put_2 (l : Launch) (D : gh_D) (v0 : Nat) (v1 : Option Nat) (v2 : Option Nat) (v3 : Int32) (Q : Option Nat → gh_H → Prop) (X : String → gh_H → Prop) (h : gh_H) (sz : Nat) (hw : wp_J6_put_2 D.2.2 v0 v1 v2 v3 Q X h) (hst : l.stackTraces = false) : vx_Met l yJ6_put_2 (ws_ yJ6_put_2 cJ6_put_2 10 (some (.object "java/lang/Object"))) rm_J6_put_2 (gh_Pc D h sz [.ref v0, va_rf v1, va_rf v2, .int v3]) (gh_Qq Q D h sz) (gh_X X D h sz) 1 6 (gh_A h sz) := by
  refine vx_ofW (by decide) rfl (fun p e s m args below meth c s₁ B hml hex hP => ?_)
  obtain ⟨rfl, rfl, hK, hT, hE, G⟩ := gh_start hP
  have M : gh_M D p l s m _ meth c RJ6 cJ6_put_2 10 (gh_A h s.heap.size) := ⟨⟨B.exec, B.bytes, hml, findClass_of_methodNamed B.named, fun w hw => atoms_spec (ws := ws_ yJ6_put_2 cJ6_put_2 10 (some (.object "java/lang/Object"))) B.pre w (List.mem_cons_of_mem _ hw)⟩, hK, hT, hE, B.notSynchronized, hst⟩
  have hr := B.returns
  have hx := M.1.1
  have hb := M.1.2.1
  refine gh_enter (vs := [(1, .ref v0), (1, va_rf v1), (1, va_rf v2), (1, .int v3)]) (gh_w1 rfl (gh_w1 (gh_cat _) (gh_w1 (gh_cat _) (gh_w1 rfl gh_wn)))) (Nat.le_of_ble_eq_true rfl) (fun ls hl => ?_)
  replace hl : gh_L ls 10 [(0, 1, va_rf (some v0)), (1, 1, va_rf v1), (2, 1, va_rf v2), (3, 1, .int v3)] := hl
  unfold wp_J6_put_2 at hw
  refine gh_aload_n hx hb dJ6_put_2_0 rfl (gh_at hl 0 rfl) ?_
  refine gh_getR M G hw fl_J6_101 dJ6_put_2_1 (fun x1 hw => ?_)
  refine gh_astore (lv' := [(4, 1, va_rf x1), (0, 1, va_rf (some v0)), (1, 1, va_rf v1), (2, 1, va_rf v2), (3, 1, .int v3)]) hx hb dJ6_put_2_4 hl (by decide) rfl (fun ls hl => ?_)
  refine gh_aload hx hb dJ6_put_2_6 (gh_at hl 0 rfl) ?_
  refine gh_ifnonnull (tgt := 19) hx hb dJ6_put_2_8 (by decide) (fun hc => ?_) (fun hc => ?_)
  · replace hw := hw.2 hc
    refine gh_aload_n hx hb dJ6_put_2_19 rfl (gh_at hl 1 rfl) ?_
    refine gh_getR M G hw fl_J6_16 dJ6_put_2_20 (fun x2 hw => ?_)
    refine gh_astore (lv' := [(7, 1, va_rf x2), (4, 1, va_rf x1), (0, 1, va_rf (some v0)), (1, 1, va_rf v1), (2, 1, va_rf v2), (3, 1, .int v3)]) hx hb dJ6_put_2_23 hl (by decide) rfl (fun ls hl => ?_)
    refine gh_aload hx hb dJ6_put_2_25 (gh_at hl 0 rfl) ?_
    refine gh_ifnull (tgt := 112) hx hb dJ6_put_2_27 (by decide) (fun hc => ?_) (fun hc => ?_)
    · replace hw := hw.1 hc
      refine gh_aload_n hx hb dJ6_put_2_112 rfl (gh_at hl 3 rfl) ?_
      refine gh_kq G (vx_runS M.1 (met_J17_requireNonNull l D _ _ _ _ _ hw M.2.2.2.2.2) (va_cwS 1 (gh_Mts M) (lw_S q1035 q1036 q63 q1037) rfl rfl rfl ⟨by decide, by decide, rfl⟩ ⟨Nat.le_of_ble_eq_true rfl, Nat.le_of_ble_eq_true rfl⟩) (gh_pre M G (As := [va_rf v1])) rfl rfl hl.1.1 rfl (lv_room (Nat.le_of_ble_eq_true rfl)) dJ6_put_2_113 ⟨(Nat.le_of_ble_eq_true rfl), (Nat.le_of_ble_eq_true rfl)⟩) (gh_out M hex (by exact Nat.le_of_ble_eq_true rfl) (by exact Nat.le_of_ble_eq_true rfl)) (fun r3 h4 H locs hw G => ?_)
      refine lv_pop hx hb dJ6_put_2_116 (gh_cat _) ?_
      refine gh_aload_n hx hb dJ6_put_2_117 rfl (gh_at hl 3 rfl) ?_
      refine gh_cast (cis := [15, 16, 17, 18]) M G hw q936 (List.forall_mem_cons.mpr ⟨⟨_, rfl, Or.inr (List.mem_of_getElem? (i := 53) rfl)⟩, List.forall_mem_cons.mpr ⟨⟨_, rfl, Or.inr (List.mem_of_getElem? (i := 133) rfl)⟩, List.forall_mem_cons.mpr ⟨⟨_, rfl, Or.inr (List.mem_of_getElem? (i := 138) rfl)⟩, List.forall_mem_cons.mpr ⟨⟨_, rfl, Or.inr (List.mem_of_getElem? (i := 143) rfl)⟩, fun _ h => absurd h List.not_mem_nil⟩⟩⟩⟩) dJ6_put_2_118 (fun hw => ?_)
      refine gh_astore (lv' := [(8, 1, va_rf v1), (7, 1, va_rf x2), (4, 1, va_rf x1), (0, 1, va_rf (some v0)), (1, 1, va_rf v1), (2, 1, va_rf v2), (3, 1, .int v3)]) hx hb dJ6_put_2_121 hl (by decide) rfl (fun ls hl => ?_)
      obtain ⟨n, hw⟩ := hw
      exact wk_J6_put_2_123 M hr hex  n v0 v1 v2 v3 x1 v1 _ _ _ _ G (gh_sub hl [3, 4, 5, 6, 2, 0] rfl) hw
    · replace hw := hw.2 hc
      refine gh_aload hx hb dJ6_put_2_30 (gh_at hl 1 rfl) ?_
      refine gh_astore (lv' := [(6, 1, va_rf x1), (7, 1, va_rf x2), (4, 1, va_rf x1), (0, 1, va_rf (some v0)), (1, 1, va_rf v1), (2, 1, va_rf v2), (3, 1, .int v3)]) hx hb dJ6_put_2_32 hl (by decide) rfl (fun ls hl => ?_)
      refine gh_aload hx hb dJ6_put_2_34 (gh_at hl 1 rfl) ?_
      refine gh_aload_n hx hb dJ6_put_2_36 rfl (gh_at hl 4 rfl) ?_
      refine gh_aload hx hb dJ6_put_2_37 (gh_at hl 2 rfl) ?_
      refine gh_getR M G hw fl_J6_105 dJ6_put_2_39 (fun x5 hw => ?_)
      exact hw.elim
  · replace hw := hw.1 hc
    refine gh_aload_n hx hb dJ6_put_2_11 rfl (gh_at hl 1 rfl) ?_
    refine gh_aload_n hx hb dJ6_put_2_12 rfl (gh_at hl 2 rfl) ?_
    refine gh_aload_n hx hb dJ6_put_2_13 rfl (gh_at hl 3 rfl) ?_
    obtain ⟨a6, lba6, fsa6, hra6, haa6, hw⟩ := hw
    rw [← Option.some.inj hra6] at haa6
    refine gh_kv G (vx_runV M.1 (met_J6_addEntryToEmptyMap l D _ _ _ _ _ _ _ hw M.2.2.2.2.2) (cwV 2 (gh_Mts M) (lw_V q928 q930 qs10 q48 q931) rfl rfl rfl ⟨rfl, by decide, by decide, rfl⟩ ⟨Nat.le_of_ble_eq_true rfl, Nat.le_of_ble_eq_true rfl⟩) (gh_preV (As := [va_rf v1, va_rf v2]) M G (gh_rec M G haa6 rfl)) rfl rfl hl.1.1 rfl (lv_room (Nat.le_of_ble_eq_true rfl)) dJ6_put_2_14 ⟨(Nat.le_of_ble_eq_true rfl), (Nat.le_of_ble_eq_true rfl)⟩) (gh_out M hex (by exact Nat.le_of_ble_eq_true rfl) (by exact Nat.le_of_ble_eq_true rfl)) (fun h7 H locs hw G => ?_)
    refine gh_null hx hb dJ6_put_2_17 ?_
    exact gh_aret M G hr (Or.inl ⟨_, rfl⟩) hw (by exact Nat.le_of_ble_eq_true rfl) (by exact Nat.le_of_ble_eq_true rfl) dJ6_put_2_18
/-! java/util/TreeMap.put (Ljava/lang/Object;Ljava/lang/Object;)Ljava/lang/Object; -/
def rm_J6_put : Room := { frames := 7, cells := 1, slots := 6, locals := 176 }
def wp_J6_put (κ : Nat → Nat) (v0 : Nat) (v1 : Option Nat) (v2 : Option Nat) (Q : Option Nat → gh_H → Prop) (X : String → gh_H → Prop) (h : gh_H) : Prop := (gh_RC h (some v0) 11 (fun _ => (wp_J6_put_2 κ v0 v1 v2 (1 : Int32) (fun r2 h3 => (Q r2 h3)) X h)))
set_option maxHeartbeats 4000000 in
theorem met_J6_put (l : Launch) (D : gh_D) (v0 : Nat) (v1 : Option Nat) (v2 : Option Nat) (Q : Option Nat → gh_H → Prop) (X : String → gh_H → Prop) (h : gh_H) (sz : Nat) (hw : wp_J6_put D.2.2 v0 v1 v2 Q X h) (hst : l.stackTraces = false) : vx_Met l yJ6_put (ws_ yJ6_put cJ6_put 3 (some (.object "java/lang/Object"))) rm_J6_put (gh_Pc D h sz [.ref v0, va_rf v1, va_rf v2]) (gh_Qq Q D h sz) (gh_X X D h sz) 1 6 (gh_A h sz) := by
  refine vx_ofW (by decide) rfl (fun p e s m args below meth c s₁ B hml hex hP => ?_)
  obtain ⟨rfl, rfl, hK, hT, hE, G⟩ := gh_start hP
  have M : gh_M D p l s m _ meth c RJ6 cJ6_put 3 (gh_A h s.heap.size) := ⟨⟨B.exec, B.bytes, hml, findClass_of_methodNamed B.named, fun w hw => atoms_spec (ws := ws_ yJ6_put cJ6_put 3 (some (.object "java/lang/Object"))) B.pre w (List.mem_cons_of_mem _ hw)⟩, hK, hT, hE, B.notSynchronized, hst⟩
  have hr := B.returns
  have hx := M.1.1
  have hb := M.1.2.1
  refine gh_enter (vs := [(1, .ref v0), (1, va_rf v1), (1, va_rf v2)]) (gh_w1 rfl (gh_w1 (gh_cat _) (gh_w1 (gh_cat _) gh_wn))) (Nat.le_of_ble_eq_true rfl) (fun ls hl => ?_)
  replace hl : gh_L ls 3 [(0, 1, va_rf (some v0)), (1, 1, va_rf v1), (2, 1, va_rf v2)] := hl
  unfold wp_J6_put at hw
  refine gh_aload_n hx hb dJ6_put_0 rfl (gh_at hl 0 rfl) ?_
  refine gh_aload_n hx hb dJ6_put_1 rfl (gh_at hl 1 rfl) ?_
  refine gh_aload_n hx hb dJ6_put_2 rfl (gh_at hl 2 rfl) ?_
  refine lv_iconst (v := (1 : Int32)) hx hb dJ6_put_3 (by decide) ?_
  obtain ⟨a1, lba1, fsa1, hra1, haa1, hw⟩ := hw
  rw [← Option.some.inj hra1] at haa1
  refine gh_kq G (vx_runV M.1 (met_J6_put_2 l D _ _ _ _ _ _ _ _ hw M.2.2.2.2.2) (cwV 3 (gh_Mts M) (lw_V q924 q926 qs9 q48 q927) rfl rfl rfl ⟨rfl, by decide, by decide, rfl⟩ ⟨Nat.le_of_ble_eq_true rfl, Nat.le_of_ble_eq_true rfl⟩) (gh_preV (As := [va_rf v1, va_rf v2, .int (1 : Int32)]) M G (gh_rec M G haa1 rfl)) rfl rfl hl.1.1 rfl (lv_room (Nat.le_of_ble_eq_true rfl)) dJ6_put_4 ⟨(Nat.le_of_ble_eq_true rfl), (Nat.le_of_ble_eq_true rfl)⟩) (gh_out M hex (by exact Nat.le_of_ble_eq_true rfl) (by exact Nat.le_of_ble_eq_true rfl)) (fun r2 h3 H locs hw G => ?_)
  exact gh_aret M G hr (Or.inl ⟨_, rfl⟩) hw (by exact Nat.le_of_ble_eq_true rfl) (by exact Nat.le_of_ble_eq_true rfl) dJ6_put_7
/-! java/util/TreeSet.add (Ljava/lang/Object;)Z -/
def rm_J4_add : Room := { frames := 8, cells := 1, slots := 6, locals := 198 }
def wb_J4_add_21 (κ : Nat → Nat)  (Q : Int32 → gh_H → Prop) (X : String → gh_H → Prop) (t0 : Int32) (h : gh_H) : Prop := (narrow .boolean (.int t0) = .int t0 ∧ Q t0 h)
def wp_J4_add (κ : Nat → Nat) (v0 : Nat) (v1 : Option Nat) (Q : Int32 → gh_H → Prop) (X : String → gh_H → Prop) (h : gh_H) : Prop := (gh_GR h (some v0) [(10, 0)] (fun x1 => (gh_RC h x1 11 (fun a2 => (wp_J6_put κ a2 v1 (some (κ 3)) (fun r3 h4 => ((r3 = none → wb_J4_add_21 κ Q X (1 : Int32) h4) ∧ (¬ r3 = none → wb_J4_add_21 κ Q X (0 : Int32) h4))) X h)))))
set_option maxHeartbeats 4000000 in
theorem wk_J4_add_21 {D : gh_D} {p : Program} {l : Launch} {e : Env} {s : State} {m : MethodId} {args : Array Value} {below : List Frame} {meth : Method} {c : Code} {h0 : gh_H} (M : gh_M D p l s m args meth c RJ4 cJ4_add 2 (gh_A h0 s.heap.size)) (hr : meth.sig.returnType = (some .boolean)) (hex : ∀ x ∈ c.exceptionTable.toList, False)   {Q : Int32 → gh_H → Prop} {X : String → gh_H → Prop}   (t0 : Int32) (H : Heap) (locs : List Loc) (ls : Array Slot) (h : gh_H) (G : gh_Inv D h0 (gh_A h0 s.heap.size) s.heap s H locs h) (hl : gh_L ls 2 []) (hw : wb_J4_add_21 D.2.2 Q X t0 h) : W p l e rm_J4_add s m args below meth c H locs 1 6 (vx_MQ below (gh_Qi Q D h0 s.heap.size) (gh_X X D h0 s.heap.size) args s 1 6 (gh_A h0 s.heap.size)) (F0 m 21 ls [.int t0]) := by
  unfold wb_J4_add_21 at hw
  have hx := M.1.1
  have hb := M.1.2.1
  exact gh_iret M G hr hw.1 hw.2 (by exact Nat.le_of_ble_eq_true rfl) (by exact Nat.le_of_ble_eq_true rfl) dJ4_add_21
set_option maxHeartbeats 4000000 in
theorem met_J4_add (l : Launch) (D : gh_D) (v0 : Nat) (v1 : Option Nat) (Q : Int32 → gh_H → Prop) (X : String → gh_H → Prop) (h : gh_H) (sz : Nat) (hw : wp_J4_add D.2.2 v0 v1 Q X h) (hst : l.stackTraces = false) : vx_Met l yJ4_add (ws_ yJ4_add cJ4_add 2 (some .boolean)) rm_J4_add (gh_Pc D h sz [.ref v0, va_rf v1]) (gh_Qi Q D h sz) (gh_X X D h sz) 1 6 (gh_A h sz) := by
  refine vx_ofW (by decide) rfl (fun p e s m args below meth c s₁ B hml hex hP => ?_)
  obtain ⟨rfl, rfl, hK, hT, hE, G⟩ := gh_start hP
  have M : gh_M D p l s m _ meth c RJ4 cJ4_add 2 (gh_A h s.heap.size) := ⟨⟨B.exec, B.bytes, hml, findClass_of_methodNamed B.named, fun w hw => atoms_spec (ws := ws_ yJ4_add cJ4_add 2 (some .boolean)) B.pre w (List.mem_cons_of_mem _ hw)⟩, hK, hT, hE, B.notSynchronized, hst⟩
  have hr := B.returns
  have hx := M.1.1
  have hb := M.1.2.1
  refine gh_enter (vs := [(1, .ref v0), (1, va_rf v1)]) (gh_w1 rfl (gh_w1 (gh_cat _) gh_wn)) (Nat.le_of_ble_eq_true rfl) (fun ls hl => ?_)
  replace hl : gh_L ls 2 [(0, 1, va_rf (some v0)), (1, 1, va_rf v1)] := hl
  unfold wp_J4_add at hw
  refine gh_aload_n hx hb dJ4_add_0 rfl (gh_at hl 0 rfl) ?_
  refine gh_getR M G hw fl_J4_7 dJ4_add_1 (fun x1 hw => ?_)
  refine gh_aload_n hx hb dJ4_add_4 rfl (gh_at hl 1 rfl) ?_
  refine gh_gets (v := va_rf (some (D.2.2 3))) M G M.2.2.2.1.2.2.2.2.1 q914 rfl dJ4_add_5 ?_
  obtain ⟨a2, lba2, fsa2, rfl, haa2, hw⟩ := hw
  refine gh_kFq G (gh_runIU (C := "java/util/TreeMap") M (met_J6_put l D _ _ _ _ _ _ _ hw M.2.2.2.2.2) (lw_meth q923) rfl rfl rfl ⟨Nat.le_of_ble_eq_true rfl, Nat.le_of_ble_eq_true rfl⟩ (List.mem_of_getElem? (i := 1) rfl) (List.mem_of_getElem? (i := 1) rfl) (List.mem_of_getElem? (i := 191) rfl) (List.mem_of_getElem? (i := 190) rfl) q919 (by decide) q921 q48 (List.mem_of_getElem? (i := 103) rfl) (List.mem_of_getElem? (i := 102) rfl) (List.mem_of_getElem? (i := 99) rfl) rfl (gh_preV (As := [va_rf v1, va_rf (some (D.2.2 3))]) M G (gh_rec M G haa2 rfl)) rfl hl.1.1 rfl (Nat.le_of_ble_eq_true rfl) dJ4_add_8 ⟨(Nat.le_of_ble_eq_true rfl), (Nat.le_of_ble_eq_true rfl)⟩) (gh_out M hex (by exact Nat.le_of_ble_eq_true rfl) (by exact Nat.le_of_ble_eq_true rfl)) (fun r3 h4 H locs hw G => ?_)
  refine gh_ifnonnull (tgt := 20) hx hb dJ4_add_13 (by decide) (fun hc => ?_) (fun hc => ?_)
  · replace hw := hw.2 hc
    refine lv_iconst (v := (0 : Int32)) hx hb dJ4_add_20 (by decide) ?_
    exact wk_J4_add_21 M hr hex  (0 : Int32) _ _ _ _ G (gh_sub hl [] rfl) hw
  · replace hw := hw.1 hc
    refine lv_iconst (v := (1 : Int32)) hx hb dJ4_add_16 (by decide) ?_
    refine lv_goto (tgt := 21) hx hb dJ4_add_17 (by decide) ?_
    exact wk_J4_add_21 M hr hex  (1 : Int32) _ _ _ _ G (gh_sub hl [] rfl) hw
/-! BinderyDesk$SheetPile.add (I)V -/
def rm_X9_add : Room := { frames := 2, cells := 0, slots := 0, locals := 61 }
def wp_X9_add (κ : Nat → Nat) (v0 : Nat) (v1 : Int32) (Q : gh_H → Prop) (X : String → gh_H → Prop) (h : gh_H) : Prop := (gh_RC h (some v0) 3 (fun _ => (wp_X2_add κ v0 v1 (fun h2 => (gh_GR h2 (some v0) [(3, 1)] (fun x3 => (gh_RC h2 x3 2 (fun a4 => (wp_X2_add κ a4 v1 (fun h5 => (Q h5)) X h2)))))) X h)))
set_option maxHeartbeats 4000000 in
theorem met_X9_add (l : Launch) (D : gh_D) (v0 : Nat) (v1 : Int32) (Q : gh_H → Prop) (X : String → gh_H → Prop) (h : gh_H) (sz : Nat) (hw : wp_X9_add D.2.2 v0 v1 Q X h) (hst : l.stackTraces = false) : vx_Met l yX9_add (ws_ yX9_add cX9_add 2 none) rm_X9_add (gh_Pc D h sz [.ref v0, .int v1]) (gh_Qv Q D h sz) (gh_X X D h sz) 0 0 (gh_A h sz) := by
  refine vx_ofW (by decide) rfl (fun p e s m args below meth c s₁ B hml hex hP => ?_)
  obtain ⟨rfl, rfl, hK, hT, hE, G⟩ := gh_start hP
  have M : gh_M D p l s m _ meth c RX9 cX9_add 2 (gh_A h s.heap.size) := ⟨⟨B.exec, B.bytes, hml, findClass_of_methodNamed B.named, fun w hw => atoms_spec (ws := ws_ yX9_add cX9_add 2 none) B.pre w (List.mem_cons_of_mem _ hw)⟩, hK, hT, hE, B.notSynchronized, hst⟩
  have hr := B.returns
  have hx := M.1.1
  have hb := M.1.2.1
  refine gh_enter (vs := [(1, .ref v0), (1, .int v1)]) (gh_w1 rfl (gh_w1 rfl gh_wn)) (Nat.le_of_ble_eq_true rfl) (fun ls hl => ?_)
  replace hl : gh_L ls 2 [(0, 1, va_rf (some v0)), (1, 1, .int v1)] := hl
  unfold wp_X9_add at hw
  refine gh_aload_n hx hb dX9_add_0 rfl (gh_at hl 0 rfl) ?_
  refine lv_iload_n hx hb dX9_add_1 rfl (gh_at hl 1 rfl) ?_
  obtain ⟨a1, lba1, fsa1, hra1, haa1, hw⟩ := hw
  rw [← Option.some.inj hra1] at haa1
  refine gh_kv G (gh_runSP (C := "BinderyDesk$SheetPile") M (met_X2_add l D _ _ _ _ _ _ hw M.2.2.2.2.2) (lw_meth q699) rfl rfl rfl ⟨Nat.le_of_ble_eq_true rfl, Nat.le_of_ble_eq_true rfl⟩ q693 q694 q696 q697 rfl q698 q49 (by decide) rfl (gh_preV (As := [.int v1]) M G (gh_rec M G haa1 rfl)) rfl hl.1.1 rfl (Nat.le_of_ble_eq_true rfl) dX9_add_2 ⟨(Nat.le_of_ble_eq_true rfl), (Nat.le_of_ble_eq_true rfl)⟩) (gh_out M hex (by exact Nat.le_of_ble_eq_true rfl) (by exact Nat.le_of_ble_eq_true rfl)) (fun h2 H locs hw G => ?_)
  refine gh_aload_n hx hb dX9_add_5 rfl (gh_at hl 0 rfl) ?_
  refine gh_getR M G hw fl_X9_7 dX9_add_6 (fun x3 hw => ?_)
  refine lv_iload_n hx hb dX9_add_9 rfl (gh_at hl 1 rfl) ?_
  obtain ⟨a4, lba4, fsa4, rfl, haa4, hw⟩ := hw
  refine gh_kv G (vx_runV M.1 (met_X2_add l D _ _ _ _ _ _ hw M.2.2.2.2.2) (cwV 1 (gh_Mts M) (lw_V q703 q698 q1846 q49 q699) rfl rfl rfl ⟨rfl, by decide, by decide, rfl⟩ ⟨Nat.le_of_ble_eq_true rfl, Nat.le_of_ble_eq_true rfl⟩) (gh_preV (As := [.int v1]) M G (gh_rec M G haa4 rfl)) rfl rfl hl.1.1 rfl (lv_room (Nat.le_of_ble_eq_true rfl)) dX9_add_10 ⟨(Nat.le_of_ble_eq_true rfl), (Nat.le_of_ble_eq_true rfl)⟩) (gh_out M hex (by exact Nat.le_of_ble_eq_true rfl) (by exact Nat.le_of_ble_eq_true rfl)) (fun h5 H locs hw G => ?_)
  exact gh_vret M G hr hw (by exact Nat.le_of_ble_eq_true rfl) (by exact Nat.le_of_ble_eq_true rfl) dX9_add_13
/-! BinderyDesk.print (III)I -/
theorem fp_X1_170 : gh_FP RX1 170 [(0, 10)] (.object "BinderyDesk$Binding") false := by
  refine ⟨fl_X1_170, fun q hq => ?_⟩
  simp only [List.mem_cons, List.not_mem_nil, or_false] at hq
  subst hq
  exact ⟨_, rfl, rfl, by decide +kernel, fun h => by cases h⟩
theorem fl_X1_205 : gh_FL RX1 205 [(0, 7)] := by
  intro args s hts tb q hq
  simp only [List.mem_cons, List.not_mem_nil, or_false] at hq
  subst hq
  exact ⟨_, "BinderyDesk", rfl, by decide, Or.inl (hts _ q189), (fun x h => h)⟩
theorem fp_X1_205 : gh_FP RX1 205 [(0, 7)] (.int) false := by
  refine ⟨fl_X1_205, fun q hq => ?_⟩
  simp only [List.mem_cons, List.not_mem_nil, or_false] at hq
  subst hq
  exact ⟨_, rfl, rfl, by decide +kernel, fun h => by cases h⟩
theorem fl_X1_208 : gh_FL RX1 208 [(0, 8)] := by
  intro args s hts tb q hq
  simp only [List.mem_cons, List.not_mem_nil, or_false] at hq
  subst hq
  exact ⟨_, "BinderyDesk", rfl, by decide, Or.inl (hts _ q190), (fun x h => h)⟩
theorem fp_X1_208 : gh_FP RX1 208 [(0, 8)] (.long) false := by
  refine ⟨fl_X1_208, fun q hq => ?_⟩
  simp only [List.mem_cons, List.not_mem_nil, or_false] at hq
  subst hq
  exact ⟨_, rfl, rfl, by decide +kernel, fun h => by cases h⟩
theorem fl_X1_179 : gh_FL RX1 179 [(7, 2)] := by
  intro args s hts tb q hq
  simp only [List.mem_cons, List.not_mem_nil, or_false] at hq
  subst hq
  exact ⟨_, "BinderyDesk$Job", rfl, by decide, Or.inr ⟨"BinderyDesk", va_Nw.use rfl (tb.1 _ (List.mem_of_getElem? (i := 124) rfl))⟩, (fun x h => h)⟩
def rm_X1_print : Room := { frames := 10, cells := 11, slots := 51, locals := 219 }
def wb_X1_print_70 (κ : Nat → Nat) (K70 : Nat → Nat → Int32 → Int32 → Option Nat → Option Nat → Int32 → Int32 → gh_H → Prop) (it70 : Nat) (Q : Int32 → gh_H → Prop) (X : String → gh_H → Prop) (v0 : Nat) (v2 : Int32) (v3 : Int32) (v4 : Option Nat) (v5 : Option Nat) (v6 : Int32) (v7 : Int32) (h : gh_H) : Prop := (gh_GR h (some v0) [(0, 9)] (fun x1 => (gh_LN h x1 (fun x2 => ((x2 ≤ v7 → (gh_GR h v4 [(7, 0)] (fun x3 => (gh_PV h (some v0) [(0, 10)] (va_rf x3) (fun h4 => (gh_RC h4 v5 3 (fun a5 => (wp_X9_add κ a5 v3 (fun h6 => (gh_GI h6 (some v0) [(0, 7)] (fun x7 => (gh_PV h6 (some v0) [(0, 7)] (.int (x7 + (1 : Int32))) (fun h8 => (gh_GJ h8 (some v0) [(0, 8)] (fun x9 => (gh_PV h8 (some v0) [(0, 8)] (.long (x9 + (v6.toInt64))) (fun h10 => (Q v6 h10)))))))))) X h4)))))))) ∧ (¬ x2 ≤ v7 → (gh_GR h (some v0) [(0, 9)] (fun x11 => (gh_RC h v4 7 (fun a12 => (wp_X7_plate κ a12 v2 v7 (fun r13 h14 => (gh_SI h14 x11 v7 r13 (fun h15 => (gh_GR h15 (some v0) [(0, 4)] (fun x16 => (gh_GR h15 (some v0) [(0, 9)] (fun x17 => (gh_LI h15 x17 v7 (fun x18 => (wp_J25_valueOf κ x18 (fun r19 h20 => (gh_RC h20 x16 10 (fun a21 => (wp_J4_add κ a21 r19 (fun r22 h23 => K70 (it70 + 1) v0 v2 v3 (some a12) v5 v6 (v7 + (1 : Int32)) h23) X h20)))) X h15)))))))))) X h)))))))))))
def wl_X1_print_70 (κ : Nat → Nat)  (Q : Int32 → gh_H → Prop) (X : String → gh_H → Prop) : Nat → Nat → Nat → Int32 → Int32 → Option Nat → Option Nat → Int32 → Int32 → gh_H → Prop
  | 0 => fun _ _ _ _ _ _ _ _ _ => False
  | n + 1 => fun it70 v0 v2 v3 v4 v5 v6 v7 h => it70 ≤ 2 ∧ wb_X1_print_70 κ (wl_X1_print_70 κ Q X n) it70 Q X v0 v2 v3 v4 v5 v6 v7 h
def wb_X1_print_55 (κ : Nat → Nat)  (Q : Int32 → gh_H → Prop) (X : String → gh_H → Prop) (v0 : Nat) (v2 : Int32) (v3 : Int32) (v4 : Option Nat) (v5 : Option Nat) (t0 : Int32) (h : gh_H) : Prop := (wp_X1_requirePossible κ t0 (fun h1 => (gh_RC h1 (some v0) 0 (fun _ => (wp_X1_makeready κ v0 v4 v2 (fun r3 h4 => (∃ n : Nat, wl_X1_print_70 κ Q X n 0 v0 v2 v3 v4 v5 r3 (0 : Int32) h4)) X h1)))) X h)
def wb_X1_print_54 (κ : Nat → Nat)  (Q : Int32 → gh_H → Prop) (X : String → gh_H → Prop) (v0 : Nat) (v2 : Int32) (v3 : Int32) (v4 : Option Nat) (v5 : Option Nat) (h : gh_H) : Prop := wb_X1_print_55 κ Q X v0 v2 v3 v4 v5 (0 : Int32) h
def wp_X1_print (κ : Nat → Nat) (v0 : Nat) (v1 : Int32) (v2 : Int32) (v3 : Int32) (Q : Int32 → gh_H → Prop) (X : String → gh_H → Prop) (h : gh_H) : Prop := (gh_RC h (some v0) 0 (fun _ => (wp_X1_jobWithSheet κ v0 v1 v2 (fun r2 h3 => (wp_X1_requireCount κ v3 (fun h4 => (gh_GR h4 r2 [(7, 2)] (fun x5 => (gh_RC h4 x5 8 (fun a6 => (wp_J2_get κ a6 v2 (fun r7 h8 => (gh_CK h8 r7 [3] (gh_RC h8 r2 7 (fun a9 => (wp_X7_isApproved κ a9 v2 (fun r10 h11 => ((r10 = 0 → wb_X1_print_54 κ Q X v0 v2 v3 (some a9) r7 h11) ∧ (¬ r10 = 0 → (gh_RC h11 r7 3 (fun a12 => (wp_X8_stock κ a12 (fun r13 h14 => (((9999 : Int32) < (r13 + v3) → wb_X1_print_54 κ Q X v0 v2 v3 (some a9) (some a12) h14) ∧ (¬ (9999 : Int32) < (r13 + v3) → wb_X1_print_55 κ Q X v0 v2 v3 (some a9) (some a12) (1 : Int32) h14))) X h11)))))) X h8))))) X h4)))))) X h3)) X h)))
set_option maxHeartbeats 4000000 in
theorem wk1_X1_print_70 {D : gh_D} {p : Program} {l : Launch} {e : Env} {s : State} {m : MethodId} {args : Array Value} {below : List Frame} {meth : Method} {c : Code} {h0 : gh_H} (M : gh_M D p l s m args meth c RX1 cX1_print 8 (gh_A h0 s.heap.size)) (hr : meth.sig.returnType = (some .int)) (hex : ∀ x ∈ c.exceptionTable.toList, False) {K70 : Nat → Nat → Int32 → Int32 → Option Nat → Option Nat → Int32 → Int32 → gh_H → Prop} {it70 : Nat} {Q : Int32 → gh_H → Prop} {X : String → gh_H → Prop} (k70 : ∀ (it70 : Nat) (v0 : Nat) (v2 : Int32) (v3 : Int32) (v4 : Option Nat) (v5 : Option Nat) (v6 : Int32) (v7 : Int32) (H : Heap) (locs : List Loc) (ls : Array Slot) (h : gh_H) (_ : gh_Inv D h0 (gh_A h0 s.heap.size) s.heap s H locs h) (_ : gh_L ls 8 [(0, 1, va_rf (some v0)), (2, 1, .int v2), (3, 1, .int v3), (4, 1, va_rf v4), (5, 1, va_rf v5), (6, 1, .int v6), (7, 1, .int v7)]) (_ : K70 it70 v0 v2 v3 v4 v5 v6 v7 h), W p l e rm_X1_print s m args below meth c H locs (5 + it70 * 2) (30 + it70 * 7) (vx_MQ below (gh_Qi Q D h0 s.heap.size) (gh_X X D h0 s.heap.size) args s 11 51 (gh_A h0 s.heap.size)) (F0 m 70 ls [])) (hit70 : it70 ≤ 2) (v0 : Nat) (v2 : Int32) (v3 : Int32) (v4 : Option Nat) (v5 : Option Nat) (v6 : Int32) (v7 : Int32) (H : Heap) (locs : List Loc) (ls : Array Slot) (h : gh_H) (G : gh_Inv D h0 (gh_A h0 s.heap.size) s.heap s H locs h) (hl : gh_L ls 8 [(0, 1, va_rf (some v0)), (2, 1, .int v2), (3, 1, .int v3), (4, 1, va_rf v4), (5, 1, va_rf v5), (6, 1, .int v6), (7, 1, .int v7)]) (hw : wb_X1_print_70 D.2.2 K70 it70 Q X v0 v2 v3 v4 v5 v6 v7 h) : W p l e rm_X1_print s m args below meth c H locs (5 + it70 * 2) (30 + it70 * 7) (vx_MQ below (gh_Qi Q D h0 s.heap.size) (gh_X X D h0 s.heap.size) args s 11 51 (gh_A h0 s.heap.size)) (F0 m 70 ls []) := by
  unfold wb_X1_print_70 at hw
  have hx := M.1.1
  have hb := M.1.2.1
  refine lv_iload hx hb dX1_print_70 (gh_at hl 6 rfl) ?_
  refine gh_aload_n hx hb dX1_print_72 rfl (gh_at hl 0 rfl) ?_
  refine gh_getR M G hw fl_X1_57 dX1_print_73 (fun x1 hw => ?_)
  refine gh_len M G hw dX1_print_76 (fun x2 hw => ?_)
  refine lv_icmp_ge (tgt := 119) hx hb dX1_print_77 (by decide) (fun hc => ?_) (fun hc => ?_)
  · replace hw := hw.1 hc
    refine gh_aload_n hx hb dX1_print_119 rfl (gh_at hl 0 rfl) ?_
    refine gh_aload hx hb dX1_print_120 (gh_at hl 3 rfl) ?_
    refine gh_getR M G hw fl_X1_159 dX1_print_122 (fun x3 hw => ?_)
    refine gh_put M G hw fp_X1_170 (gh_narR _ _) (gh_fitR _ _) dX1_print_125 (fun h4 H locs hw G => ?_)
    refine gh_aload hx hb dX1_print_128 (gh_at hl 4 rfl) ?_
    refine lv_iload_n hx hb dX1_print_130 rfl (gh_at hl 2 rfl) ?_
    obtain ⟨a5, lba5, fsa5, rfl, haa5, hw⟩ := hw
    refine gh_kv G (vx_runV M.1 (met_X9_add l D _ _ _ _ _ _ hw M.2.2.2.2.2) (cwV 1 (gh_Mts M) (lw_V q1069 q701 q1848 q73 q702) rfl rfl rfl ⟨rfl, by decide, by decide, rfl⟩ ⟨Nat.le_of_ble_eq_true rfl, Nat.le_of_ble_eq_true rfl⟩) (gh_preV (As := [.int v3]) M G (gh_rec M G haa5 rfl)) rfl rfl hl.1.1 rfl (lv_room (Nat.le_of_ble_eq_true rfl)) dX1_print_131 ⟨(by show _ ≤ 11; omega), (by show _ ≤ 51; omega)⟩) (gh_out M hex (by omega) (by omega)) (fun h6 H locs hw G => ?_)
    refine W.widen (k := 5 + it70 * 2) (n := 30 + it70 * 7) (by omega) (by omega) ?_
    refine gh_aload_n hx hb dX1_print_134 rfl (gh_at hl 0 rfl) ?_
    refine lv_dup hx hb dX1_print_135 (gh_cat _) ?_
    refine gh_getI M G hw fl_X1_205 dX1_print_136 (fun x7 hw => ?_)
    refine lv_iconst (v := (1 : Int32)) hx hb dX1_print_139 (by decide) ?_
    refine lv_iadd hx hb dX1_print_140 ?_
    refine gh_put M G hw fp_X1_205 rfl rfl dX1_print_141 (fun h8 H locs hw G => ?_)
    refine gh_aload_n hx hb dX1_print_144 rfl (gh_at hl 0 rfl) ?_
    refine lv_dup hx hb dX1_print_145 (gh_cat _) ?_
    refine gh_getJ M G hw fl_X1_208 dX1_print_146 (fun x9 hw => ?_)
    refine lv_iload hx hb dX1_print_149 (gh_at hl 5 rfl) ?_
    refine lv_i2l (v := (v6.toInt64)) hx hb dX1_print_151 rfl ?_
    refine lv_ladd hx hb dX1_print_152 ?_
    refine gh_put M G hw fp_X1_208 rfl rfl dX1_print_153 (fun h10 H locs hw G => ?_)
    refine lv_iload hx hb dX1_print_156 (gh_at hl 5 rfl) ?_
    exact gh_iret M G hr rfl hw (by omega) (by omega) dX1_print_158
  · replace hw := hw.2 hc
    refine gh_aload_n hx hb dX1_print_80 rfl (gh_at hl 0 rfl) ?_
    refine gh_getR M G hw fl_X1_57 dX1_print_81 (fun x11 hw => ?_)
    refine lv_iload hx hb dX1_print_84 (gh_at hl 6 rfl) ?_
    refine gh_aload hx hb dX1_print_86 (gh_at hl 3 rfl) ?_
    refine lv_iload_n hx hb dX1_print_88 rfl (gh_at hl 1 rfl) ?_
    refine lv_iload hx hb dX1_print_89 (gh_at hl 6 rfl) ?_
    obtain ⟨a12, lba12, fsa12, rfl, haa12, hw⟩ := hw
    refine gh_ki G (vx_runV M.1 (met_X7_plate l D _ _ _ _ _ _ _ hw M.2.2.2.2.2) (cwV 2 (gh_Mts M) (lw_V q881 q882 q883 q71 q884) rfl rfl rfl ⟨rfl, by decide, by decide, rfl⟩ ⟨Nat.le_of_ble_eq_true rfl, Nat.le_of_ble_eq_true rfl⟩) (gh_preV (As := [.int v2, .int v7]) M G (gh_rec M G haa12 rfl)) rfl rfl hl.1.1 rfl (lv_room (Nat.le_trans (gh_r1 rfl (gh_r1 (gh_cat _) gh_r0)) (Nat.le_of_ble_eq_true rfl : 2 ≤ 8))) dX1_print_91 ⟨(by show _ ≤ 11; omega), (by show _ ≤ 51; omega)⟩) (gh_out M hex (by omega) (by omega)) (fun r13 h14 H locs hw G => ?_)
    refine W.widen (k := 5 + it70 * 2) (n := 30 + it70 * 7) (by omega) (by omega) ?_
    refine gh_ias M G hw dX1_print_94 (fun h15 H locs hw G => ?_)
    refine gh_aload_n hx hb dX1_print_95 rfl (gh_at hl 0 rfl) ?_
    refine gh_getR M G hw fl_X1_43 dX1_print_96 (fun x16 hw => ?_)
    refine gh_aload_n hx hb dX1_print_99 rfl (gh_at hl 0 rfl) ?_
    refine gh_getR M G hw fl_X1_57 dX1_print_100 (fun x17 hw => ?_)
    refine lv_iload hx hb dX1_print_103 (gh_at hl 6 rfl) ?_
    refine gh_ial M G hw dX1_print_105 (fun x18 hw => ?_)
    refine gh_kq G (vx_runS M.1 (met_J25_valueOf l D _ _ _ _ _ hw M.2.2.2.2.2) (va_cwS 1 (gh_Mts M) (lw_S q890 q891 q76 q892) rfl rfl rfl ⟨by decide, by decide, rfl⟩ ⟨Nat.le_of_ble_eq_true rfl, Nat.le_of_ble_eq_true rfl⟩) (gh_pre M G (As := [.int x18])) rfl rfl hl.1.1 rfl (lv_room (Nat.le_trans (gh_r1 (gh_cat _) gh_r0) (Nat.le_of_ble_eq_true rfl : 1 ≤ 8))) dX1_print_106 ⟨(by show _ ≤ 11; omega), (by show _ ≤ 51; omega)⟩) (gh_out M hex (by omega) (by omega)) (fun r19 h20 H locs hw G => ?_)
    refine W.widen (k := 6 + it70 * 2) (n := 31 + it70 * 7) (by omega) (by omega) ?_
    obtain ⟨a21, lba21, fsa21, rfl, haa21, hw⟩ := hw
    refine gh_ki G (vx_runV M.1 (met_J4_add l D _ _ _ _ _ _ hw M.2.2.2.2.2) (cwV 1 (gh_Mts M) (lw_V q910 q911 q912 q46 q913) rfl rfl rfl ⟨rfl, by decide, by decide, rfl⟩ ⟨Nat.le_of_ble_eq_true rfl, Nat.le_of_ble_eq_true rfl⟩) (gh_preV (As := [va_rf r19]) M G (gh_rec M G haa21 rfl)) rfl rfl hl.1.1 rfl (lv_room (Nat.le_of_ble_eq_true rfl)) dX1_print_109 ⟨(by show _ ≤ 11; omega), (by show _ ≤ 51; omega)⟩) (gh_out M hex (by omega) (by omega)) (fun r22 h23 H locs hw G => ?_)
    refine W.widen (k := 7 + it70 * 2) (n := 37 + it70 * 7) (by omega) (by omega) ?_
    refine lv_pop hx hb dX1_print_112 rfl ?_
    refine gh_iinc (k := 6) (v := (v7 + (1 : Int32))) (lv' := [(7, 1, .int (v7 + (1 : Int32))), (0, 1, va_rf (some v0)), (2, 1, .int v2), (3, 1, .int v3), (4, 1, va_rf (some a12)), (5, 1, va_rf v5), (6, 1, .int v6)]) hx hb dX1_print_113 hl rfl rfl (by decide) rfl (fun ls hl => ?_)
    refine lv_goto (tgt := 70) hx hb dX1_print_116 (by decide) ?_
    refine W.widen (k := 5 + (it70 + 1) * 2) (n := 30 + (it70 + 1) * 7) (by omega) (by omega) ?_
    exact k70 (it70 + 1) v0 v2 v3 (some a12) v5 v6 (v7 + (1 : Int32)) _ _ _ _ G (gh_sub hl [1, 2, 3, 4, 5, 6, 0] rfl) hw
theorem wk_X1_print_70 {D : gh_D} {p : Program} {l : Launch} {e : Env} {s : State} {m : MethodId} {args : Array Value} {below : List Frame} {meth : Method} {c : Code} {h0 : gh_H} (M : gh_M D p l s m args meth c RX1 cX1_print 8 (gh_A h0 s.heap.size)) (hr : meth.sig.returnType = (some .int)) (hex : ∀ x ∈ c.exceptionTable.toList, False)   {Q : Int32 → gh_H → Prop} {X : String → gh_H → Prop}   : ∀ (n : Nat) (it70 : Nat) (v0 : Nat) (v2 : Int32) (v3 : Int32) (v4 : Option Nat) (v5 : Option Nat) (v6 : Int32) (v7 : Int32) (H : Heap) (locs : List Loc) (ls : Array Slot) (h : gh_H) (_ : gh_Inv D h0 (gh_A h0 s.heap.size) s.heap s H locs h) (_ : gh_L ls 8 [(0, 1, va_rf (some v0)), (2, 1, .int v2), (3, 1, .int v3), (4, 1, va_rf v4), (5, 1, va_rf v5), (6, 1, .int v6), (7, 1, .int v7)]) (_ : wl_X1_print_70 D.2.2 Q X n it70 v0 v2 v3 v4 v5 v6 v7 h), W p l e rm_X1_print s m args below meth c H locs (5 + it70 * 2) (30 + it70 * 7) (vx_MQ below (gh_Qi Q D h0 s.heap.size) (gh_X X D h0 s.heap.size) args s 11 51 (gh_A h0 s.heap.size)) (F0 m 70 ls []) := by
  intro fu
  induction fu with
  | zero => intro it70 v0 v2 v3 v4 v5 v6 v7 H locs ls h G hl hw; exact False.elim hw
  | succ n1 ih =>
    intro it70 v0 v2 v3 v4 v5 v6 v7 H locs ls h G hl hw
    obtain ⟨hi, hw⟩ := hw
    exact wk1_X1_print_70 M hr hex ih hi v0 v2 v3 v4 v5 v6 v7 _ _ _ _ G hl hw
set_option maxHeartbeats 4000000 in
theorem wk_X1_print_55 {D : gh_D} {p : Program} {l : Launch} {e : Env} {s : State} {m : MethodId} {args : Array Value} {below : List Frame} {meth : Method} {c : Code} {h0 : gh_H} (M : gh_M D p l s m args meth c RX1 cX1_print 8 (gh_A h0 s.heap.size)) (hr : meth.sig.returnType = (some .int)) (hex : ∀ x ∈ c.exceptionTable.toList, False)   {Q : Int32 → gh_H → Prop} {X : String → gh_H → Prop}   (v0 : Nat) (v2 : Int32) (v3 : Int32) (v4 : Option Nat) (v5 : Option Nat) (t0 : Int32) (H : Heap) (locs : List Loc) (ls : Array Slot) (h : gh_H) (G : gh_Inv D h0 (gh_A h0 s.heap.size) s.heap s H locs h) (hl : gh_L ls 8 [(0, 1, va_rf (some v0)), (2, 1, .int v2), (3, 1, .int v3), (4, 1, va_rf v4), (5, 1, va_rf v5)]) (hw : wb_X1_print_55 D.2.2 Q X v0 v2 v3 v4 v5 t0 h) : W p l e rm_X1_print s m args below meth c H locs 4 24 (vx_MQ below (gh_Qi Q D h0 s.heap.size) (gh_X X D h0 s.heap.size) args s 11 51 (gh_A h0 s.heap.size)) (F0 m 55 ls [.int t0]) := by
  unfold wb_X1_print_55 at hw
  have hx := M.1.1
  have hb := M.1.2.1
  refine gh_kv G (vx_runS M.1 (met_X1_requirePossible l D _ _ _ _ _ hw M.2.2.2.2.2) (va_cwS 1 (gh_Mts M) (lw_S q859 q860 q41 q861) rfl rfl rfl ⟨by decide, by decide, rfl⟩ ⟨Nat.le_of_ble_eq_true rfl, Nat.le_of_ble_eq_true rfl⟩) (gh_pre M G (As := [.int t0])) rfl rfl hl.1.1 rfl (lv_room (Nat.le_of_ble_eq_true rfl)) dX1_print_55 ⟨(Nat.le_of_ble_eq_true rfl), (Nat.le_of_ble_eq_true rfl)⟩) (gh_out M hex (by exact Nat.le_of_ble_eq_true rfl) (by exact Nat.le_of_ble_eq_true rfl)) (fun h1 H locs hw G => ?_)
  refine gh_aload_n hx hb dX1_print_58 rfl (gh_at hl 0 rfl) ?_
  refine gh_aload hx hb dX1_print_59 (gh_at hl 3 rfl) ?_
  refine lv_iload_n hx hb dX1_print_61 rfl (gh_at hl 1 rfl) ?_
  obtain ⟨a2, lba2, fsa2, hra2, haa2, hw⟩ := hw
  rw [← Option.some.inj hra2] at haa2
  refine gh_ki G (vx_runV M.1 (met_X1_makeready l D _ _ _ _ _ _ _ hw M.2.2.2.2.2) (cwV 2 (gh_Mts M) (lw_V q877 q879 qs8 q41 q880) rfl rfl rfl ⟨rfl, by decide, by decide, rfl⟩ ⟨Nat.le_of_ble_eq_true rfl, Nat.le_of_ble_eq_true rfl⟩) (gh_preV (As := [va_rf v4, .int v2]) M G (gh_rec M G haa2 rfl)) rfl rfl hl.1.1 rfl (lv_room (Nat.le_of_ble_eq_true rfl)) dX1_print_62 ⟨(Nat.le_of_ble_eq_true rfl), (Nat.le_of_ble_eq_true rfl)⟩) (gh_out M hex (by exact Nat.le_of_ble_eq_true rfl) (by exact Nat.le_of_ble_eq_true rfl)) (fun r3 h4 H locs hw G => ?_)
  refine gh_istore (lv' := [(6, 1, .int r3), (0, 1, va_rf (some v0)), (2, 1, .int v2), (3, 1, .int v3), (4, 1, va_rf v4), (5, 1, va_rf v5)]) hx hb dX1_print_65 hl (by decide) rfl (fun ls hl => ?_)
  refine lv_iconst (v := (0 : Int32)) hx hb dX1_print_67 (by decide) ?_
  refine gh_istore (lv' := [(7, 1, .int (0 : Int32)), (6, 1, .int r3), (0, 1, va_rf (some v0)), (2, 1, .int v2), (3, 1, .int v3), (4, 1, va_rf v4), (5, 1, va_rf v5)]) hx hb dX1_print_68 hl (by decide) rfl (fun ls hl => ?_)
  obtain ⟨n, hw⟩ := hw
  refine W.widen (k := 5 + 0 * 2) (n := 30 + 0 * 7) (by omega) (by omega) ?_
  exact wk_X1_print_70 M hr hex  n 0 v0 v2 v3 v4 v5 r3 (0 : Int32) _ _ _ _ G (gh_sub hl [2, 3, 4, 5, 6, 1, 0] rfl) hw
set_option maxHeartbeats 4000000 in
theorem wk_X1_print_54 {D : gh_D} {p : Program} {l : Launch} {e : Env} {s : State} {m : MethodId} {args : Array Value} {below : List Frame} {meth : Method} {c : Code} {h0 : gh_H} (M : gh_M D p l s m args meth c RX1 cX1_print 8 (gh_A h0 s.heap.size)) (hr : meth.sig.returnType = (some .int)) (hex : ∀ x ∈ c.exceptionTable.toList, False)   {Q : Int32 → gh_H → Prop} {X : String → gh_H → Prop}   (v0 : Nat) (v2 : Int32) (v3 : Int32) (v4 : Option Nat) (v5 : Option Nat) (H : Heap) (locs : List Loc) (ls : Array Slot) (h : gh_H) (G : gh_Inv D h0 (gh_A h0 s.heap.size) s.heap s H locs h) (hl : gh_L ls 8 [(0, 1, va_rf (some v0)), (2, 1, .int v2), (3, 1, .int v3), (4, 1, va_rf v4), (5, 1, va_rf v5)]) (hw : wb_X1_print_54 D.2.2 Q X v0 v2 v3 v4 v5 h) : W p l e rm_X1_print s m args below meth c H locs 4 24 (vx_MQ below (gh_Qi Q D h0 s.heap.size) (gh_X X D h0 s.heap.size) args s 11 51 (gh_A h0 s.heap.size)) (F0 m 54 ls []) := by
  unfold wb_X1_print_54 at hw
  have hx := M.1.1
  have hb := M.1.2.1
  refine lv_iconst (v := (0 : Int32)) hx hb dX1_print_54 (by decide) ?_
  exact wk_X1_print_55 M hr hex  v0 v2 v3 v4 v5 (0 : Int32) _ _ _ _ G (gh_sub hl [0, 1, 2, 3, 4] rfl) hw
set_option maxHeartbeats 4000000 in
theorem met_X1_print (l : Launch) (D : gh_D) (v0 : Nat) (v1 : Int32) (v2 : Int32) (v3 : Int32) (Q : Int32 → gh_H → Prop) (X : String → gh_H → Prop) (h : gh_H) (sz : Nat) (hw : wp_X1_print D.2.2 v0 v1 v2 v3 Q X h) (hst : l.stackTraces = false) : vx_Met l yX1_print (ws_ yX1_print cX1_print 8 (some .int)) rm_X1_print (gh_Pc D h sz [.ref v0, .int v1, .int v2, .int v3]) (gh_Qi Q D h sz) (gh_X X D h sz) 11 51 (gh_A h sz) := by
  refine vx_ofW (by decide) rfl (fun p e s m args below meth c s₁ B hml hex hP => ?_)
  obtain ⟨rfl, rfl, hK, hT, hE, G⟩ := gh_start hP
  have M : gh_M D p l s m _ meth c RX1 cX1_print 8 (gh_A h s.heap.size) := ⟨⟨B.exec, B.bytes, hml, findClass_of_methodNamed B.named, fun w hw => atoms_spec (ws := ws_ yX1_print cX1_print 8 (some .int)) B.pre w (List.mem_cons_of_mem _ hw)⟩, hK, hT, hE, B.notSynchronized, hst⟩
  have hr := B.returns
  have hx := M.1.1
  have hb := M.1.2.1
  refine gh_enter (vs := [(1, .ref v0), (1, .int v1), (1, .int v2), (1, .int v3)]) (gh_w1 rfl (gh_w1 rfl (gh_w1 rfl (gh_w1 rfl gh_wn)))) (Nat.le_of_ble_eq_true rfl) (fun ls hl => ?_)
  replace hl : gh_L ls 8 [(0, 1, va_rf (some v0)), (1, 1, .int v1), (2, 1, .int v2), (3, 1, .int v3)] := hl
  unfold wp_X1_print at hw
  refine gh_aload_n hx hb dX1_print_0 rfl (gh_at hl 0 rfl) ?_
  refine lv_iload_n hx hb dX1_print_1 rfl (gh_at hl 1 rfl) ?_
  refine lv_iload_n hx hb dX1_print_2 rfl (gh_at hl 2 rfl) ?_
  obtain ⟨a1, lba1, fsa1, hra1, haa1, hw⟩ := hw
  rw [← Option.some.inj hra1] at haa1
  refine gh_kq G (vx_runV M.1 (met_X1_jobWithSheet l D _ _ _ _ _ _ _ hw M.2.2.2.2.2) (cwV 2 (gh_Mts M) (lw_V q823 q825 qs7 q41 q826) rfl rfl rfl ⟨rfl, by decide, by decide, rfl⟩ ⟨Nat.le_of_ble_eq_true rfl, Nat.le_of_ble_eq_true rfl⟩) (gh_preV (As := [.int v1, .int v2]) M G (gh_rec M G haa1 rfl)) rfl rfl hl.1.1 rfl (lv_room (Nat.le_of_ble_eq_true rfl)) dX1_print_3 ⟨(Nat.le_of_ble_eq_true rfl), (Nat.le_of_ble_eq_true rfl)⟩) (gh_out M hex (by exact Nat.le_of_ble_eq_true rfl) (by exact Nat.le_of_ble_eq_true rfl)) (fun r2 h3 H locs hw G => ?_)
  refine gh_astore (lv' := [(4, 1, va_rf r2), (0, 1, va_rf (some v0)), (1, 1, .int v1), (2, 1, .int v2), (3, 1, .int v3)]) hx hb dX1_print_6 hl (by decide) rfl (fun ls hl => ?_)
  refine lv_iload_n hx hb dX1_print_8 rfl (gh_at hl 4 rfl) ?_
  refine gh_kv G (vx_runS M.1 (met_X1_requireCount l D _ _ _ _ _ hw M.2.2.2.2.2) (va_cwS 1 (gh_Mts M) (lw_S q848 q849 q41 q850) rfl rfl rfl ⟨by decide, by decide, rfl⟩ ⟨Nat.le_of_ble_eq_true rfl, Nat.le_of_ble_eq_true rfl⟩) (gh_pre M G (As := [.int v3])) rfl rfl hl.1.1 rfl (lv_room (Nat.le_of_ble_eq_true rfl)) dX1_print_9 ⟨(Nat.le_of_ble_eq_true rfl), (Nat.le_of_ble_eq_true rfl)⟩) (gh_out M hex (by exact Nat.le_of_ble_eq_true rfl) (by exact Nat.le_of_ble_eq_true rfl)) (fun h4 H locs hw G => ?_)
  refine gh_aload hx hb dX1_print_12 (gh_at hl 0 rfl) ?_
  refine gh_getR M G hw fl_X1_179 dX1_print_14 (fun x5 hw => ?_)
  refine lv_iload_n hx hb dX1_print_17 rfl (gh_at hl 3 rfl) ?_
  obtain ⟨a6, lba6, fsa6, rfl, haa6, hw⟩ := hw
  refine gh_kFq G (vx_runF (C := "java/util/ArrayList") (M.2.1.1.1 8 _ rfl).2 M.1 (met_J2_get l D _ _ _ _ _ _ hw M.2.2.2.2.2) (va_cwF 1 (gh_Mts M) (gh_gF q499 q502 q504 q44 q506) rfl rfl rfl (M.2.2.1.2.1 _ (List.mem_of_getElem? (i := 6) rfl)) ⟨by decide, by decide, rfl⟩ ⟨Nat.le_of_ble_eq_true rfl, Nat.le_of_ble_eq_true rfl⟩) (gh_preV (As := [.int v2]) M G (gh_rec M G haa6 rfl)) rfl rfl hl.1.1 rfl (lv_room (Nat.le_of_ble_eq_true rfl)) dX1_print_18 ⟨(Nat.le_of_ble_eq_true rfl), (Nat.le_of_ble_eq_true rfl)⟩) (gh_out M hex (by exact Nat.le_of_ble_eq_true rfl) (by exact Nat.le_of_ble_eq_true rfl)) (fun r7 h8 H locs hw G => ?_)
  refine gh_cast (cis := [3]) M G hw q853 (List.forall_mem_cons.mpr ⟨⟨_, rfl, Or.inl ⟨rfl, rfl⟩⟩, fun _ h => absurd h List.not_mem_nil⟩) dX1_print_23 (fun hw => ?_)
  refine gh_astore (lv' := [(5, 1, va_rf r7), (4, 1, va_rf r2), (0, 1, va_rf (some v0)), (1, 1, .int v1), (2, 1, .int v2), (3, 1, .int v3)]) hx hb dX1_print_26 hl (by decide) rfl (fun ls hl => ?_)
  refine gh_aload hx hb dX1_print_28 (gh_at hl 1 rfl) ?_
  refine lv_iload_n hx hb dX1_print_30 rfl (gh_at hl 4 rfl) ?_
  obtain ⟨a9, lba9, fsa9, rfl, haa9, hw⟩ := hw
  refine gh_ki G (vx_runV M.1 (met_X7_isApproved l D _ _ _ _ _ _ hw M.2.2.2.2.2) (cwV 1 (gh_Mts M) (lw_V q854 q855 q856 q71 q857) rfl rfl rfl ⟨rfl, by decide, by decide, rfl⟩ ⟨Nat.le_of_ble_eq_true rfl, Nat.le_of_ble_eq_true rfl⟩) (gh_preV (As := [.int v2]) M G (gh_rec M G haa9 rfl)) rfl rfl hl.1.1 rfl (lv_room (Nat.le_of_ble_eq_true rfl)) dX1_print_31 ⟨(Nat.le_of_ble_eq_true rfl), (Nat.le_of_ble_eq_true rfl)⟩) (gh_out M hex (by exact Nat.le_of_ble_eq_true rfl) (by exact Nat.le_of_ble_eq_true rfl)) (fun r10 h11 H locs hw G => ?_)
  refine lv_if_eq (tgt := 54) hx hb dX1_print_34 (by decide) (fun hc => ?_) (fun hc => ?_)
  · replace hw := hw.1 hc
    exact wk_X1_print_54 M hr hex  v0 v2 v3 (some a9) r7 _ _ _ _ G (gh_sub hl [2, 4, 5, 1, 0] rfl) hw
  · replace hw := hw.2 hc
    refine gh_aload hx hb dX1_print_37 (gh_at hl 0 rfl) ?_
    obtain ⟨a12, lba12, fsa12, rfl, haa12, hw⟩ := hw
    refine gh_ki G (vx_runU (C := "BinderyDesk$SheetPile") M.1 (met_X8_stock l D _ _ _ _ _ hw M.2.2.2.2.2) (va_cwU 0 (gh_Mts M) (gh_gU q858 q680 q682 q683 q72 q684) rfl rfl rfl rfl ⟨by decide, by decide, rfl⟩ ⟨Nat.le_of_ble_eq_true rfl, Nat.le_of_ble_eq_true rfl⟩) (gh_preV (As := []) M G (gh_rec M G haa12 rfl)) rfl rfl hl.1.1 rfl (lv_room (Nat.le_of_ble_eq_true rfl)) dX1_print_39 ⟨(Nat.le_of_ble_eq_true rfl), (Nat.le_of_ble_eq_true rfl)⟩) (gh_out M hex (by exact Nat.le_of_ble_eq_true rfl) (by exact Nat.le_of_ble_eq_true rfl)) (fun r13 h14 H locs hw G => ?_)
    refine lv_iload_n hx hb dX1_print_42 rfl (gh_at hl 5 rfl) ?_
    refine lv_iadd hx hb dX1_print_43 ?_
    refine lv_sipush (v := (9999 : Int32)) hx hb dX1_print_44 (by decide) ?_
    refine lv_icmp_gt (tgt := 54) hx hb dX1_print_47 (by decide) (fun hc => ?_) (fun hc => ?_)
    · replace hw := hw.1 hc
      exact wk_X1_print_54 M hr hex  v0 v2 v3 (some a9) (some a12) _ _ _ _ G (gh_sub hl [2, 4, 5, 1, 0] rfl) hw
    · replace hw := hw.2 hc
      refine lv_iconst (v := (1 : Int32)) hx hb dX1_print_50 (by decide) ?_
      refine lv_goto (tgt := 55) hx hb dX1_print_51 (by decide) ?_
      exact wk_X1_print_55 M hr hex  v0 v2 v3 (some a9) (some a12) (1 : Int32) _ _ _ _ G (gh_sub hl [2, 4, 5, 1, 0] rfl) hw
/-! BinderyDeskLaw.print (LBinderyDesk;III[J)I -/
def rm_X0_print : Room := { frames := 11, cells := 11, slots := 51, locals := 246 }
def wb_X0_print_15 (κ : Nat → Nat)  (Q : Int32 → gh_H → Prop) (X : String → gh_H → Prop) (t0 : Option Nat) (h : gh_H) : Prop := (Q (1 : Int32) h)
def wb_X0_print_19 (κ : Nat → Nat)  (Q : Int32 → gh_H → Prop) (X : String → gh_H → Prop) (t0 : Option Nat) (h : gh_H) : Prop := (Q (2 : Int32) h)
def wb_X0_print_23 (κ : Nat → Nat)  (Q : Int32 → gh_H → Prop) (X : String → gh_H → Prop) (t0 : Option Nat) (h : gh_H) : Prop := (Q (3 : Int32) h)
def wb_X0_print_27 (κ : Nat → Nat)  (Q : Int32 → gh_H → Prop) (X : String → gh_H → Prop) (t0 : Option Nat) (h : gh_H) : Prop := (Q (4 : Int32) h)
def wb_X0_print_31 (κ : Nat → Nat)  (Q : Int32 → gh_H → Prop) (X : String → gh_H → Prop) (t0 : Option Nat) (h : gh_H) : Prop := (Q (5 : Int32) h)
def wp_X0_print (κ : Nat → Nat) (v0 : Option Nat) (v1 : Int32) (v2 : Int32) (v3 : Int32) (v4 : Option Nat) (Q : Int32 → gh_H → Prop) (X : String → gh_H → Prop) (h : gh_H) : Prop := (gh_RC h v0 0 (fun a1 => (wp_X1_print κ a1 v1 v2 v3 (fun r2 h3 => (gh_SJ h3 v4 (0 : Int32) (r2.toInt64) (fun h4 => (Q (0 : Int32) h4)))) (fun E h9 => (E = "java/lang/IndexOutOfBoundsException" ∧ ∀ q9 : Nat, wb_X0_print_15 κ Q X (some q9) h9) ∨ (E = "java/lang/IllegalStateException" ∧ ∀ q9 : Nat, wb_X0_print_19 κ Q X (some q9) h9) ∨ (E = "java/util/NoSuchElementException" ∧ ∀ q9 : Nat, wb_X0_print_23 κ Q X (some q9) h9) ∨ (E = "java/lang/IllegalArgumentException" ∧ ∀ q9 : Nat, wb_X0_print_27 κ Q X (some q9) h9) ∨ (E = "java/lang/UnsupportedOperationException" ∧ ∀ q9 : Nat, wb_X0_print_31 κ Q X (some q9) h9)) h)))
set_option maxHeartbeats 4000000 in
theorem wk_X0_print_15 {D : gh_D} {p : Program} {l : Launch} {e : Env} {s : State} {m : MethodId} {args : Array Value} {below : List Frame} {meth : Method} {c : Code} {h0 : gh_H} (M : gh_M D p l s m args meth c RX0 cX0_print 6 (gh_A h0 s.heap.size)) (hr : meth.sig.returnType = (some .int)) (htab : c.exceptionTable.toList = tableOf [(0, 12, 15, 19), (0, 12, 19, 13), (0, 12, 23, 48), (0, 12, 27, 32), (0, 12, 31, 56)])   {Q : Int32 → gh_H → Prop} {X : String → gh_H → Prop}   (t0 : Option Nat) (H : Heap) (locs : List Loc) (ls : Array Slot) (h : gh_H) (G : gh_Inv D h0 (gh_A h0 s.heap.size) s.heap s H locs h) (hl : gh_L ls 6 []) (hw : wb_X0_print_15 D.2.2 Q X t0 h) : W p l e rm_X0_print s m args below meth c H locs 11 51 (vx_MQ below (gh_Qi Q D h0 s.heap.size) (gh_X X D h0 s.heap.size) args s 11 51 (gh_A h0 s.heap.size)) (F0 m 15 ls [va_rf t0]) := by
  unfold wb_X0_print_15 at hw
  have hx := M.1.1
  have hb := M.1.2.1
  refine gh_astore (lv' := [(5, 1, va_rf t0)]) hx hb dX0_print_15 hl (by decide) rfl (fun ls hl => ?_)
  refine lv_iconst (v := (1 : Int32)) hx hb dX0_print_17 (by decide) ?_
  exact gh_iret M G hr rfl hw (by exact Nat.le_of_ble_eq_true rfl) (by exact Nat.le_of_ble_eq_true rfl) dX0_print_18
set_option maxHeartbeats 4000000 in
theorem wk_X0_print_19 {D : gh_D} {p : Program} {l : Launch} {e : Env} {s : State} {m : MethodId} {args : Array Value} {below : List Frame} {meth : Method} {c : Code} {h0 : gh_H} (M : gh_M D p l s m args meth c RX0 cX0_print 6 (gh_A h0 s.heap.size)) (hr : meth.sig.returnType = (some .int)) (htab : c.exceptionTable.toList = tableOf [(0, 12, 15, 19), (0, 12, 19, 13), (0, 12, 23, 48), (0, 12, 27, 32), (0, 12, 31, 56)])   {Q : Int32 → gh_H → Prop} {X : String → gh_H → Prop}   (t0 : Option Nat) (H : Heap) (locs : List Loc) (ls : Array Slot) (h : gh_H) (G : gh_Inv D h0 (gh_A h0 s.heap.size) s.heap s H locs h) (hl : gh_L ls 6 []) (hw : wb_X0_print_19 D.2.2 Q X t0 h) : W p l e rm_X0_print s m args below meth c H locs 11 51 (vx_MQ below (gh_Qi Q D h0 s.heap.size) (gh_X X D h0 s.heap.size) args s 11 51 (gh_A h0 s.heap.size)) (F0 m 19 ls [va_rf t0]) := by
  unfold wb_X0_print_19 at hw
  have hx := M.1.1
  have hb := M.1.2.1
  refine gh_astore (lv' := [(5, 1, va_rf t0)]) hx hb dX0_print_19 hl (by decide) rfl (fun ls hl => ?_)
  refine lv_iconst (v := (2 : Int32)) hx hb dX0_print_21 (by decide) ?_
  exact gh_iret M G hr rfl hw (by exact Nat.le_of_ble_eq_true rfl) (by exact Nat.le_of_ble_eq_true rfl) dX0_print_22
set_option maxHeartbeats 4000000 in
theorem wk_X0_print_23 {D : gh_D} {p : Program} {l : Launch} {e : Env} {s : State} {m : MethodId} {args : Array Value} {below : List Frame} {meth : Method} {c : Code} {h0 : gh_H} (M : gh_M D p l s m args meth c RX0 cX0_print 6 (gh_A h0 s.heap.size)) (hr : meth.sig.returnType = (some .int)) (htab : c.exceptionTable.toList = tableOf [(0, 12, 15, 19), (0, 12, 19, 13), (0, 12, 23, 48), (0, 12, 27, 32), (0, 12, 31, 56)])   {Q : Int32 → gh_H → Prop} {X : String → gh_H → Prop}   (t0 : Option Nat) (H : Heap) (locs : List Loc) (ls : Array Slot) (h : gh_H) (G : gh_Inv D h0 (gh_A h0 s.heap.size) s.heap s H locs h) (hl : gh_L ls 6 []) (hw : wb_X0_print_23 D.2.2 Q X t0 h) : W p l e rm_X0_print s m args below meth c H locs 11 51 (vx_MQ below (gh_Qi Q D h0 s.heap.size) (gh_X X D h0 s.heap.size) args s 11 51 (gh_A h0 s.heap.size)) (F0 m 23 ls [va_rf t0]) := by
  unfold wb_X0_print_23 at hw
  have hx := M.1.1
  have hb := M.1.2.1
  refine gh_astore (lv' := [(5, 1, va_rf t0)]) hx hb dX0_print_23 hl (by decide) rfl (fun ls hl => ?_)
  refine lv_iconst (v := (3 : Int32)) hx hb dX0_print_25 (by decide) ?_
  exact gh_iret M G hr rfl hw (by exact Nat.le_of_ble_eq_true rfl) (by exact Nat.le_of_ble_eq_true rfl) dX0_print_26
set_option maxHeartbeats 4000000 in
theorem wk_X0_print_27 {D : gh_D} {p : Program} {l : Launch} {e : Env} {s : State} {m : MethodId} {args : Array Value} {below : List Frame} {meth : Method} {c : Code} {h0 : gh_H} (M : gh_M D p l s m args meth c RX0 cX0_print 6 (gh_A h0 s.heap.size)) (hr : meth.sig.returnType = (some .int)) (htab : c.exceptionTable.toList = tableOf [(0, 12, 15, 19), (0, 12, 19, 13), (0, 12, 23, 48), (0, 12, 27, 32), (0, 12, 31, 56)])   {Q : Int32 → gh_H → Prop} {X : String → gh_H → Prop}   (t0 : Option Nat) (H : Heap) (locs : List Loc) (ls : Array Slot) (h : gh_H) (G : gh_Inv D h0 (gh_A h0 s.heap.size) s.heap s H locs h) (hl : gh_L ls 6 []) (hw : wb_X0_print_27 D.2.2 Q X t0 h) : W p l e rm_X0_print s m args below meth c H locs 11 51 (vx_MQ below (gh_Qi Q D h0 s.heap.size) (gh_X X D h0 s.heap.size) args s 11 51 (gh_A h0 s.heap.size)) (F0 m 27 ls [va_rf t0]) := by
  unfold wb_X0_print_27 at hw
  have hx := M.1.1
  have hb := M.1.2.1
  refine gh_astore (lv' := [(5, 1, va_rf t0)]) hx hb dX0_print_27 hl (by decide) rfl (fun ls hl => ?_)
  refine lv_iconst (v := (4 : Int32)) hx hb dX0_print_29 (by decide) ?_
  exact gh_iret M G hr rfl hw (by exact Nat.le_of_ble_eq_true rfl) (by exact Nat.le_of_ble_eq_true rfl) dX0_print_30
set_option maxHeartbeats 4000000 in
theorem wk_X0_print_31 {D : gh_D} {p : Program} {l : Launch} {e : Env} {s : State} {m : MethodId} {args : Array Value} {below : List Frame} {meth : Method} {c : Code} {h0 : gh_H} (M : gh_M D p l s m args meth c RX0 cX0_print 6 (gh_A h0 s.heap.size)) (hr : meth.sig.returnType = (some .int)) (htab : c.exceptionTable.toList = tableOf [(0, 12, 15, 19), (0, 12, 19, 13), (0, 12, 23, 48), (0, 12, 27, 32), (0, 12, 31, 56)])   {Q : Int32 → gh_H → Prop} {X : String → gh_H → Prop}   (t0 : Option Nat) (H : Heap) (locs : List Loc) (ls : Array Slot) (h : gh_H) (G : gh_Inv D h0 (gh_A h0 s.heap.size) s.heap s H locs h) (hl : gh_L ls 6 []) (hw : wb_X0_print_31 D.2.2 Q X t0 h) : W p l e rm_X0_print s m args below meth c H locs 11 51 (vx_MQ below (gh_Qi Q D h0 s.heap.size) (gh_X X D h0 s.heap.size) args s 11 51 (gh_A h0 s.heap.size)) (F0 m 31 ls [va_rf t0]) := by
  unfold wb_X0_print_31 at hw
  have hx := M.1.1
  have hb := M.1.2.1
  refine gh_astore (lv' := [(5, 1, va_rf t0)]) hx hb dX0_print_31 hl (by decide) rfl (fun ls hl => ?_)
  refine lv_iconst (v := (5 : Int32)) hx hb dX0_print_33 (by decide) ?_
  exact gh_iret M G hr rfl hw (by exact Nat.le_of_ble_eq_true rfl) (by exact Nat.le_of_ble_eq_true rfl) dX0_print_34
set_option maxHeartbeats 4000000 in
theorem met_X0_print (l : Launch) (D : gh_D) (v0 : Option Nat) (v1 : Int32) (v2 : Int32) (v3 : Int32) (v4 : Option Nat) (Q : Int32 → gh_H → Prop) (X : String → gh_H → Prop) (h : gh_H) (sz : Nat) (hw : wp_X0_print D.2.2 v0 v1 v2 v3 v4 Q X h) (hst : l.stackTraces = false) : vx_Met l yX0_print (wsW_ yX0_print cX0_print 6 (some .int) [(0, 12, 15, 19), (0, 12, 19, 13), (0, 12, 23, 48), (0, 12, 27, 32), (0, 12, 31, 56)]) rm_X0_print (gh_Pc D h sz [va_rf v0, .int v1, .int v2, .int v3, va_rf v4]) (gh_Qi Q D h sz) (gh_X X D h sz) 11 51 (gh_A h sz) := by
  refine vx_ofWH (by decide) rfl (fun p e s m args below meth c s₁ B hml hP => ?_)
  have htab := vx_table (x := yX0_print) B (atoms_spec (ws := wsW_ yX0_print cX0_print 6 (some .int) [(0, 12, 15, 19), (0, 12, 19, 13), (0, 12, 23, 48), (0, 12, 27, 32), (0, 12, 31, 56)]) B.pre _ List.mem_cons_self)
  obtain ⟨rfl, rfl, hK, hT, hE, G⟩ := gh_start hP
  have M : gh_M D p l s m _ meth c RX0 cX0_print 6 (gh_A h s.heap.size) := ⟨⟨B.exec, B.bytes, hml, findClass_of_methodNamed B.named, fun w hw => atoms_spec (ws := wsW_ yX0_print cX0_print 6 (some .int) [(0, 12, 15, 19), (0, 12, 19, 13), (0, 12, 23, 48), (0, 12, 27, 32), (0, 12, 31, 56)]) B.pre w (List.mem_cons_of_mem _ hw)⟩, hK, hT, hE, B.notSynchronized, hst⟩
  have hr := B.returns
  have hx := M.1.1
  have hb := M.1.2.1
  refine gh_enter (vs := [(1, va_rf v0), (1, .int v1), (1, .int v2), (1, .int v3), (1, va_rf v4)]) (gh_w1 (gh_cat _) (gh_w1 rfl (gh_w1 rfl (gh_w1 rfl (gh_w1 (gh_cat _) gh_wn))))) (Nat.le_of_ble_eq_true rfl) (fun ls hl => ?_)
  replace hl : gh_L ls 6 [(0, 1, va_rf v0), (1, 1, .int v1), (2, 1, .int v2), (3, 1, .int v3), (4, 1, va_rf v4)] := hl
  unfold wp_X0_print at hw
  refine gh_aload hx hb dX0_print_0 (gh_at hl 4 rfl) ?_
  refine lv_iconst (v := (0 : Int32)) hx hb dX0_print_2 (by decide) ?_
  refine gh_aload_n hx hb dX0_print_3 rfl (gh_at hl 0 rfl) ?_
  refine lv_iload_n hx hb dX0_print_4 rfl (gh_at hl 1 rfl) ?_
  refine lv_iload_n hx hb dX0_print_5 rfl (gh_at hl 2 rfl) ?_
  refine lv_iload_n hx hb dX0_print_6 rfl (gh_at hl 3 rfl) ?_
  obtain ⟨a1, lba1, fsa1, rfl, haa1, hw⟩ := hw
  refine gh_ki G (vx_runV M.1 (met_X1_print l D _ _ _ _ _ _ _ _ hw M.2.2.2.2.2) (cwV 3 (gh_Mts M) (lw_V q844 q845 q846 q41 q847) rfl rfl rfl ⟨rfl, by decide, by decide, rfl⟩ ⟨Nat.le_of_ble_eq_true rfl, Nat.le_of_ble_eq_true rfl⟩) (gh_preV (As := [.int v1, .int v2, .int v3]) M G (gh_rec M G haa1 rfl)) rfl rfl hl.1.1 rfl (lv_room (Nat.le_trans (gh_r1 rfl (gh_r1 (gh_cat _) gh_r0)) (Nat.le_of_ble_eq_true rfl : 2 ≤ 8))) dX0_print_7 ⟨(Nat.le_of_ble_eq_true rfl), (Nat.le_of_ble_eq_true rfl)⟩) (fun E ce q9 h9 H locs hX G hce hcv hcl => ?_) (fun r2 h3 H locs hw G => ?_)
  · rcases hX with ⟨rfl, hX⟩ | ⟨rfl, hX⟩ | ⟨rfl, hX⟩ | ⟨rfl, hX⟩ | ⟨rfl, hX⟩
    · replace hw := hX q9
      refine vx_catch (name := "java/lang/IndexOutOfBoundsException") M.1.2.2.2.1 (tableOf []) ⟨0, 12, 15, 19⟩ (tableOf [(0, 12, 19, 13), (0, 12, 23, 48), (0, 12, 27, 32), (0, 12, 31, 56)]) (htab.trans rfl) (fun _ h => absurd h List.not_mem_nil) (by decide) (by decide) (gh_Mts M _ q439) (va_Nw.use rfl (M.2.2.1.1 _ (List.mem_of_getElem? (i := 8) rfl))) hce hcv hcl ?_
      exact wk_X0_print_15 M hr htab  (some q9) _ _ _ _ G (gh_sub hl [] rfl) hw
    · replace hw := hX q9
      refine vx_catch (name := "java/lang/IllegalStateException") M.1.2.2.2.1 (tableOf [(0, 12, 15, 19)]) ⟨0, 12, 19, 13⟩ (tableOf [(0, 12, 23, 48), (0, 12, 27, 32), (0, 12, 31, 56)]) (htab.trans rfl) (List.forall_mem_cons.mpr ⟨Or.inr ⟨by decide, "java/lang/IndexOutOfBoundsException", gh_Mts M _ q439, M.2.2.1.2.2.1 _ (List.mem_of_getElem? (i := 6) rfl)⟩, fun _ h => absurd h List.not_mem_nil⟩) (by decide) (by decide) (gh_Mts M _ q261) (va_Nw.use rfl (M.2.2.1.1 _ (List.mem_of_getElem? (i := 4) rfl))) hce hcv hcl ?_
      exact wk_X0_print_19 M hr htab  (some q9) _ _ _ _ G (gh_sub hl [] rfl) hw
    · replace hw := hX q9
      refine vx_catch (name := "java/util/NoSuchElementException") M.1.2.2.2.1 (tableOf [(0, 12, 15, 19), (0, 12, 19, 13)]) ⟨0, 12, 23, 48⟩ (tableOf [(0, 12, 27, 32), (0, 12, 31, 56)]) (htab.trans rfl) (List.forall_mem_cons.mpr ⟨Or.inr ⟨by decide, "java/lang/IndexOutOfBoundsException", gh_Mts M _ q439, M.2.2.1.2.2.1 _ (List.mem_of_getElem? (i := 11) rfl)⟩, List.forall_mem_cons.mpr ⟨Or.inr ⟨by decide, "java/lang/IllegalStateException", gh_Mts M _ q261, M.2.2.1.2.2.1 _ (List.mem_of_getElem? (i := 12) rfl)⟩, fun _ h => absurd h List.not_mem_nil⟩⟩) (by decide) (by decide) (gh_Mts M _ q818) (va_Nw.use rfl (M.2.2.1.1 _ (List.mem_of_getElem? (i := 46) rfl))) hce hcv hcl ?_
      exact wk_X0_print_23 M hr htab  (some q9) _ _ _ _ G (gh_sub hl [] rfl) hw
    · replace hw := hX q9
      refine vx_catch (name := "java/lang/IllegalArgumentException") M.1.2.2.2.1 (tableOf [(0, 12, 15, 19), (0, 12, 19, 13), (0, 12, 23, 48)]) ⟨0, 12, 27, 32⟩ (tableOf [(0, 12, 31, 56)]) (htab.trans rfl) (List.forall_mem_cons.mpr ⟨Or.inr ⟨by decide, "java/lang/IndexOutOfBoundsException", gh_Mts M _ q439, M.2.2.1.2.2.1 _ (List.mem_of_getElem? (i := 16) rfl)⟩, List.forall_mem_cons.mpr ⟨Or.inr ⟨by decide, "java/lang/IllegalStateException", gh_Mts M _ q261, M.2.2.1.2.2.1 _ (List.mem_of_getElem? (i := 17) rfl)⟩, List.forall_mem_cons.mpr ⟨Or.inr ⟨by decide, "java/util/NoSuchElementException", gh_Mts M _ q818, M.2.2.1.2.2.1 _ (List.mem_of_getElem? (i := 18) rfl)⟩, fun _ h => absurd h List.not_mem_nil⟩⟩⟩) (by decide) (by decide) (gh_Mts M _ q714) (va_Nw.use rfl (M.2.2.1.1 _ (List.mem_of_getElem? (i := 49) rfl))) hce hcv hcl ?_
      exact wk_X0_print_27 M hr htab  (some q9) _ _ _ _ G (gh_sub hl [] rfl) hw
    · replace hw := hX q9
      refine vx_catch (name := "java/lang/UnsupportedOperationException") M.1.2.2.2.1 (tableOf [(0, 12, 15, 19), (0, 12, 19, 13), (0, 12, 23, 48), (0, 12, 27, 32)]) ⟨0, 12, 31, 56⟩ (tableOf []) (htab.trans rfl) (List.forall_mem_cons.mpr ⟨Or.inr ⟨by decide, "java/lang/IndexOutOfBoundsException", gh_Mts M _ q439, M.2.2.1.2.2.1 _ (List.mem_of_getElem? (i := 21) rfl)⟩, List.forall_mem_cons.mpr ⟨Or.inr ⟨by decide, "java/lang/IllegalStateException", gh_Mts M _ q261, M.2.2.1.2.2.1 _ (List.mem_of_getElem? (i := 22) rfl)⟩, List.forall_mem_cons.mpr ⟨Or.inr ⟨by decide, "java/util/NoSuchElementException", gh_Mts M _ q818, M.2.2.1.2.2.1 _ (List.mem_of_getElem? (i := 23) rfl)⟩, List.forall_mem_cons.mpr ⟨Or.inr ⟨by decide, "java/lang/IllegalArgumentException", gh_Mts M _ q714, M.2.2.1.2.2.1 _ (List.mem_of_getElem? (i := 24) rfl)⟩, fun _ h => absurd h List.not_mem_nil⟩⟩⟩⟩) (by decide) (by decide) (gh_Mts M _ q843) (va_Nw.use rfl (M.2.2.1.1 _ (List.mem_of_getElem? (i := 51) rfl))) hce hcv hcl ?_
      exact wk_X0_print_31 M hr htab  (some q9) _ _ _ _ G (gh_sub hl [] rfl) hw
  · refine lv_i2l (v := (r2.toInt64)) hx hb dX0_print_10 rfl ?_
    refine gh_jas M G hw dX0_print_11 (fun h4 H locs hw G => ?_)
    refine lv_goto (tgt := 35) hx hb dX0_print_12 (by decide) ?_
    refine lv_iconst (v := (0 : Int32)) hx hb dX0_print_35 (by decide) ?_
    exact gh_iret M G hr rfl hw (by exact Nat.le_of_ble_eq_true rfl) (by exact Nat.le_of_ble_eq_true rfl) dX0_print_36
/-! BinderyDeskModel.code (I)I -/
def rm_X3_code : Room := { frames := 1, cells := 0, slots := 0, locals := 40 }
def wp_X3_code (κ : Nat → Nat) (v0 : Nat) (v1 : Int32) (Q : Int32 → gh_H → Prop) (X : String → gh_H → Prop) (h : gh_H) : Prop := (gh_GR h (some v0) [(1, 12)] (fun x1 => (gh_LI h x1 v1 (fun x2 => (Q (((100 : Int32) * v1) + x2) h)))))
set_option maxHeartbeats 4000000 in
theorem met_X3_code (l : Launch) (D : gh_D) (v0 : Nat) (v1 : Int32) (Q : Int32 → gh_H → Prop) (X : String → gh_H → Prop) (h : gh_H) (sz : Nat) (hw : wp_X3_code D.2.2 v0 v1 Q X h) (hst : l.stackTraces = false) : vx_Met l yX3_code (ws_ yX3_code cX3_code 2 (some .int)) rm_X3_code (gh_Pc D h sz [.ref v0, .int v1]) (gh_Qi Q D h sz) (gh_X X D h sz) 0 0 (gh_A h sz) := by
  refine vx_ofW (by decide) rfl (fun p e s m args below meth c s₁ B hml hex hP => ?_)
  obtain ⟨rfl, rfl, hK, hT, hE, G⟩ := gh_start hP
  have M : gh_M D p l s m _ meth c RX3 cX3_code 2 (gh_A h s.heap.size) := ⟨⟨B.exec, B.bytes, hml, findClass_of_methodNamed B.named, fun w hw => atoms_spec (ws := ws_ yX3_code cX3_code 2 (some .int)) B.pre w (List.mem_cons_of_mem _ hw)⟩, hK, hT, hE, B.notSynchronized, hst⟩
  have hr := B.returns
  have hx := M.1.1
  have hb := M.1.2.1
  refine gh_enter (vs := [(1, .ref v0), (1, .int v1)]) (gh_w1 rfl (gh_w1 rfl gh_wn)) (Nat.le_of_ble_eq_true rfl) (fun ls hl => ?_)
  replace hl : gh_L ls 2 [(0, 1, va_rf (some v0)), (1, 1, .int v1)] := hl
  unfold wp_X3_code at hw
  refine lv_bipush (v := (100 : Int32)) hx hb dX3_code_0 (by decide) ?_
  refine lv_iload_n hx hb dX3_code_2 rfl (gh_at hl 1 rfl) ?_
  refine lv_imul hx hb dX3_code_3 ?_
  refine gh_aload_n hx hb dX3_code_4 rfl (gh_at hl 0 rfl) ?_
  refine gh_getR M G hw fl_X3_7 dX3_code_5 (fun x1 hw => ?_)
  refine lv_iload_n hx hb dX3_code_8 rfl (gh_at hl 1 rfl) ?_
  refine gh_ial M G hw dX3_code_9 (fun x2 hw => ?_)
  refine lv_iadd hx hb dX3_code_10 ?_
  exact gh_iret M G hr rfl hw (by exact Nat.le_of_ble_eq_true rfl) (by exact Nat.le_of_ble_eq_true rfl) dX3_code_11
/-! BinderyDeskModel.plateOf (IIZ)I -/
def rm_X3_plateOf : Room := { frames := 3, cells := 0, slots := 0, locals := 87 }
def wb_X3_plateOf_73 (κ : Nat → Nat)  (Q : Int32 → gh_H → Prop) (X : String → gh_H → Prop) (t0 : Int32) (t1 : Option Nat) (t2 : Option Nat) (t3 : Int32) (t4 : Int32) (t5 : Int32) (h : gh_H) : Prop := (gh_RC h t2 1 (fun a1 => (wp_X3_contentOn κ a1 t3 t4 t5 (fun r2 h3 => (gh_RC h3 t1 1 (fun a4 => (wp_X3_code κ a4 r2 (fun r5 h6 => (Q (t0 + r5) h6)) X h3)))) X h)))
def wb_X3_plateOf_52 (κ : Nat → Nat)  (Q : Int32 → gh_H → Prop) (X : String → gh_H → Prop) (v0 : Nat) (v1 : Int32) (v2 : Int32) (v3 : Int32) (t0 : Int32) (t1 : Int32) (t2 : Option Nat) (t3 : Option Nat) (t4 : Int32) (t5 : Int32) (t6 : Int32) (h : gh_H) : Prop := (gh_RC h t3 1 (fun a1 => (wp_X3_contentOn κ a1 t4 t5 t6 (fun r2 h3 => (gh_RC h3 t2 1 (fun a4 => (wp_X3_code κ a4 r2 (fun r5 h6 => ((v3 = 0 → wb_X3_plateOf_73 κ Q X (t0 + (t1 * r5)) (some v0) (some v0) v1 v2 (3 : Int32) h6) ∧ (¬ v3 = 0 → wb_X3_plateOf_73 κ Q X (t0 + (t1 * r5)) (some v0) (some v0) v1 v2 (1 : Int32) h6))) X h3)))) X h)))
def wb_X3_plateOf_25 (κ : Nat → Nat)  (Q : Int32 → gh_H → Prop) (X : String → gh_H → Prop) (t0 : Int32) (t1 : Option Nat) (t2 : Option Nat) (t3 : Int32) (t4 : Int32) (t5 : Int32) (h : gh_H) : Prop := (gh_RC h t2 1 (fun a1 => (wp_X3_contentOn κ a1 t3 t4 t5 (fun r2 h3 => (gh_RC h3 t1 1 (fun a4 => (wp_X3_code κ a4 r2 (fun r5 h6 => (Q (t0 + r5) h6)) X h3)))) X h)))
def wp_X3_plateOf (κ : Nat → Nat) (v0 : Nat) (v1 : Int32) (v2 : Int32) (v3 : Int32) (Q : Int32 → gh_H → Prop) (X : String → gh_H → Prop) (h : gh_H) : Prop := (gh_GR h (some v0) [(1, 13)] (fun x1 => (gh_LI h x1 v1 (fun x2 => ((x2 = (119 : Int32) → ((v3 = 0 → wb_X3_plateOf_25 κ Q X (1 : Int32) (some v0) (some v0) v1 v2 (1 : Int32) h) ∧ (¬ v3 = 0 → wb_X3_plateOf_25 κ Q X (1 : Int32) (some v0) (some v0) v1 v2 (0 : Int32) h))) ∧ (¬ x2 = (119 : Int32) → ((v3 = 0 → wb_X3_plateOf_52 κ Q X v0 v1 v2 v3 (2000 : Int32) (1200 : Int32) (some v0) (some v0) v1 v2 (2 : Int32) h) ∧ (¬ v3 = 0 → wb_X3_plateOf_52 κ Q X v0 v1 v2 v3 (2000 : Int32) (1200 : Int32) (some v0) (some v0) v1 v2 (0 : Int32) h))))))))
set_option maxHeartbeats 4000000 in
theorem wk_X3_plateOf_73 {D : gh_D} {p : Program} {l : Launch} {e : Env} {s : State} {m : MethodId} {args : Array Value} {below : List Frame} {meth : Method} {c : Code} {h0 : gh_H} (M : gh_M D p l s m args meth c RX3 cX3_plateOf 4 (gh_A h0 s.heap.size)) (hr : meth.sig.returnType = (some .int)) (hex : ∀ x ∈ c.exceptionTable.toList, False)   {Q : Int32 → gh_H → Prop} {X : String → gh_H → Prop}   (t0 : Int32) (t1 : Option Nat) (t2 : Option Nat) (t3 : Int32) (t4 : Int32) (t5 : Int32) (H : Heap) (locs : List Loc) (ls : Array Slot) (h : gh_H) (G : gh_Inv D h0 (gh_A h0 s.heap.size) s.heap s H locs h) (hl : gh_L ls 4 []) (hw : wb_X3_plateOf_73 D.2.2 Q X t0 t1 t2 t3 t4 t5 h) : W p l e rm_X3_plateOf s m args below meth c H locs 0 0 (vx_MQ below (gh_Qi Q D h0 s.heap.size) (gh_X X D h0 s.heap.size) args s 0 0 (gh_A h0 s.heap.size)) (F0 m 73 ls [.int t5, .int t4, .int t3, va_rf t2, va_rf t1, .int t0]) := by
  unfold wb_X3_plateOf_73 at hw
  have hx := M.1.1
  have hb := M.1.2.1
  obtain ⟨a1, lba1, fsa1, rfl, haa1, hw⟩ := hw
  refine gh_ki G (vx_runV M.1 (met_X3_contentOn l D _ _ _ _ _ _ _ _ hw M.2.2.2.2.2) (cwV 3 (gh_Mts M) (lw_V q1692 q1694 qs27 q50 q1695) rfl rfl rfl ⟨rfl, by decide, by decide, rfl⟩ ⟨Nat.le_of_ble_eq_true rfl, Nat.le_of_ble_eq_true rfl⟩) (gh_preV (As := [.int t3, .int t4, .int t5]) M G (gh_rec M G haa1 rfl)) rfl rfl hl.1.1 rfl (lv_room (Nat.le_trans (gh_r1 (gh_cat _) (gh_r1 rfl gh_r0)) (Nat.le_of_ble_eq_true rfl : 2 ≤ 8))) dX3_plateOf_73 ⟨(Nat.le_of_ble_eq_true rfl), (Nat.le_of_ble_eq_true rfl)⟩) (gh_out M hex (by exact Nat.le_of_ble_eq_true rfl) (by exact Nat.le_of_ble_eq_true rfl)) (fun r2 h3 H locs hw G => ?_)
  obtain ⟨a4, lba4, fsa4, rfl, haa4, hw⟩ := hw
  refine gh_ki G (vx_runV M.1 (met_X3_code l D _ _ _ _ _ _ hw M.2.2.2.2.2) (cwV 1 (gh_Mts M) (lw_V q1752 q1754 qs34 q50 q1755) rfl rfl rfl ⟨rfl, by decide, by decide, rfl⟩ ⟨Nat.le_of_ble_eq_true rfl, Nat.le_of_ble_eq_true rfl⟩) (gh_preV (As := [.int r2]) M G (gh_rec M G haa4 rfl)) rfl rfl hl.1.1 rfl (lv_room (Nat.le_of_ble_eq_true rfl)) dX3_plateOf_76 ⟨(Nat.le_of_ble_eq_true rfl), (Nat.le_of_ble_eq_true rfl)⟩) (gh_out M hex (by exact Nat.le_of_ble_eq_true rfl) (by exact Nat.le_of_ble_eq_true rfl)) (fun r5 h6 H locs hw G => ?_)
  refine lv_iadd hx hb dX3_plateOf_79 ?_
  exact gh_iret M G hr rfl hw (by exact Nat.le_of_ble_eq_true rfl) (by exact Nat.le_of_ble_eq_true rfl) dX3_plateOf_80
set_option maxHeartbeats 4000000 in
theorem wk_X3_plateOf_52 {D : gh_D} {p : Program} {l : Launch} {e : Env} {s : State} {m : MethodId} {args : Array Value} {below : List Frame} {meth : Method} {c : Code} {h0 : gh_H} (M : gh_M D p l s m args meth c RX3 cX3_plateOf 4 (gh_A h0 s.heap.size)) (hr : meth.sig.returnType = (some .int)) (hex : ∀ x ∈ c.exceptionTable.toList, False)   {Q : Int32 → gh_H → Prop} {X : String → gh_H → Prop}   (v0 : Nat) (v1 : Int32) (v2 : Int32) (v3 : Int32) (t0 : Int32) (t1 : Int32) (t2 : Option Nat) (t3 : Option Nat) (t4 : Int32) (t5 : Int32) (t6 : Int32) (H : Heap) (locs : List Loc) (ls : Array Slot) (h : gh_H) (G : gh_Inv D h0 (gh_A h0 s.heap.size) s.heap s H locs h) (hl : gh_L ls 4 [(0, 1, va_rf (some v0)), (1, 1, .int v1), (2, 1, .int v2), (3, 1, .int v3)]) (hw : wb_X3_plateOf_52 D.2.2 Q X v0 v1 v2 v3 t0 t1 t2 t3 t4 t5 t6 h) : W p l e rm_X3_plateOf s m args below meth c H locs 0 0 (vx_MQ below (gh_Qi Q D h0 s.heap.size) (gh_X X D h0 s.heap.size) args s 0 0 (gh_A h0 s.heap.size)) (F0 m 52 ls [.int t6, .int t5, .int t4, va_rf t3, va_rf t2, .int t1, .int t0]) := by
  unfold wb_X3_plateOf_52 at hw
  have hx := M.1.1
  have hb := M.1.2.1
  obtain ⟨a1, lba1, fsa1, rfl, haa1, hw⟩ := hw
  refine gh_ki G (vx_runV M.1 (met_X3_contentOn l D _ _ _ _ _ _ _ _ hw M.2.2.2.2.2) (cwV 3 (gh_Mts M) (lw_V q1692 q1694 qs27 q50 q1695) rfl rfl rfl ⟨rfl, by decide, by decide, rfl⟩ ⟨Nat.le_of_ble_eq_true rfl, Nat.le_of_ble_eq_true rfl⟩) (gh_preV (As := [.int t4, .int t5, .int t6]) M G (gh_rec M G haa1 rfl)) rfl rfl hl.1.1 rfl (lv_room (Nat.le_trans (gh_r1 (gh_cat _) (gh_r1 rfl (gh_r1 rfl gh_r0))) (Nat.le_of_ble_eq_true rfl : 3 ≤ 8))) dX3_plateOf_52 ⟨(Nat.le_of_ble_eq_true rfl), (Nat.le_of_ble_eq_true rfl)⟩) (gh_out M hex (by exact Nat.le_of_ble_eq_true rfl) (by exact Nat.le_of_ble_eq_true rfl)) (fun r2 h3 H locs hw G => ?_)
  obtain ⟨a4, lba4, fsa4, rfl, haa4, hw⟩ := hw
  refine gh_ki G (vx_runV M.1 (met_X3_code l D _ _ _ _ _ _ hw M.2.2.2.2.2) (cwV 1 (gh_Mts M) (lw_V q1752 q1754 qs34 q50 q1755) rfl rfl rfl ⟨rfl, by decide, by decide, rfl⟩ ⟨Nat.le_of_ble_eq_true rfl, Nat.le_of_ble_eq_true rfl⟩) (gh_preV (As := [.int r2]) M G (gh_rec M G haa4 rfl)) rfl rfl hl.1.1 rfl (lv_room (Nat.le_of_ble_eq_true rfl)) dX3_plateOf_55 ⟨(Nat.le_of_ble_eq_true rfl), (Nat.le_of_ble_eq_true rfl)⟩) (gh_out M hex (by exact Nat.le_of_ble_eq_true rfl) (by exact Nat.le_of_ble_eq_true rfl)) (fun r5 h6 H locs hw G => ?_)
  refine lv_imul hx hb dX3_plateOf_58 ?_
  refine lv_iadd hx hb dX3_plateOf_59 ?_
  refine gh_aload_n hx hb dX3_plateOf_60 rfl (gh_at hl 0 rfl) ?_
  refine gh_aload_n hx hb dX3_plateOf_61 rfl (gh_at hl 0 rfl) ?_
  refine lv_iload_n hx hb dX3_plateOf_62 rfl (gh_at hl 1 rfl) ?_
  refine lv_iload_n hx hb dX3_plateOf_63 rfl (gh_at hl 2 rfl) ?_
  refine lv_iload_n hx hb dX3_plateOf_64 rfl (gh_at hl 3 rfl) ?_
  refine lv_if_eq (tgt := 72) hx hb dX3_plateOf_65 (by decide) (fun hc => ?_) (fun hc => ?_)
  · replace hw := hw.1 hc
    refine lv_iconst (v := (3 : Int32)) hx hb dX3_plateOf_72 (by decide) ?_
    exact wk_X3_plateOf_73 M hr hex  (t0 + (t1 * r5)) (some v0) (some v0) v1 v2 (3 : Int32) _ _ _ _ G (gh_sub hl [] rfl) hw
  · replace hw := hw.2 hc
    refine lv_iconst (v := (1 : Int32)) hx hb dX3_plateOf_68 (by decide) ?_
    refine lv_goto (tgt := 73) hx hb dX3_plateOf_69 (by decide) ?_
    exact wk_X3_plateOf_73 M hr hex  (t0 + (t1 * r5)) (some v0) (some v0) v1 v2 (1 : Int32) _ _ _ _ G (gh_sub hl [] rfl) hw
set_option maxHeartbeats 4000000 in
theorem wk_X3_plateOf_25 {D : gh_D} {p : Program} {l : Launch} {e : Env} {s : State} {m : MethodId} {args : Array Value} {below : List Frame} {meth : Method} {c : Code} {h0 : gh_H} (M : gh_M D p l s m args meth c RX3 cX3_plateOf 4 (gh_A h0 s.heap.size)) (hr : meth.sig.returnType = (some .int)) (hex : ∀ x ∈ c.exceptionTable.toList, False)   {Q : Int32 → gh_H → Prop} {X : String → gh_H → Prop}   (t0 : Int32) (t1 : Option Nat) (t2 : Option Nat) (t3 : Int32) (t4 : Int32) (t5 : Int32) (H : Heap) (locs : List Loc) (ls : Array Slot) (h : gh_H) (G : gh_Inv D h0 (gh_A h0 s.heap.size) s.heap s H locs h) (hl : gh_L ls 4 []) (hw : wb_X3_plateOf_25 D.2.2 Q X t0 t1 t2 t3 t4 t5 h) : W p l e rm_X3_plateOf s m args below meth c H locs 0 0 (vx_MQ below (gh_Qi Q D h0 s.heap.size) (gh_X X D h0 s.heap.size) args s 0 0 (gh_A h0 s.heap.size)) (F0 m 25 ls [.int t5, .int t4, .int t3, va_rf t2, va_rf t1, .int t0]) := by
  unfold wb_X3_plateOf_25 at hw
  have hx := M.1.1
  have hb := M.1.2.1
  obtain ⟨a1, lba1, fsa1, rfl, haa1, hw⟩ := hw
  refine gh_ki G (vx_runV M.1 (met_X3_contentOn l D _ _ _ _ _ _ _ _ hw M.2.2.2.2.2) (cwV 3 (gh_Mts M) (lw_V q1692 q1694 qs27 q50 q1695) rfl rfl rfl ⟨rfl, by decide, by decide, rfl⟩ ⟨Nat.le_of_ble_eq_true rfl, Nat.le_of_ble_eq_true rfl⟩) (gh_preV (As := [.int t3, .int t4, .int t5]) M G (gh_rec M G haa1 rfl)) rfl rfl hl.1.1 rfl (lv_room (Nat.le_trans (gh_r1 (gh_cat _) (gh_r1 rfl gh_r0)) (Nat.le_of_ble_eq_true rfl : 2 ≤ 8))) dX3_plateOf_25 ⟨(Nat.le_of_ble_eq_true rfl), (Nat.le_of_ble_eq_true rfl)⟩) (gh_out M hex (by exact Nat.le_of_ble_eq_true rfl) (by exact Nat.le_of_ble_eq_true rfl)) (fun r2 h3 H locs hw G => ?_)
  obtain ⟨a4, lba4, fsa4, rfl, haa4, hw⟩ := hw
  refine gh_ki G (vx_runV M.1 (met_X3_code l D _ _ _ _ _ _ hw M.2.2.2.2.2) (cwV 1 (gh_Mts M) (lw_V q1752 q1754 qs34 q50 q1755) rfl rfl rfl ⟨rfl, by decide, by decide, rfl⟩ ⟨Nat.le_of_ble_eq_true rfl, Nat.le_of_ble_eq_true rfl⟩) (gh_preV (As := [.int r2]) M G (gh_rec M G haa4 rfl)) rfl rfl hl.1.1 rfl (lv_room (Nat.le_of_ble_eq_true rfl)) dX3_plateOf_28 ⟨(Nat.le_of_ble_eq_true rfl), (Nat.le_of_ble_eq_true rfl)⟩) (gh_out M hex (by exact Nat.le_of_ble_eq_true rfl) (by exact Nat.le_of_ble_eq_true rfl)) (fun r5 h6 H locs hw G => ?_)
  refine lv_iadd hx hb dX3_plateOf_31 ?_
  exact gh_iret M G hr rfl hw (by exact Nat.le_of_ble_eq_true rfl) (by exact Nat.le_of_ble_eq_true rfl) dX3_plateOf_32
set_option maxHeartbeats 4000000 in
theorem met_X3_plateOf (l : Launch) (D : gh_D) (v0 : Nat) (v1 : Int32) (v2 : Int32) (v3 : Int32) (Q : Int32 → gh_H → Prop) (X : String → gh_H → Prop) (h : gh_H) (sz : Nat) (hw : wp_X3_plateOf D.2.2 v0 v1 v2 v3 Q X h) (hst : l.stackTraces = false) : vx_Met l yX3_plateOf (ws_ yX3_plateOf cX3_plateOf 4 (some .int)) rm_X3_plateOf (gh_Pc D h sz [.ref v0, .int v1, .int v2, .int v3]) (gh_Qi Q D h sz) (gh_X X D h sz) 0 0 (gh_A h sz) := by
  refine vx_ofW (by decide) rfl (fun p e s m args below meth c s₁ B hml hex hP => ?_)
  obtain ⟨rfl, rfl, hK, hT, hE, G⟩ := gh_start hP
  have M : gh_M D p l s m _ meth c RX3 cX3_plateOf 4 (gh_A h s.heap.size) := ⟨⟨B.exec, B.bytes, hml, findClass_of_methodNamed B.named, fun w hw => atoms_spec (ws := ws_ yX3_plateOf cX3_plateOf 4 (some .int)) B.pre w (List.mem_cons_of_mem _ hw)⟩, hK, hT, hE, B.notSynchronized, hst⟩
  have hr := B.returns
  have hx := M.1.1
  have hb := M.1.2.1
  refine gh_enter (vs := [(1, .ref v0), (1, .int v1), (1, .int v2), (1, .int v3)]) (gh_w1 rfl (gh_w1 rfl (gh_w1 rfl (gh_w1 rfl gh_wn)))) (Nat.le_of_ble_eq_true rfl) (fun ls hl => ?_)
  replace hl : gh_L ls 4 [(0, 1, va_rf (some v0)), (1, 1, .int v1), (2, 1, .int v2), (3, 1, .int v3)] := hl
  unfold wp_X3_plateOf at hw
  refine gh_aload_n hx hb dX3_plateOf_0 rfl (gh_at hl 0 rfl) ?_
  refine gh_getR M G hw fl_X3_13 dX3_plateOf_1 (fun x1 hw => ?_)
  refine lv_iload_n hx hb dX3_plateOf_4 rfl (gh_at hl 1 rfl) ?_
  refine gh_ial M G hw dX3_plateOf_5 (fun x2 hw => ?_)
  refine lv_bipush (v := (119 : Int32)) hx hb dX3_plateOf_6 (by decide) ?_
  refine lv_icmp_ne (tgt := 33) hx hb dX3_plateOf_8 (by decide) (fun hc => ?_) (fun hc => ?_)
  · replace hw := hw.2 hc
    refine lv_sipush (v := (2000 : Int32)) hx hb dX3_plateOf_33 (by decide) ?_
    refine lv_sipush (v := (1200 : Int32)) hx hb dX3_plateOf_36 (by decide) ?_
    refine gh_aload_n hx hb dX3_plateOf_39 rfl (gh_at hl 0 rfl) ?_
    refine gh_aload_n hx hb dX3_plateOf_40 rfl (gh_at hl 0 rfl) ?_
    refine lv_iload_n hx hb dX3_plateOf_41 rfl (gh_at hl 1 rfl) ?_
    refine lv_iload_n hx hb dX3_plateOf_42 rfl (gh_at hl 2 rfl) ?_
    refine lv_iload_n hx hb dX3_plateOf_43 rfl (gh_at hl 3 rfl) ?_
    refine lv_if_eq (tgt := 51) hx hb dX3_plateOf_44 (by decide) (fun hc => ?_) (fun hc => ?_)
    · replace hw := hw.1 hc
      refine lv_iconst (v := (2 : Int32)) hx hb dX3_plateOf_51 (by decide) ?_
      exact wk_X3_plateOf_52 M hr hex  v0 v1 v2 v3 (2000 : Int32) (1200 : Int32) (some v0) (some v0) v1 v2 (2 : Int32) _ _ _ _ G (gh_sub hl [0, 1, 2, 3] rfl) hw
    · replace hw := hw.2 hc
      refine lv_iconst (v := (0 : Int32)) hx hb dX3_plateOf_47 (by decide) ?_
      refine lv_goto (tgt := 52) hx hb dX3_plateOf_48 (by decide) ?_
      exact wk_X3_plateOf_52 M hr hex  v0 v1 v2 v3 (2000 : Int32) (1200 : Int32) (some v0) (some v0) v1 v2 (0 : Int32) _ _ _ _ G (gh_sub hl [0, 1, 2, 3] rfl) hw
  · replace hw := hw.1 hc
    refine lv_iconst (v := (1 : Int32)) hx hb dX3_plateOf_11 (by decide) ?_
    refine gh_aload_n hx hb dX3_plateOf_12 rfl (gh_at hl 0 rfl) ?_
    refine gh_aload_n hx hb dX3_plateOf_13 rfl (gh_at hl 0 rfl) ?_
    refine lv_iload_n hx hb dX3_plateOf_14 rfl (gh_at hl 1 rfl) ?_
    refine lv_iload_n hx hb dX3_plateOf_15 rfl (gh_at hl 2 rfl) ?_
    refine lv_iload_n hx hb dX3_plateOf_16 rfl (gh_at hl 3 rfl) ?_
    refine lv_if_eq (tgt := 24) hx hb dX3_plateOf_17 (by decide) (fun hc => ?_) (fun hc => ?_)
    · replace hw := hw.1 hc
      refine lv_iconst (v := (1 : Int32)) hx hb dX3_plateOf_24 (by decide) ?_
      exact wk_X3_plateOf_25 M hr hex  (1 : Int32) (some v0) (some v0) v1 v2 (1 : Int32) _ _ _ _ G (gh_sub hl [] rfl) hw
    · replace hw := hw.2 hc
      refine lv_iconst (v := (0 : Int32)) hx hb dX3_plateOf_20 (by decide) ?_
      refine lv_goto (tgt := 25) hx hb dX3_plateOf_21 (by decide) ?_
      exact wk_X3_plateOf_25 M hr hex  (1 : Int32) (some v0) (some v0) v1 v2 (0 : Int32) _ _ _ _ G (gh_sub hl [] rfl) hw
/-! BinderyDeskModel.ready (II)I -/
theorem fl_X3_128 : gh_FL RX3 128 [(1, 9)] := by
  intro args s hts tb q hq
  simp only [List.mem_cons, List.not_mem_nil, or_false] at hq
  subst hq
  exact ⟨_, "BinderyDeskModel", rfl, by decide, Or.inl (hts _ q1578), (fun x h => h)⟩
theorem fl_X3_125 : gh_FL RX3 125 [(1, 8)] := by
  intro args s hts tb q hq
  simp only [List.mem_cons, List.not_mem_nil, or_false] at hq
  subst hq
  exact ⟨_, "BinderyDeskModel", rfl, by decide, Or.inl (hts _ q1577), (fun x h => h)⟩
theorem fl_X3_122 : gh_FL RX3 122 [(1, 7)] := by
  intro args s hts tb q hq
  simp only [List.mem_cons, List.not_mem_nil, or_false] at hq
  subst hq
  exact ⟨_, "BinderyDeskModel", rfl, by decide, Or.inl (hts _ q1576), (fun x h => h)⟩
def rm_X3_ready : Room := { frames := 4, cells := 0, slots := 0, locals := 110 }
def wb_X3_ready_60 (κ : Nat → Nat)  (Q : Int32 → gh_H → Prop) (X : String → gh_H → Prop) (t0 : Int32) (t1 : Int32) (h : gh_H) : Prop := (Q (t0 + t1) h)
def wb_X3_ready_40 (κ : Nat → Nat)  (Q : Int32 → gh_H → Prop) (X : String → gh_H → Prop) (v0 : Nat) (v1 : Int32) (t0 : Int32) (t1 : Int32) (h : gh_H) : Prop := (gh_GR h (some v0) [(1, 13)] (fun x1 => (gh_LI h x1 v1 (fun x2 => (gh_GI h (some v0) [(1, 9)] (fun x3 => ((x2 = x3 → wb_X3_ready_60 κ Q X (t0 + t1) (0 : Int32) h) ∧ (¬ x2 = x3 → wb_X3_ready_60 κ Q X (t0 + t1) (15 : Int32) h))))))))
def wb_X3_ready_20 (κ : Nat → Nat)  (Q : Int32 → gh_H → Prop) (X : String → gh_H → Prop) (v0 : Nat) (v1 : Int32) (v2 : Int32) (t0 : Int32) (h : gh_H) : Prop := (gh_RC h (some v0) 1 (fun _ => (wp_X3_plateOf κ v0 v1 v2 (0 : Int32) (fun r2 h3 => (gh_GI h3 (some v0) [(1, 8)] (fun x4 => ((r2 = x4 → wb_X3_ready_40 κ Q X v0 v1 t0 (0 : Int32) h3) ∧ (¬ r2 = x4 → wb_X3_ready_40 κ Q X v0 v1 t0 (20 : Int32) h3))))) X h)))
def wp_X3_ready (κ : Nat → Nat) (v0 : Nat) (v1 : Int32) (v2 : Int32) (Q : Int32 → gh_H → Prop) (X : String → gh_H → Prop) (h : gh_H) : Prop := (gh_RC h (some v0) 1 (fun _ => (wp_X3_plateOf κ v0 v1 v2 (1 : Int32) (fun r2 h3 => (gh_GI h3 (some v0) [(1, 7)] (fun x4 => ((r2 = x4 → wb_X3_ready_20 κ Q X v0 v1 v2 (0 : Int32) h3) ∧ (¬ r2 = x4 → wb_X3_ready_20 κ Q X v0 v1 v2 (20 : Int32) h3))))) X h)))
set_option maxHeartbeats 4000000 in
theorem wk_X3_ready_60 {D : gh_D} {p : Program} {l : Launch} {e : Env} {s : State} {m : MethodId} {args : Array Value} {below : List Frame} {meth : Method} {c : Code} {h0 : gh_H} (M : gh_M D p l s m args meth c RX3 cX3_ready 3 (gh_A h0 s.heap.size)) (hr : meth.sig.returnType = (some .int)) (hex : ∀ x ∈ c.exceptionTable.toList, False)   {Q : Int32 → gh_H → Prop} {X : String → gh_H → Prop}   (t0 : Int32) (t1 : Int32) (H : Heap) (locs : List Loc) (ls : Array Slot) (h : gh_H) (G : gh_Inv D h0 (gh_A h0 s.heap.size) s.heap s H locs h) (hl : gh_L ls 3 []) (hw : wb_X3_ready_60 D.2.2 Q X t0 t1 h) : W p l e rm_X3_ready s m args below meth c H locs 0 0 (vx_MQ below (gh_Qi Q D h0 s.heap.size) (gh_X X D h0 s.heap.size) args s 0 0 (gh_A h0 s.heap.size)) (F0 m 60 ls [.int t1, .int t0]) := by
  unfold wb_X3_ready_60 at hw
  have hx := M.1.1
  have hb := M.1.2.1
  refine lv_iadd hx hb dX3_ready_60 ?_
  exact gh_iret M G hr rfl hw (by exact Nat.le_of_ble_eq_true rfl) (by exact Nat.le_of_ble_eq_true rfl) dX3_ready_61
set_option maxHeartbeats 4000000 in
theorem wk_X3_ready_40 {D : gh_D} {p : Program} {l : Launch} {e : Env} {s : State} {m : MethodId} {args : Array Value} {below : List Frame} {meth : Method} {c : Code} {h0 : gh_H} (M : gh_M D p l s m args meth c RX3 cX3_ready 3 (gh_A h0 s.heap.size)) (hr : meth.sig.returnType = (some .int)) (hex : ∀ x ∈ c.exceptionTable.toList, False)   {Q : Int32 → gh_H → Prop} {X : String → gh_H → Prop}   (v0 : Nat) (v1 : Int32) (t0 : Int32) (t1 : Int32) (H : Heap) (locs : List Loc) (ls : Array Slot) (h : gh_H) (G : gh_Inv D h0 (gh_A h0 s.heap.size) s.heap s H locs h) (hl : gh_L ls 3 [(0, 1, va_rf (some v0)), (1, 1, .int v1)]) (hw : wb_X3_ready_40 D.2.2 Q X v0 v1 t0 t1 h) : W p l e rm_X3_ready s m args below meth c H locs 0 0 (vx_MQ below (gh_Qi Q D h0 s.heap.size) (gh_X X D h0 s.heap.size) args s 0 0 (gh_A h0 s.heap.size)) (F0 m 40 ls [.int t1, .int t0]) := by
  unfold wb_X3_ready_40 at hw
  have hx := M.1.1
  have hb := M.1.2.1
  refine lv_iadd hx hb dX3_ready_40 ?_
  refine gh_aload_n hx hb dX3_ready_41 rfl (gh_at hl 0 rfl) ?_
  refine gh_getR M G hw fl_X3_13 dX3_ready_42 (fun x1 hw => ?_)
  refine lv_iload_n hx hb dX3_ready_45 rfl (gh_at hl 1 rfl) ?_
  refine gh_ial M G hw dX3_ready_46 (fun x2 hw => ?_)
  refine gh_aload_n hx hb dX3_ready_47 rfl (gh_at hl 0 rfl) ?_
  refine gh_getI M G hw fl_X3_128 dX3_ready_48 (fun x3 hw => ?_)
  refine lv_icmp_ne (tgt := 58) hx hb dX3_ready_51 (by decide) (fun hc => ?_) (fun hc => ?_)
  · replace hw := hw.2 hc
    refine lv_bipush (v := (15 : Int32)) hx hb dX3_ready_58 (by decide) ?_
    exact wk_X3_ready_60 M hr hex  (t0 + t1) (15 : Int32) _ _ _ _ G (gh_sub hl [] rfl) hw
  · replace hw := hw.1 hc
    refine lv_iconst (v := (0 : Int32)) hx hb dX3_ready_54 (by decide) ?_
    refine lv_goto (tgt := 60) hx hb dX3_ready_55 (by decide) ?_
    exact wk_X3_ready_60 M hr hex  (t0 + t1) (0 : Int32) _ _ _ _ G (gh_sub hl [] rfl) hw
set_option maxHeartbeats 4000000 in
theorem wk_X3_ready_20 {D : gh_D} {p : Program} {l : Launch} {e : Env} {s : State} {m : MethodId} {args : Array Value} {below : List Frame} {meth : Method} {c : Code} {h0 : gh_H} (M : gh_M D p l s m args meth c RX3 cX3_ready 3 (gh_A h0 s.heap.size)) (hr : meth.sig.returnType = (some .int)) (hex : ∀ x ∈ c.exceptionTable.toList, False)   {Q : Int32 → gh_H → Prop} {X : String → gh_H → Prop}   (v0 : Nat) (v1 : Int32) (v2 : Int32) (t0 : Int32) (H : Heap) (locs : List Loc) (ls : Array Slot) (h : gh_H) (G : gh_Inv D h0 (gh_A h0 s.heap.size) s.heap s H locs h) (hl : gh_L ls 3 [(0, 1, va_rf (some v0)), (1, 1, .int v1), (2, 1, .int v2)]) (hw : wb_X3_ready_20 D.2.2 Q X v0 v1 v2 t0 h) : W p l e rm_X3_ready s m args below meth c H locs 0 0 (vx_MQ below (gh_Qi Q D h0 s.heap.size) (gh_X X D h0 s.heap.size) args s 0 0 (gh_A h0 s.heap.size)) (F0 m 20 ls [.int t0]) := by
  unfold wb_X3_ready_20 at hw
  have hx := M.1.1
  have hb := M.1.2.1
  refine gh_aload_n hx hb dX3_ready_20 rfl (gh_at hl 0 rfl) ?_
  refine lv_iload_n hx hb dX3_ready_21 rfl (gh_at hl 1 rfl) ?_
  refine lv_iload_n hx hb dX3_ready_22 rfl (gh_at hl 2 rfl) ?_
  refine lv_iconst (v := (0 : Int32)) hx hb dX3_ready_23 (by decide) ?_
  obtain ⟨a1, lba1, fsa1, hra1, haa1, hw⟩ := hw
  rw [← Option.some.inj hra1] at haa1
  refine gh_ki G (vx_runV M.1 (met_X3_plateOf l D _ _ _ _ _ _ _ _ hw M.2.2.2.2.2) (cwV 3 (gh_Mts M) (lw_V q1748 q1750 qs33 q50 q1751) rfl rfl rfl ⟨rfl, by decide, by decide, rfl⟩ ⟨Nat.le_of_ble_eq_true rfl, Nat.le_of_ble_eq_true rfl⟩) (gh_preV (As := [.int v1, .int v2, .int (0 : Int32)]) M G (gh_rec M G haa1 rfl)) rfl rfl hl.1.1 rfl (lv_room (Nat.le_of_ble_eq_true rfl)) dX3_ready_24 ⟨(Nat.le_of_ble_eq_true rfl), (Nat.le_of_ble_eq_true rfl)⟩) (gh_out M hex (by exact Nat.le_of_ble_eq_true rfl) (by exact Nat.le_of_ble_eq_true rfl)) (fun r2 h3 H locs hw G => ?_)
  refine gh_aload_n hx hb dX3_ready_27 rfl (gh_at hl 0 rfl) ?_
  refine gh_getI M G hw fl_X3_125 dX3_ready_28 (fun x4 hw => ?_)
  refine lv_icmp_ne (tgt := 38) hx hb dX3_ready_31 (by decide) (fun hc => ?_) (fun hc => ?_)
  · replace hw := hw.2 hc
    refine lv_bipush (v := (20 : Int32)) hx hb dX3_ready_38 (by decide) ?_
    exact wk_X3_ready_40 M hr hex  v0 v1 t0 (20 : Int32) _ _ _ _ G (gh_sub hl [0, 1] rfl) hw
  · replace hw := hw.1 hc
    refine lv_iconst (v := (0 : Int32)) hx hb dX3_ready_34 (by decide) ?_
    refine lv_goto (tgt := 40) hx hb dX3_ready_35 (by decide) ?_
    exact wk_X3_ready_40 M hr hex  v0 v1 t0 (0 : Int32) _ _ _ _ G (gh_sub hl [0, 1] rfl) hw
set_option maxHeartbeats 4000000 in
theorem met_X3_ready (l : Launch) (D : gh_D) (v0 : Nat) (v1 : Int32) (v2 : Int32) (Q : Int32 → gh_H → Prop) (X : String → gh_H → Prop) (h : gh_H) (sz : Nat) (hw : wp_X3_ready D.2.2 v0 v1 v2 Q X h) (hst : l.stackTraces = false) : vx_Met l yX3_ready (ws_ yX3_ready cX3_ready 3 (some .int)) rm_X3_ready (gh_Pc D h sz [.ref v0, .int v1, .int v2]) (gh_Qi Q D h sz) (gh_X X D h sz) 0 0 (gh_A h sz) := by
  refine vx_ofW (by decide) rfl (fun p e s m args below meth c s₁ B hml hex hP => ?_)
  obtain ⟨rfl, rfl, hK, hT, hE, G⟩ := gh_start hP
  have M : gh_M D p l s m _ meth c RX3 cX3_ready 3 (gh_A h s.heap.size) := ⟨⟨B.exec, B.bytes, hml, findClass_of_methodNamed B.named, fun w hw => atoms_spec (ws := ws_ yX3_ready cX3_ready 3 (some .int)) B.pre w (List.mem_cons_of_mem _ hw)⟩, hK, hT, hE, B.notSynchronized, hst⟩
  have hr := B.returns
  have hx := M.1.1
  have hb := M.1.2.1
  refine gh_enter (vs := [(1, .ref v0), (1, .int v1), (1, .int v2)]) (gh_w1 rfl (gh_w1 rfl (gh_w1 rfl gh_wn))) (Nat.le_of_ble_eq_true rfl) (fun ls hl => ?_)
  replace hl : gh_L ls 3 [(0, 1, va_rf (some v0)), (1, 1, .int v1), (2, 1, .int v2)] := hl
  unfold wp_X3_ready at hw
  refine gh_aload_n hx hb dX3_ready_0 rfl (gh_at hl 0 rfl) ?_
  refine lv_iload_n hx hb dX3_ready_1 rfl (gh_at hl 1 rfl) ?_
  refine lv_iload_n hx hb dX3_ready_2 rfl (gh_at hl 2 rfl) ?_
  refine lv_iconst (v := (1 : Int32)) hx hb dX3_ready_3 (by decide) ?_
  obtain ⟨a1, lba1, fsa1, hra1, haa1, hw⟩ := hw
  rw [← Option.some.inj hra1] at haa1
  refine gh_ki G (vx_runV M.1 (met_X3_plateOf l D _ _ _ _ _ _ _ _ hw M.2.2.2.2.2) (cwV 3 (gh_Mts M) (lw_V q1748 q1750 qs33 q50 q1751) rfl rfl rfl ⟨rfl, by decide, by decide, rfl⟩ ⟨Nat.le_of_ble_eq_true rfl, Nat.le_of_ble_eq_true rfl⟩) (gh_preV (As := [.int v1, .int v2, .int (1 : Int32)]) M G (gh_rec M G haa1 rfl)) rfl rfl hl.1.1 rfl (lv_room (Nat.le_of_ble_eq_true rfl)) dX3_ready_4 ⟨(Nat.le_of_ble_eq_true rfl), (Nat.le_of_ble_eq_true rfl)⟩) (gh_out M hex (by exact Nat.le_of_ble_eq_true rfl) (by exact Nat.le_of_ble_eq_true rfl)) (fun r2 h3 H locs hw G => ?_)
  refine gh_aload_n hx hb dX3_ready_7 rfl (gh_at hl 0 rfl) ?_
  refine gh_getI M G hw fl_X3_122 dX3_ready_8 (fun x4 hw => ?_)
  refine lv_icmp_ne (tgt := 18) hx hb dX3_ready_11 (by decide) (fun hc => ?_) (fun hc => ?_)
  · replace hw := hw.2 hc
    refine lv_bipush (v := (20 : Int32)) hx hb dX3_ready_18 (by decide) ?_
    exact wk_X3_ready_20 M hr hex  v0 v1 v2 (20 : Int32) _ _ _ _ G (gh_sub hl [0, 1, 2] rfl) hw
  · replace hw := hw.1 hc
    refine lv_iconst (v := (0 : Int32)) hx hb dX3_ready_14 (by decide) ?_
    refine lv_goto (tgt := 20) hx hb dX3_ready_15 (by decide) ?_
    exact wk_X3_ready_20 M hr hex  v0 v1 v2 (0 : Int32) _ _ _ _ G (gh_sub hl [0, 1, 2] rfl) hw
/-! BinderyDeskModel.isMade (I)Z -/
theorem fl_X3_91 : gh_FL RX3 91 [(1, 4)] := by
  intro args s hts tb q hq
  simp only [List.mem_cons, List.not_mem_nil, or_false] at hq
  subst hq
  exact ⟨_, "BinderyDeskModel", rfl, by decide, Or.inl (hts _ q1573), (fun x h => h)⟩
def rm_X3_isMade : Room := { frames := 1, cells := 0, slots := 0, locals := 40 }
def wb_X3_isMade_2 (κ : Nat → Nat) (K2 : Nat → Int32 → Int32 → gh_H → Prop) (Q : Int32 → gh_H → Prop) (X : String → gh_H → Prop) (v0 : Nat) (v1 : Int32) (v2 : Int32) (h : gh_H) : Prop := (gh_GI h (some v0) [(1, 4)] (fun x1 => ((x1 ≤ v2 → (narrow .boolean (.int (0 : Int32)) = .int (0 : Int32) ∧ Q (0 : Int32) h)) ∧ (¬ x1 ≤ v2 → (gh_GR h (some v0) [(1, 18)] (fun x2 => (gh_LI h x2 v2 (fun x3 => ((x3 = v1 → (narrow .boolean (.int (1 : Int32)) = .int (1 : Int32) ∧ Q (1 : Int32) h)) ∧ (¬ x3 = v1 → K2 v0 v1 (v2 + (1 : Int32)) h))))))))))
def wl_X3_isMade_2 (κ : Nat → Nat)  (Q : Int32 → gh_H → Prop) (X : String → gh_H → Prop) : Nat → Nat → Int32 → Int32 → gh_H → Prop
  | 0 => fun _ _ _ _ => False
  | n + 1 => fun v0 v1 v2 h => wb_X3_isMade_2 κ (wl_X3_isMade_2 κ Q X n) Q X v0 v1 v2 h
def wp_X3_isMade (κ : Nat → Nat) (v0 : Nat) (v1 : Int32) (Q : Int32 → gh_H → Prop) (X : String → gh_H → Prop) (h : gh_H) : Prop := (∃ n : Nat, wl_X3_isMade_2 κ Q X n v0 v1 (0 : Int32) h)
set_option maxHeartbeats 4000000 in
theorem wk1_X3_isMade_2 {D : gh_D} {p : Program} {l : Launch} {e : Env} {s : State} {m : MethodId} {args : Array Value} {below : List Frame} {meth : Method} {c : Code} {h0 : gh_H} (M : gh_M D p l s m args meth c RX3 cX3_isMade 3 (gh_A h0 s.heap.size)) (hr : meth.sig.returnType = (some .boolean)) (hex : ∀ x ∈ c.exceptionTable.toList, False) {K2 : Nat → Int32 → Int32 → gh_H → Prop}  {Q : Int32 → gh_H → Prop} {X : String → gh_H → Prop} (k2 : ∀ (v0 : Nat) (v1 : Int32) (v2 : Int32) (H : Heap) (locs : List Loc) (ls : Array Slot) (h : gh_H) (_ : gh_Inv D h0 (gh_A h0 s.heap.size) s.heap s H locs h) (_ : gh_L ls 3 [(0, 1, va_rf (some v0)), (1, 1, .int v1), (2, 1, .int v2)]) (_ : K2 v0 v1 v2 h), W p l e rm_X3_isMade s m args below meth c H locs 0 0 (vx_MQ below (gh_Qi Q D h0 s.heap.size) (gh_X X D h0 s.heap.size) args s 0 0 (gh_A h0 s.heap.size)) (F0 m 2 ls []))  (v0 : Nat) (v1 : Int32) (v2 : Int32) (H : Heap) (locs : List Loc) (ls : Array Slot) (h : gh_H) (G : gh_Inv D h0 (gh_A h0 s.heap.size) s.heap s H locs h) (hl : gh_L ls 3 [(0, 1, va_rf (some v0)), (1, 1, .int v1), (2, 1, .int v2)]) (hw : wb_X3_isMade_2 D.2.2 K2 Q X v0 v1 v2 h) : W p l e rm_X3_isMade s m args below meth c H locs 0 0 (vx_MQ below (gh_Qi Q D h0 s.heap.size) (gh_X X D h0 s.heap.size) args s 0 0 (gh_A h0 s.heap.size)) (F0 m 2 ls []) := by
  unfold wb_X3_isMade_2 at hw
  have hx := M.1.1
  have hb := M.1.2.1
  refine lv_iload_n hx hb dX3_isMade_2 rfl (gh_at hl 2 rfl) ?_
  refine gh_aload_n hx hb dX3_isMade_3 rfl (gh_at hl 0 rfl) ?_
  refine gh_getI M G hw fl_X3_91 dX3_isMade_4 (fun x1 hw => ?_)
  refine lv_icmp_ge (tgt := 28) hx hb dX3_isMade_7 (by decide) (fun hc => ?_) (fun hc => ?_)
  · replace hw := hw.1 hc
    refine lv_iconst (v := (0 : Int32)) hx hb dX3_isMade_28 (by decide) ?_
    exact gh_iret M G hr hw.1 hw.2 (by exact Nat.le_of_ble_eq_true rfl) (by exact Nat.le_of_ble_eq_true rfl) dX3_isMade_29
  · replace hw := hw.2 hc
    refine gh_aload_n hx hb dX3_isMade_10 rfl (gh_at hl 0 rfl) ?_
    refine gh_getR M G hw fl_X3_29 dX3_isMade_11 (fun x2 hw => ?_)
    refine lv_iload_n hx hb dX3_isMade_14 rfl (gh_at hl 2 rfl) ?_
    refine gh_ial M G hw dX3_isMade_15 (fun x3 hw => ?_)
    refine lv_iload_n hx hb dX3_isMade_16 rfl (gh_at hl 1 rfl) ?_
    refine lv_icmp_ne (tgt := 22) hx hb dX3_isMade_17 (by decide) (fun hc => ?_) (fun hc => ?_)
    · replace hw := hw.2 hc
      refine gh_iinc (k := 2) (v := (v2 + (1 : Int32))) (lv' := [(2, 1, .int (v2 + (1 : Int32))), (0, 1, va_rf (some v0)), (1, 1, .int v1)]) hx hb dX3_isMade_22 hl rfl rfl (by decide) rfl (fun ls hl => ?_)
      refine lv_goto (tgt := 2) hx hb dX3_isMade_25 (by decide) ?_
      exact k2 v0 v1 (v2 + (1 : Int32)) _ _ _ _ G (gh_sub hl [1, 2, 0] rfl) hw
    · replace hw := hw.1 hc
      refine lv_iconst (v := (1 : Int32)) hx hb dX3_isMade_20 (by decide) ?_
      exact gh_iret M G hr hw.1 hw.2 (by exact Nat.le_of_ble_eq_true rfl) (by exact Nat.le_of_ble_eq_true rfl) dX3_isMade_21
theorem wk_X3_isMade_2 {D : gh_D} {p : Program} {l : Launch} {e : Env} {s : State} {m : MethodId} {args : Array Value} {below : List Frame} {meth : Method} {c : Code} {h0 : gh_H} (M : gh_M D p l s m args meth c RX3 cX3_isMade 3 (gh_A h0 s.heap.size)) (hr : meth.sig.returnType = (some .boolean)) (hex : ∀ x ∈ c.exceptionTable.toList, False)   {Q : Int32 → gh_H → Prop} {X : String → gh_H → Prop}   : ∀ (n : Nat) (v0 : Nat) (v1 : Int32) (v2 : Int32) (H : Heap) (locs : List Loc) (ls : Array Slot) (h : gh_H) (_ : gh_Inv D h0 (gh_A h0 s.heap.size) s.heap s H locs h) (_ : gh_L ls 3 [(0, 1, va_rf (some v0)), (1, 1, .int v1), (2, 1, .int v2)]) (_ : wl_X3_isMade_2 D.2.2 Q X n v0 v1 v2 h), W p l e rm_X3_isMade s m args below meth c H locs 0 0 (vx_MQ below (gh_Qi Q D h0 s.heap.size) (gh_X X D h0 s.heap.size) args s 0 0 (gh_A h0 s.heap.size)) (F0 m 2 ls []) := by
  intro fu
  induction fu with
  | zero => intro v0 v1 v2 H locs ls h G hl hw; exact False.elim hw
  | succ n1 ih =>
    intro v0 v1 v2 H locs ls h G hl hw
    exact wk1_X3_isMade_2 M hr hex ih  v0 v1 v2 _ _ _ _ G hl hw
set_option maxHeartbeats 4000000 in
theorem met_X3_isMade (l : Launch) (D : gh_D) (v0 : Nat) (v1 : Int32) (Q : Int32 → gh_H → Prop) (X : String → gh_H → Prop) (h : gh_H) (sz : Nat) (hw : wp_X3_isMade D.2.2 v0 v1 Q X h) (hst : l.stackTraces = false) : vx_Met l yX3_isMade (ws_ yX3_isMade cX3_isMade 3 (some .boolean)) rm_X3_isMade (gh_Pc D h sz [.ref v0, .int v1]) (gh_Qi Q D h sz) (gh_X X D h sz) 0 0 (gh_A h sz) := by
  refine vx_ofW (by decide) rfl (fun p e s m args below meth c s₁ B hml hex hP => ?_)
  obtain ⟨rfl, rfl, hK, hT, hE, G⟩ := gh_start hP
  have M : gh_M D p l s m _ meth c RX3 cX3_isMade 3 (gh_A h s.heap.size) := ⟨⟨B.exec, B.bytes, hml, findClass_of_methodNamed B.named, fun w hw => atoms_spec (ws := ws_ yX3_isMade cX3_isMade 3 (some .boolean)) B.pre w (List.mem_cons_of_mem _ hw)⟩, hK, hT, hE, B.notSynchronized, hst⟩
  have hr := B.returns
  have hx := M.1.1
  have hb := M.1.2.1
  refine gh_enter (vs := [(1, .ref v0), (1, .int v1)]) (gh_w1 rfl (gh_w1 rfl gh_wn)) (Nat.le_of_ble_eq_true rfl) (fun ls hl => ?_)
  replace hl : gh_L ls 3 [(0, 1, va_rf (some v0)), (1, 1, .int v1)] := hl
  unfold wp_X3_isMade at hw
  refine lv_iconst (v := (0 : Int32)) hx hb dX3_isMade_0 (by decide) ?_
  refine gh_istore_n (lv' := [(2, 1, .int (0 : Int32)), (0, 1, va_rf (some v0)), (1, 1, .int v1)]) hx hb dX3_isMade_1 rfl hl (by decide) rfl (fun ls hl => ?_)
  obtain ⟨n, hw⟩ := hw
  exact wk_X3_isMade_2 M hr hex  n v0 v1 (0 : Int32) _ _ _ _ G (gh_sub hl [1, 2, 0] rfl) hw
/-! BinderyDeskModel.makes (I)V -/
theorem fp_X3_91 : gh_FP RX3 91 [(1, 4)] (.int) false := by
  refine ⟨fl_X3_91, fun q hq => ?_⟩
  simp only [List.mem_cons, List.not_mem_nil, or_false] at hq
  subst hq
  exact ⟨_, rfl, rfl, by decide +kernel, fun h => by cases h⟩
def rm_X3_makes : Room := { frames := 2, cells := 0, slots := 0, locals := 62 }
def wp_X3_makes (κ : Nat → Nat) (v0 : Nat) (v1 : Int32) (Q : gh_H → Prop) (X : String → gh_H → Prop) (h : gh_H) : Prop := (gh_RC h (some v0) 1 (fun _ => (wp_X3_isMade κ v0 v1 (fun r2 h3 => ((r2 = 0 → (gh_GR h3 (some v0) [(1, 18)] (fun x4 => (gh_GI h3 (some v0) [(1, 4)] (fun x5 => (gh_SI h3 x4 x5 v1 (fun h6 => (gh_GI h6 (some v0) [(1, 4)] (fun x7 => (gh_PV h6 (some v0) [(1, 4)] (.int (x7 + (1 : Int32))) (fun h8 => (Q h8)))))))))))) ∧ (¬ r2 = 0 → (Q h3)))) X h)))
set_option maxHeartbeats 4000000 in
theorem met_X3_makes (l : Launch) (D : gh_D) (v0 : Nat) (v1 : Int32) (Q : gh_H → Prop) (X : String → gh_H → Prop) (h : gh_H) (sz : Nat) (hw : wp_X3_makes D.2.2 v0 v1 Q X h) (hst : l.stackTraces = false) : vx_Met l yX3_makes (ws_ yX3_makes cX3_makes 2 none) rm_X3_makes (gh_Pc D h sz [.ref v0, .int v1]) (gh_Qv Q D h sz) (gh_X X D h sz) 0 0 (gh_A h sz) := by
  refine vx_ofW (by decide) rfl (fun p e s m args below meth c s₁ B hml hex hP => ?_)
  obtain ⟨rfl, rfl, hK, hT, hE, G⟩ := gh_start hP
  have M : gh_M D p l s m _ meth c RX3 cX3_makes 2 (gh_A h s.heap.size) := ⟨⟨B.exec, B.bytes, hml, findClass_of_methodNamed B.named, fun w hw => atoms_spec (ws := ws_ yX3_makes cX3_makes 2 none) B.pre w (List.mem_cons_of_mem _ hw)⟩, hK, hT, hE, B.notSynchronized, hst⟩
  have hr := B.returns
  have hx := M.1.1
  have hb := M.1.2.1
  refine gh_enter (vs := [(1, .ref v0), (1, .int v1)]) (gh_w1 rfl (gh_w1 rfl gh_wn)) (Nat.le_of_ble_eq_true rfl) (fun ls hl => ?_)
  replace hl : gh_L ls 2 [(0, 1, va_rf (some v0)), (1, 1, .int v1)] := hl
  unfold wp_X3_makes at hw
  refine gh_aload_n hx hb dX3_makes_0 rfl (gh_at hl 0 rfl) ?_
  refine lv_iload_n hx hb dX3_makes_1 rfl (gh_at hl 1 rfl) ?_
  obtain ⟨a1, lba1, fsa1, hra1, haa1, hw⟩ := hw
  rw [← Option.some.inj hra1] at haa1
  refine gh_ki G (vx_runV M.1 (met_X3_isMade l D _ _ _ _ _ _ hw M.2.2.2.2.2) (cwV 1 (gh_Mts M) (lw_V q1760 q1762 qs36 q50 q1763) rfl rfl rfl ⟨rfl, by decide, by decide, rfl⟩ ⟨Nat.le_of_ble_eq_true rfl, Nat.le_of_ble_eq_true rfl⟩) (gh_preV (As := [.int v1]) M G (gh_rec M G haa1 rfl)) rfl rfl hl.1.1 rfl (lv_room (Nat.le_of_ble_eq_true rfl)) dX3_makes_2 ⟨(Nat.le_of_ble_eq_true rfl), (Nat.le_of_ble_eq_true rfl)⟩) (gh_out M hex (by exact Nat.le_of_ble_eq_true rfl) (by exact Nat.le_of_ble_eq_true rfl)) (fun r2 h3 H locs hw G => ?_)
  refine lv_if_eq (tgt := 9) hx hb dX3_makes_5 (by decide) (fun hc => ?_) (fun hc => ?_)
  · replace hw := hw.1 hc
    refine gh_aload_n hx hb dX3_makes_9 rfl (gh_at hl 0 rfl) ?_
    refine gh_getR M G hw fl_X3_29 dX3_makes_10 (fun x4 hw => ?_)
    refine gh_aload_n hx hb dX3_makes_13 rfl (gh_at hl 0 rfl) ?_
    refine gh_getI M G hw fl_X3_91 dX3_makes_14 (fun x5 hw => ?_)
    refine lv_iload_n hx hb dX3_makes_17 rfl (gh_at hl 1 rfl) ?_
    refine gh_ias M G hw dX3_makes_18 (fun h6 H locs hw G => ?_)
    refine gh_aload_n hx hb dX3_makes_19 rfl (gh_at hl 0 rfl) ?_
    refine lv_dup hx hb dX3_makes_20 (gh_cat _) ?_
    refine gh_getI M G hw fl_X3_91 dX3_makes_21 (fun x7 hw => ?_)
    refine lv_iconst (v := (1 : Int32)) hx hb dX3_makes_24 (by decide) ?_
    refine lv_iadd hx hb dX3_makes_25 ?_
    refine gh_put M G hw fp_X3_91 rfl rfl dX3_makes_26 (fun h8 H locs hw G => ?_)
    exact gh_vret M G hr hw (by exact Nat.le_of_ble_eq_true rfl) (by exact Nat.le_of_ble_eq_true rfl) dX3_makes_29
  · replace hw := hw.2 hc
    exact gh_vret M G hr hw (by exact Nat.le_of_ble_eq_true rfl) (by exact Nat.le_of_ble_eq_true rfl) dX3_makes_8
/-! BinderyDeskModel.print (III)I -/
theorem fp_X3_122 : gh_FP RX3 122 [(1, 7)] (.int) false := by
  refine ⟨fl_X3_122, fun q hq => ?_⟩
  simp only [List.mem_cons, List.not_mem_nil, or_false] at hq
  subst hq
  exact ⟨_, rfl, rfl, by decide +kernel, fun h => by cases h⟩
theorem fp_X3_125 : gh_FP RX3 125 [(1, 8)] (.int) false := by
  refine ⟨fl_X3_125, fun q hq => ?_⟩
  simp only [List.mem_cons, List.not_mem_nil, or_false] at hq
  subst hq
  exact ⟨_, rfl, rfl, by decide +kernel, fun h => by cases h⟩
theorem fp_X3_128 : gh_FP RX3 128 [(1, 9)] (.int) false := by
  refine ⟨fl_X3_128, fun q hq => ?_⟩
  simp only [List.mem_cons, List.not_mem_nil, or_false] at hq
  subst hq
  exact ⟨_, rfl, rfl, by decide +kernel, fun h => by cases h⟩
theorem fl_X3_138 : gh_FL RX3 138 [(1, 11)] := by
  intro args s hts tb q hq
  simp only [List.mem_cons, List.not_mem_nil, or_false] at hq
  subst hq
  exact ⟨_, "BinderyDeskModel", rfl, by decide, Or.inl (hts _ q1580), (fun x h => h)⟩
theorem fp_X3_138 : gh_FP RX3 138 [(1, 11)] (.long) false := by
  refine ⟨fl_X3_138, fun q hq => ?_⟩
  simp only [List.mem_cons, List.not_mem_nil, or_false] at hq
  subst hq
  exact ⟨_, rfl, rfl, by decide +kernel, fun h => by cases h⟩
theorem fl_X3_141 : gh_FL RX3 141 [(1, 5)] := by
  intro args s hts tb q hq
  simp only [List.mem_cons, List.not_mem_nil, or_false] at hq
  subst hq
  exact ⟨_, "BinderyDeskModel", rfl, by decide, Or.inl (hts _ q1574), (fun x h => h)⟩
theorem fp_X3_141 : gh_FP RX3 141 [(1, 5)] (.int) false := by
  refine ⟨fl_X3_141, fun q hq => ?_⟩
  simp only [List.mem_cons, List.not_mem_nil, or_false] at hq
  subst hq
  exact ⟨_, rfl, rfl, by decide +kernel, fun h => by cases h⟩
theorem fl_X3_144 : gh_FL RX3 144 [(1, 6)] := by
  intro args s hts tb q hq
  simp only [List.mem_cons, List.not_mem_nil, or_false] at hq
  subst hq
  exact ⟨_, "BinderyDeskModel", rfl, by decide, Or.inl (hts _ q1575), (fun x h => h)⟩
theorem fp_X3_144 : gh_FP RX3 144 [(1, 6)] (.int) false := by
  refine ⟨fl_X3_144, fun q hq => ?_⟩
  simp only [List.mem_cons, List.not_mem_nil, or_false] at hq
  subst hq
  exact ⟨_, rfl, rfl, by decide +kernel, fun h => by cases h⟩
def rm_X3_print : Room := { frames := 5, cells := 0, slots := 0, locals := 132 }
def wb_X3_print_93 (κ : Nat → Nat) (K57 : Nat → Int32 → Int32 → Int32 → Int32 → Int32 → gh_H → Prop) (Q : Int32 → gh_H → Prop) (X : String → gh_H → Prop) (v0 : Nat) (v1 : Int32) (v2 : Int32) (v3 : Int32) (v5 : Int32) (t0 : Int32) (h : gh_H) : Prop := K57 v0 v1 v2 v3 t0 (v5 + (1 : Int32)) h
def wb_X3_print_92 (κ : Nat → Nat) (K57 : Nat → Int32 → Int32 → Int32 → Int32 → Int32 → gh_H → Prop) (Q : Int32 → gh_H → Prop) (X : String → gh_H → Prop) (v0 : Nat) (v1 : Int32) (v2 : Int32) (v3 : Int32) (v5 : Int32) (h : gh_H) : Prop := wb_X3_print_93 κ K57 Q X v0 v1 v2 v3 v5 (0 : Int32) h
def wb_X3_print_57 (κ : Nat → Nat) (K57 : Nat → Int32 → Int32 → Int32 → Int32 → Int32 → gh_H → Prop) (Q : Int32 → gh_H → Prop) (X : String → gh_H → Prop) (v0 : Nat) (v1 : Int32) (v2 : Int32) (v3 : Int32) (v4 : Int32) (v5 : Int32) (h : gh_H) : Prop := (gh_RC h (some v0) 1 (fun _ => (wp_X3_places κ v0 v1 (fun r2 h3 => ((r2 ≤ v5 → ((v4 = 0 → (gh_RC h3 (some v0) 1 (fun _ => (wp_X3_fails κ v0 (5 : Int32) (fun r34 h35 => (Q r34 h35)) X h3)))) ∧ (¬ v4 = 0 → (gh_RC h3 (some v0) 1 (fun _ => (wp_X3_ready κ v0 v1 v2 (fun r5 h6 => (gh_RC h6 (some v0) 1 (fun _ => (wp_X3_plateOf κ v0 v1 v2 (1 : Int32) (fun r8 h9 => (gh_PV h9 (some v0) [(1, 7)] (.int r8) (fun h10 => (gh_RC h10 (some v0) 1 (fun _ => (wp_X3_plateOf κ v0 v1 v2 (0 : Int32) (fun r12 h13 => (gh_PV h13 (some v0) [(1, 8)] (.int r12) (fun h14 => (gh_GR h14 (some v0) [(1, 13)] (fun x15 => (gh_LI h14 x15 v1 (fun x16 => (gh_PV h14 (some v0) [(1, 9)] (.int x16) (fun h17 => (gh_GI h17 (some v0) [(1, 7)] (fun x18 => (gh_RC h17 (some v0) 1 (fun _ => (wp_X3_makes κ v0 x18 (fun h20 => (gh_GI h20 (some v0) [(1, 8)] (fun x21 => (gh_RC h20 (some v0) 1 (fun _ => (wp_X3_makes κ v0 x21 (fun h23 => (gh_GR h23 (some v0) [(1, 16)] (fun x24 => (gh_LI h23 x24 (((8 : Int32) * v1) + v2) (fun x25 => (gh_SI h23 x24 (((8 : Int32) * v1) + v2) (x25 + v3) (fun h26 => (gh_GJ h26 (some v0) [(1, 11)] (fun x27 => (gh_PV h26 (some v0) [(1, 11)] (.long (x27 + (v3.toInt64))) (fun h28 => (gh_GI h28 (some v0) [(1, 5)] (fun x29 => (gh_PV h28 (some v0) [(1, 5)] (.int (x29 + (1 : Int32))) (fun h30 => (gh_GI h30 (some v0) [(1, 6)] (fun x31 => (gh_PV h30 (some v0) [(1, 6)] (.int (x31 + r5)) (fun h32 => (Q r5 h32)))))))))))))))))))) X h20)))))) X h17)))))))))))))) X h10)))))) X h6)))) X h3)))))) ∧ (¬ r2 ≤ v5 → ((v4 = 0 → wb_X3_print_92 κ K57 Q X v0 v1 v2 v3 v5 h3) ∧ (¬ v4 = 0 → (gh_GR h3 (some v0) [(1, 17)] (fun x36 => (gh_RC h3 (some v0) 1 (fun _ => (wp_X3_contentOn κ v0 v1 v2 v5 (fun r38 h39 => (gh_LZ h39 x36 r38 (fun x40 => ((x40 = 0 → wb_X3_print_92 κ K57 Q X v0 v1 v2 v3 v5 h39) ∧ (¬ x40 = 0 → wb_X3_print_93 κ K57 Q X v0 v1 v2 v3 v5 (1 : Int32) h39))))) X h3)))))))))) X h)))
def wl_X3_print_57 (κ : Nat → Nat)  (Q : Int32 → gh_H → Prop) (X : String → gh_H → Prop) : Nat → Nat → Int32 → Int32 → Int32 → Int32 → Int32 → gh_H → Prop
  | 0 => fun _ _ _ _ _ _ _ => False
  | n + 1 => fun v0 v1 v2 v3 v4 v5 h => wb_X3_print_57 κ (wl_X3_print_57 κ Q X n) Q X v0 v1 v2 v3 v4 v5 h
def wb_X3_print_52 (κ : Nat → Nat)  (Q : Int32 → gh_H → Prop) (X : String → gh_H → Prop) (v0 : Nat) (v1 : Int32) (v2 : Int32) (v3 : Int32) (t0 : Int32) (h : gh_H) : Prop := (∃ n : Nat, wl_X3_print_57 κ Q X n v0 v1 v2 v3 t0 (0 : Int32) h)
def wp_X3_print (κ : Nat → Nat) (v0 : Nat) (v1 : Int32) (v2 : Int32) (v3 : Int32) (Q : Int32 → gh_H → Prop) (X : String → gh_H → Prop) (h : gh_H) : Prop := (gh_RC h (some v0) 1 (fun _ => (wp_X3_isSheet κ v0 v1 v2 (fun r2 h3 => ((r2 = 0 → (Q (0 : Int32) h3)) ∧ (¬ r2 = 0 → (wp_X3_in κ v3 (1 : Int32) (500 : Int32) (fun r4 h5 => ((r4 = 0 → (gh_RC h5 (some v0) 1 (fun _ => (wp_X3_fails κ v0 (4 : Int32) (fun r9 h10 => (Q r9 h10)) X h5)))) ∧ (¬ r4 = 0 → (gh_GR h5 (some v0) [(1, 16)] (fun x6 => (gh_LI h5 x6 (((8 : Int32) * v1) + v2) (fun x7 => (((9999 : Int32) < (x7 + v3) → wb_X3_print_52 κ Q X v0 v1 v2 v3 (0 : Int32) h5) ∧ (¬ (9999 : Int32) < (x7 + v3) → wb_X3_print_52 κ Q X v0 v1 v2 v3 (1 : Int32) h5))))))))) X h3)))) X h)))
set_option maxHeartbeats 4000000 in
theorem wk_X3_print_93 {D : gh_D} {p : Program} {l : Launch} {e : Env} {s : State} {m : MethodId} {args : Array Value} {below : List Frame} {meth : Method} {c : Code} {h0 : gh_H} (M : gh_M D p l s m args meth c RX3 cX3_print 6 (gh_A h0 s.heap.size)) (hr : meth.sig.returnType = (some .int)) (hex : ∀ x ∈ c.exceptionTable.toList, False) {K57 : Nat → Int32 → Int32 → Int32 → Int32 → Int32 → gh_H → Prop}  {Q : Int32 → gh_H → Prop} {X : String → gh_H → Prop} (k57 : ∀ (v0 : Nat) (v1 : Int32) (v2 : Int32) (v3 : Int32) (v4 : Int32) (v5 : Int32) (H : Heap) (locs : List Loc) (ls : Array Slot) (h : gh_H) (_ : gh_Inv D h0 (gh_A h0 s.heap.size) s.heap s H locs h) (_ : gh_L ls 6 [(0, 1, va_rf (some v0)), (1, 1, .int v1), (2, 1, .int v2), (3, 1, .int v3), (4, 1, .int v4), (5, 1, .int v5)]) (_ : K57 v0 v1 v2 v3 v4 v5 h), W p l e rm_X3_print s m args below meth c H locs 0 0 (vx_MQ below (gh_Qi Q D h0 s.heap.size) (gh_X X D h0 s.heap.size) args s 0 0 (gh_A h0 s.heap.size)) (F0 m 57 ls []))  (v0 : Nat) (v1 : Int32) (v2 : Int32) (v3 : Int32) (v5 : Int32) (t0 : Int32) (H : Heap) (locs : List Loc) (ls : Array Slot) (h : gh_H) (G : gh_Inv D h0 (gh_A h0 s.heap.size) s.heap s H locs h) (hl : gh_L ls 6 [(0, 1, va_rf (some v0)), (1, 1, .int v1), (2, 1, .int v2), (3, 1, .int v3), (5, 1, .int v5)]) (hw : wb_X3_print_93 D.2.2 K57 Q X v0 v1 v2 v3 v5 t0 h) : W p l e rm_X3_print s m args below meth c H locs 0 0 (vx_MQ below (gh_Qi Q D h0 s.heap.size) (gh_X X D h0 s.heap.size) args s 0 0 (gh_A h0 s.heap.size)) (F0 m 93 ls [.int t0]) := by
  unfold wb_X3_print_93 at hw
  have hx := M.1.1
  have hb := M.1.2.1
  refine gh_istore (lv' := [(4, 1, .int t0), (0, 1, va_rf (some v0)), (1, 1, .int v1), (2, 1, .int v2), (3, 1, .int v3), (5, 1, .int v5)]) hx hb dX3_print_93 hl (by decide) rfl (fun ls hl => ?_)
  refine gh_iinc (k := 5) (v := (v5 + (1 : Int32))) (lv' := [(5, 1, .int (v5 + (1 : Int32))), (4, 1, .int t0), (0, 1, va_rf (some v0)), (1, 1, .int v1), (2, 1, .int v2), (3, 1, .int v3)]) hx hb dX3_print_95 hl rfl rfl (by decide) rfl (fun ls hl => ?_)
  refine lv_goto (tgt := 57) hx hb dX3_print_98 (by decide) ?_
  exact k57 v0 v1 v2 v3 t0 (v5 + (1 : Int32)) _ _ _ _ G (gh_sub hl [2, 3, 4, 5, 1, 0] rfl) hw
set_option maxHeartbeats 4000000 in
theorem wk_X3_print_92 {D : gh_D} {p : Program} {l : Launch} {e : Env} {s : State} {m : MethodId} {args : Array Value} {below : List Frame} {meth : Method} {c : Code} {h0 : gh_H} (M : gh_M D p l s m args meth c RX3 cX3_print 6 (gh_A h0 s.heap.size)) (hr : meth.sig.returnType = (some .int)) (hex : ∀ x ∈ c.exceptionTable.toList, False) {K57 : Nat → Int32 → Int32 → Int32 → Int32 → Int32 → gh_H → Prop}  {Q : Int32 → gh_H → Prop} {X : String → gh_H → Prop} (k57 : ∀ (v0 : Nat) (v1 : Int32) (v2 : Int32) (v3 : Int32) (v4 : Int32) (v5 : Int32) (H : Heap) (locs : List Loc) (ls : Array Slot) (h : gh_H) (_ : gh_Inv D h0 (gh_A h0 s.heap.size) s.heap s H locs h) (_ : gh_L ls 6 [(0, 1, va_rf (some v0)), (1, 1, .int v1), (2, 1, .int v2), (3, 1, .int v3), (4, 1, .int v4), (5, 1, .int v5)]) (_ : K57 v0 v1 v2 v3 v4 v5 h), W p l e rm_X3_print s m args below meth c H locs 0 0 (vx_MQ below (gh_Qi Q D h0 s.heap.size) (gh_X X D h0 s.heap.size) args s 0 0 (gh_A h0 s.heap.size)) (F0 m 57 ls []))  (v0 : Nat) (v1 : Int32) (v2 : Int32) (v3 : Int32) (v5 : Int32) (H : Heap) (locs : List Loc) (ls : Array Slot) (h : gh_H) (G : gh_Inv D h0 (gh_A h0 s.heap.size) s.heap s H locs h) (hl : gh_L ls 6 [(0, 1, va_rf (some v0)), (1, 1, .int v1), (2, 1, .int v2), (3, 1, .int v3), (5, 1, .int v5)]) (hw : wb_X3_print_92 D.2.2 K57 Q X v0 v1 v2 v3 v5 h) : W p l e rm_X3_print s m args below meth c H locs 0 0 (vx_MQ below (gh_Qi Q D h0 s.heap.size) (gh_X X D h0 s.heap.size) args s 0 0 (gh_A h0 s.heap.size)) (F0 m 92 ls []) := by
  unfold wb_X3_print_92 at hw
  have hx := M.1.1
  have hb := M.1.2.1
  refine lv_iconst (v := (0 : Int32)) hx hb dX3_print_92 (by decide) ?_
  exact wk_X3_print_93 M hr hex k57 v0 v1 v2 v3 v5 (0 : Int32) _ _ _ _ G (gh_sub hl [0, 1, 2, 3, 4] rfl) hw
set_option maxHeartbeats 4000000 in
theorem wk1_X3_print_57 {D : gh_D} {p : Program} {l : Launch} {e : Env} {s : State} {m : MethodId} {args : Array Value} {below : List Frame} {meth : Method} {c : Code} {h0 : gh_H} (M : gh_M D p l s m args meth c RX3 cX3_print 6 (gh_A h0 s.heap.size)) (hr : meth.sig.returnType = (some .int)) (hex : ∀ x ∈ c.exceptionTable.toList, False) {K57 : Nat → Int32 → Int32 → Int32 → Int32 → Int32 → gh_H → Prop}  {Q : Int32 → gh_H → Prop} {X : String → gh_H → Prop} (k57 : ∀ (v0 : Nat) (v1 : Int32) (v2 : Int32) (v3 : Int32) (v4 : Int32) (v5 : Int32) (H : Heap) (locs : List Loc) (ls : Array Slot) (h : gh_H) (_ : gh_Inv D h0 (gh_A h0 s.heap.size) s.heap s H locs h) (_ : gh_L ls 6 [(0, 1, va_rf (some v0)), (1, 1, .int v1), (2, 1, .int v2), (3, 1, .int v3), (4, 1, .int v4), (5, 1, .int v5)]) (_ : K57 v0 v1 v2 v3 v4 v5 h), W p l e rm_X3_print s m args below meth c H locs 0 0 (vx_MQ below (gh_Qi Q D h0 s.heap.size) (gh_X X D h0 s.heap.size) args s 0 0 (gh_A h0 s.heap.size)) (F0 m 57 ls []))  (v0 : Nat) (v1 : Int32) (v2 : Int32) (v3 : Int32) (v4 : Int32) (v5 : Int32) (H : Heap) (locs : List Loc) (ls : Array Slot) (h : gh_H) (G : gh_Inv D h0 (gh_A h0 s.heap.size) s.heap s H locs h) (hl : gh_L ls 6 [(0, 1, va_rf (some v0)), (1, 1, .int v1), (2, 1, .int v2), (3, 1, .int v3), (4, 1, .int v4), (5, 1, .int v5)]) (hw : wb_X3_print_57 D.2.2 K57 Q X v0 v1 v2 v3 v4 v5 h) : W p l e rm_X3_print s m args below meth c H locs 0 0 (vx_MQ below (gh_Qi Q D h0 s.heap.size) (gh_X X D h0 s.heap.size) args s 0 0 (gh_A h0 s.heap.size)) (F0 m 57 ls []) := by
  unfold wb_X3_print_57 at hw
  have hx := M.1.1
  have hb := M.1.2.1
  refine lv_iload hx hb dX3_print_57 (gh_at hl 5 rfl) ?_
  refine gh_aload_n hx hb dX3_print_59 rfl (gh_at hl 0 rfl) ?_
  refine lv_iload_n hx hb dX3_print_60 rfl (gh_at hl 1 rfl) ?_
  obtain ⟨a1, lba1, fsa1, hra1, haa1, hw⟩ := hw
  rw [← Option.some.inj hra1] at haa1
  refine gh_ki G (vx_runV M.1 (met_X3_places l D _ _ _ _ _ _ hw M.2.2.2.2.2) (cwV 1 (gh_Mts M) (lw_V q1680 q1682 qs24 q50 q1683) rfl rfl rfl ⟨rfl, by decide, by decide, rfl⟩ ⟨Nat.le_of_ble_eq_true rfl, Nat.le_of_ble_eq_true rfl⟩) (gh_preV (As := [.int v1]) M G (gh_rec M G haa1 rfl)) rfl rfl hl.1.1 rfl (lv_room (Nat.le_of_ble_eq_true rfl)) dX3_print_61 ⟨(Nat.le_of_ble_eq_true rfl), (Nat.le_of_ble_eq_true rfl)⟩) (gh_out M hex (by exact Nat.le_of_ble_eq_true rfl) (by exact Nat.le_of_ble_eq_true rfl)) (fun r2 h3 H locs hw G => ?_)
  refine lv_icmp_ge (tgt := 101) hx hb dX3_print_64 (by decide) (fun hc => ?_) (fun hc => ?_)
  · replace hw := hw.1 hc
    refine lv_iload hx hb dX3_print_101 (gh_at hl 4 rfl) ?_
    refine lv_if_ne (tgt := 112) hx hb dX3_print_103 (by decide) (fun hc => ?_) (fun hc => ?_)
    · replace hw := hw.2 hc
      refine gh_aload_n hx hb dX3_print_112 rfl (gh_at hl 0 rfl) ?_
      refine lv_iload_n hx hb dX3_print_113 rfl (gh_at hl 1 rfl) ?_
      refine lv_iload_n hx hb dX3_print_114 rfl (gh_at hl 2 rfl) ?_
      obtain ⟨a4, lba4, fsa4, hra4, haa4, hw⟩ := hw
      rw [← Option.some.inj hra4] at haa4
      refine gh_ki G (vx_runV M.1 (met_X3_ready l D _ _ _ _ _ _ _ hw M.2.2.2.2.2) (cwV 2 (gh_Mts M) (lw_V q1744 q1746 qs32 q50 q1747) rfl rfl rfl ⟨rfl, by decide, by decide, rfl⟩ ⟨Nat.le_of_ble_eq_true rfl, Nat.le_of_ble_eq_true rfl⟩) (gh_preV (As := [.int v1, .int v2]) M G (gh_rec M G haa4 rfl)) rfl rfl hl.1.1 rfl (lv_room (Nat.le_of_ble_eq_true rfl)) dX3_print_115 ⟨(Nat.le_of_ble_eq_true rfl), (Nat.le_of_ble_eq_true rfl)⟩) (gh_out M hex (by exact Nat.le_of_ble_eq_true rfl) (by exact Nat.le_of_ble_eq_true rfl)) (fun r5 h6 H locs hw G => ?_)
      refine gh_istore (lv' := [(5, 1, .int r5), (0, 1, va_rf (some v0)), (1, 1, .int v1), (2, 1, .int v2), (3, 1, .int v3), (4, 1, .int v4)]) hx hb dX3_print_118 hl (by decide) rfl (fun ls hl => ?_)
      refine gh_aload_n hx hb dX3_print_120 rfl (gh_at hl 1 rfl) ?_
      refine gh_aload_n hx hb dX3_print_121 rfl (gh_at hl 1 rfl) ?_
      refine lv_iload_n hx hb dX3_print_122 rfl (gh_at hl 2 rfl) ?_
      refine lv_iload_n hx hb dX3_print_123 rfl (gh_at hl 3 rfl) ?_
      refine lv_iconst (v := (1 : Int32)) hx hb dX3_print_124 (by decide) ?_
      obtain ⟨a7, lba7, fsa7, hra7, haa7, hw⟩ := hw
      rw [← Option.some.inj hra7] at haa7
      refine gh_ki G (vx_runV M.1 (met_X3_plateOf l D _ _ _ _ _ _ _ _ hw M.2.2.2.2.2) (cwV 3 (gh_Mts M) (lw_V q1748 q1750 qs33 q50 q1751) rfl rfl rfl ⟨rfl, by decide, by decide, rfl⟩ ⟨Nat.le_of_ble_eq_true rfl, Nat.le_of_ble_eq_true rfl⟩) (gh_preV (As := [.int v1, .int v2, .int (1 : Int32)]) M G (gh_rec M G haa7 rfl)) rfl rfl hl.1.1 rfl (lv_room (Nat.le_trans (gh_r1 (gh_cat _) gh_r0) (Nat.le_of_ble_eq_true rfl : 1 ≤ 8))) dX3_print_125 ⟨(Nat.le_of_ble_eq_true rfl), (Nat.le_of_ble_eq_true rfl)⟩) (gh_out M hex (by exact Nat.le_of_ble_eq_true rfl) (by exact Nat.le_of_ble_eq_true rfl)) (fun r8 h9 H locs hw G => ?_)
      refine gh_put M G hw fp_X3_122 rfl rfl dX3_print_128 (fun h10 H locs hw G => ?_)
      refine gh_aload_n hx hb dX3_print_131 rfl (gh_at hl 1 rfl) ?_
      refine gh_aload_n hx hb dX3_print_132 rfl (gh_at hl 1 rfl) ?_
      refine lv_iload_n hx hb dX3_print_133 rfl (gh_at hl 2 rfl) ?_
      refine lv_iload_n hx hb dX3_print_134 rfl (gh_at hl 3 rfl) ?_
      refine lv_iconst (v := (0 : Int32)) hx hb dX3_print_135 (by decide) ?_
      obtain ⟨a11, lba11, fsa11, hra11, haa11, hw⟩ := hw
      rw [← Option.some.inj hra11] at haa11
      refine gh_ki G (vx_runV M.1 (met_X3_plateOf l D _ _ _ _ _ _ _ _ hw M.2.2.2.2.2) (cwV 3 (gh_Mts M) (lw_V q1748 q1750 qs33 q50 q1751) rfl rfl rfl ⟨rfl, by decide, by decide, rfl⟩ ⟨Nat.le_of_ble_eq_true rfl, Nat.le_of_ble_eq_true rfl⟩) (gh_preV (As := [.int v1, .int v2, .int (0 : Int32)]) M G (gh_rec M G haa11 rfl)) rfl rfl hl.1.1 rfl (lv_room (Nat.le_trans (gh_r1 (gh_cat _) gh_r0) (Nat.le_of_ble_eq_true rfl : 1 ≤ 8))) dX3_print_136 ⟨(Nat.le_of_ble_eq_true rfl), (Nat.le_of_ble_eq_true rfl)⟩) (gh_out M hex (by exact Nat.le_of_ble_eq_true rfl) (by exact Nat.le_of_ble_eq_true rfl)) (fun r12 h13 H locs hw G => ?_)
      refine gh_put M G hw fp_X3_125 rfl rfl dX3_print_139 (fun h14 H locs hw G => ?_)
      refine gh_aload_n hx hb dX3_print_142 rfl (gh_at hl 1 rfl) ?_
      refine gh_aload_n hx hb dX3_print_143 rfl (gh_at hl 1 rfl) ?_
      refine gh_getR M G hw fl_X3_13 dX3_print_144 (fun x15 hw => ?_)
      refine lv_iload_n hx hb dX3_print_147 rfl (gh_at hl 2 rfl) ?_
      refine gh_ial M G hw dX3_print_148 (fun x16 hw => ?_)
      refine gh_put M G hw fp_X3_128 rfl rfl dX3_print_149 (fun h17 H locs hw G => ?_)
      refine gh_aload_n hx hb dX3_print_152 rfl (gh_at hl 1 rfl) ?_
      refine gh_aload_n hx hb dX3_print_153 rfl (gh_at hl 1 rfl) ?_
      refine gh_getI M G hw fl_X3_122 dX3_print_154 (fun x18 hw => ?_)
      obtain ⟨a19, lba19, fsa19, hra19, haa19, hw⟩ := hw
      rw [← Option.some.inj hra19] at haa19
      refine gh_kv G (vx_runV M.1 (met_X3_makes l D _ _ _ _ _ _ hw M.2.2.2.2.2) (cwV 1 (gh_Mts M) (lw_V q1756 q1758 qs35 q50 q1759) rfl rfl rfl ⟨rfl, by decide, by decide, rfl⟩ ⟨Nat.le_of_ble_eq_true rfl, Nat.le_of_ble_eq_true rfl⟩) (gh_preV (As := [.int x18]) M G (gh_rec M G haa19 rfl)) rfl rfl hl.1.1 rfl (lv_room (Nat.le_of_ble_eq_true rfl)) dX3_print_157 ⟨(Nat.le_of_ble_eq_true rfl), (Nat.le_of_ble_eq_true rfl)⟩) (gh_out M hex (by exact Nat.le_of_ble_eq_true rfl) (by exact Nat.le_of_ble_eq_true rfl)) (fun h20 H locs hw G => ?_)
      refine gh_aload_n hx hb dX3_print_160 rfl (gh_at hl 1 rfl) ?_
      refine gh_aload_n hx hb dX3_print_161 rfl (gh_at hl 1 rfl) ?_
      refine gh_getI M G hw fl_X3_125 dX3_print_162 (fun x21 hw => ?_)
      obtain ⟨a22, lba22, fsa22, hra22, haa22, hw⟩ := hw
      rw [← Option.some.inj hra22] at haa22
      refine gh_kv G (vx_runV M.1 (met_X3_makes l D _ _ _ _ _ _ hw M.2.2.2.2.2) (cwV 1 (gh_Mts M) (lw_V q1756 q1758 qs35 q50 q1759) rfl rfl rfl ⟨rfl, by decide, by decide, rfl⟩ ⟨Nat.le_of_ble_eq_true rfl, Nat.le_of_ble_eq_true rfl⟩) (gh_preV (As := [.int x21]) M G (gh_rec M G haa22 rfl)) rfl rfl hl.1.1 rfl (lv_room (Nat.le_of_ble_eq_true rfl)) dX3_print_165 ⟨(Nat.le_of_ble_eq_true rfl), (Nat.le_of_ble_eq_true rfl)⟩) (gh_out M hex (by exact Nat.le_of_ble_eq_true rfl) (by exact Nat.le_of_ble_eq_true rfl)) (fun h23 H locs hw G => ?_)
      refine gh_aload_n hx hb dX3_print_168 rfl (gh_at hl 1 rfl) ?_
      refine gh_getR M G hw fl_X3_22 dX3_print_169 (fun x24 hw => ?_)
      refine lv_bipush (v := (8 : Int32)) hx hb dX3_print_172 (by decide) ?_
      refine lv_iload_n hx hb dX3_print_174 rfl (gh_at hl 2 rfl) ?_
      refine lv_imul hx hb dX3_print_175 ?_
      refine lv_iload_n hx hb dX3_print_176 rfl (gh_at hl 3 rfl) ?_
      refine lv_iadd hx hb dX3_print_177 ?_
      refine lv_dup2_11 hx hb dX3_print_178 rfl (gh_cat _) ?_
      refine gh_ial M G hw dX3_print_179 (fun x25 hw => ?_)
      refine lv_iload_n hx hb dX3_print_180 rfl (gh_at hl 4 rfl) ?_
      refine lv_iadd hx hb dX3_print_181 ?_
      refine gh_ias M G hw dX3_print_182 (fun h26 H locs hw G => ?_)
      refine gh_aload_n hx hb dX3_print_183 rfl (gh_at hl 1 rfl) ?_
      refine lv_dup hx hb dX3_print_184 (gh_cat _) ?_
      refine gh_getJ M G hw fl_X3_138 dX3_print_185 (fun x27 hw => ?_)
      refine lv_iload_n hx hb dX3_print_188 rfl (gh_at hl 4 rfl) ?_
      refine lv_i2l (v := (v3.toInt64)) hx hb dX3_print_189 rfl ?_
      refine lv_ladd hx hb dX3_print_190 ?_
      refine gh_put M G hw fp_X3_138 rfl rfl dX3_print_191 (fun h28 H locs hw G => ?_)
      refine gh_aload_n hx hb dX3_print_194 rfl (gh_at hl 1 rfl) ?_
      refine lv_dup hx hb dX3_print_195 (gh_cat _) ?_
      refine gh_getI M G hw fl_X3_141 dX3_print_196 (fun x29 hw => ?_)
      refine lv_iconst (v := (1 : Int32)) hx hb dX3_print_199 (by decide) ?_
      refine lv_iadd hx hb dX3_print_200 ?_
      refine gh_put M G hw fp_X3_141 rfl rfl dX3_print_201 (fun h30 H locs hw G => ?_)
      refine gh_aload_n hx hb dX3_print_204 rfl (gh_at hl 1 rfl) ?_
      refine lv_dup hx hb dX3_print_205 (gh_cat _) ?_
      refine gh_getI M G hw fl_X3_144 dX3_print_206 (fun x31 hw => ?_)
      refine lv_iload hx hb dX3_print_209 (gh_at hl 0 rfl) ?_
      refine lv_iadd hx hb dX3_print_211 ?_
      refine gh_put M G hw fp_X3_144 rfl rfl dX3_print_212 (fun h32 H locs hw G => ?_)
      refine lv_iload hx hb dX3_print_215 (gh_at hl 0 rfl) ?_
      exact gh_iret M G hr rfl hw (by exact Nat.le_of_ble_eq_true rfl) (by exact Nat.le_of_ble_eq_true rfl) dX3_print_217
    · replace hw := hw.1 hc
      refine gh_aload_n hx hb dX3_print_106 rfl (gh_at hl 0 rfl) ?_
      refine lv_iconst (v := (5 : Int32)) hx hb dX3_print_107 (by decide) ?_
      obtain ⟨a33, lba33, fsa33, hra33, haa33, hw⟩ := hw
      rw [← Option.some.inj hra33] at haa33
      refine gh_ki G (vx_runV M.1 (met_X3_fails l D _ _ _ _ _ _ hw M.2.2.2.2.2) (cwV 1 (gh_Mts M) (lw_V q1657 q1659 qs21 q50 q1660) rfl rfl rfl ⟨rfl, by decide, by decide, rfl⟩ ⟨Nat.le_of_ble_eq_true rfl, Nat.le_of_ble_eq_true rfl⟩) (gh_preV (As := [.int (5 : Int32)]) M G (gh_rec M G haa33 rfl)) rfl rfl hl.1.1 rfl (lv_room (Nat.le_of_ble_eq_true rfl)) dX3_print_108 ⟨(Nat.le_of_ble_eq_true rfl), (Nat.le_of_ble_eq_true rfl)⟩) (gh_out M hex (by exact Nat.le_of_ble_eq_true rfl) (by exact Nat.le_of_ble_eq_true rfl)) (fun r34 h35 H locs hw G => ?_)
      exact gh_iret M G hr rfl hw (by exact Nat.le_of_ble_eq_true rfl) (by exact Nat.le_of_ble_eq_true rfl) dX3_print_111
  · replace hw := hw.2 hc
    refine lv_iload hx hb dX3_print_67 (gh_at hl 4 rfl) ?_
    refine lv_if_eq (tgt := 92) hx hb dX3_print_69 (by decide) (fun hc => ?_) (fun hc => ?_)
    · replace hw := hw.1 hc
      exact wk_X3_print_92 M hr hex k57 v0 v1 v2 v3 v5 _ _ _ _ G (gh_sub hl [0, 1, 2, 3, 5] rfl) hw
    · replace hw := hw.2 hc
      refine gh_aload_n hx hb dX3_print_72 rfl (gh_at hl 0 rfl) ?_
      refine gh_getR M G hw fl_X3_25 dX3_print_73 (fun x36 hw => ?_)
      refine gh_aload_n hx hb dX3_print_76 rfl (gh_at hl 0 rfl) ?_
      refine lv_iload_n hx hb dX3_print_77 rfl (gh_at hl 1 rfl) ?_
      refine lv_iload_n hx hb dX3_print_78 rfl (gh_at hl 2 rfl) ?_
      refine lv_iload hx hb dX3_print_79 (gh_at hl 5 rfl) ?_
      obtain ⟨a37, lba37, fsa37, hra37, haa37, hw⟩ := hw
      rw [← Option.some.inj hra37] at haa37
      refine gh_ki G (vx_runV M.1 (met_X3_contentOn l D _ _ _ _ _ _ _ _ hw M.2.2.2.2.2) (cwV 3 (gh_Mts M) (lw_V q1692 q1694 qs27 q50 q1695) rfl rfl rfl ⟨rfl, by decide, by decide, rfl⟩ ⟨Nat.le_of_ble_eq_true rfl, Nat.le_of_ble_eq_true rfl⟩) (gh_preV (As := [.int v1, .int v2, .int v5]) M G (gh_rec M G haa37 rfl)) rfl rfl hl.1.1 rfl (lv_room (Nat.le_trans (gh_r1 (gh_cat _) gh_r0) (Nat.le_of_ble_eq_true rfl : 1 ≤ 8))) dX3_print_81 ⟨(Nat.le_of_ble_eq_true rfl), (Nat.le_of_ble_eq_true rfl)⟩) (gh_out M hex (by exact Nat.le_of_ble_eq_true rfl) (by exact Nat.le_of_ble_eq_true rfl)) (fun r38 h39 H locs hw G => ?_)
      refine gh_zal M G hw dX3_print_84 (fun x40 hw => ?_)
      refine lv_if_eq (tgt := 92) hx hb dX3_print_85 (by decide) (fun hc => ?_) (fun hc => ?_)
      · replace hw := hw.1 hc
        exact wk_X3_print_92 M hr hex k57 v0 v1 v2 v3 v5 _ _ _ _ G (gh_sub hl [0, 1, 2, 3, 5] rfl) hw
      · replace hw := hw.2 hc
        refine lv_iconst (v := (1 : Int32)) hx hb dX3_print_88 (by decide) ?_
        refine lv_goto (tgt := 93) hx hb dX3_print_89 (by decide) ?_
        exact wk_X3_print_93 M hr hex k57 v0 v1 v2 v3 v5 (1 : Int32) _ _ _ _ G (gh_sub hl [0, 1, 2, 3, 5] rfl) hw
theorem wk_X3_print_57 {D : gh_D} {p : Program} {l : Launch} {e : Env} {s : State} {m : MethodId} {args : Array Value} {below : List Frame} {meth : Method} {c : Code} {h0 : gh_H} (M : gh_M D p l s m args meth c RX3 cX3_print 6 (gh_A h0 s.heap.size)) (hr : meth.sig.returnType = (some .int)) (hex : ∀ x ∈ c.exceptionTable.toList, False)   {Q : Int32 → gh_H → Prop} {X : String → gh_H → Prop}   : ∀ (n : Nat) (v0 : Nat) (v1 : Int32) (v2 : Int32) (v3 : Int32) (v4 : Int32) (v5 : Int32) (H : Heap) (locs : List Loc) (ls : Array Slot) (h : gh_H) (_ : gh_Inv D h0 (gh_A h0 s.heap.size) s.heap s H locs h) (_ : gh_L ls 6 [(0, 1, va_rf (some v0)), (1, 1, .int v1), (2, 1, .int v2), (3, 1, .int v3), (4, 1, .int v4), (5, 1, .int v5)]) (_ : wl_X3_print_57 D.2.2 Q X n v0 v1 v2 v3 v4 v5 h), W p l e rm_X3_print s m args below meth c H locs 0 0 (vx_MQ below (gh_Qi Q D h0 s.heap.size) (gh_X X D h0 s.heap.size) args s 0 0 (gh_A h0 s.heap.size)) (F0 m 57 ls []) := by
  intro fu
  induction fu with
  | zero => intro v0 v1 v2 v3 v4 v5 H locs ls h G hl hw; exact False.elim hw
  | succ n1 ih =>
    intro v0 v1 v2 v3 v4 v5 H locs ls h G hl hw
    exact wk1_X3_print_57 M hr hex ih  v0 v1 v2 v3 v4 v5 _ _ _ _ G hl hw
set_option maxHeartbeats 4000000 in
theorem wk_X3_print_52 {D : gh_D} {p : Program} {l : Launch} {e : Env} {s : State} {m : MethodId} {args : Array Value} {below : List Frame} {meth : Method} {c : Code} {h0 : gh_H} (M : gh_M D p l s m args meth c RX3 cX3_print 6 (gh_A h0 s.heap.size)) (hr : meth.sig.returnType = (some .int)) (hex : ∀ x ∈ c.exceptionTable.toList, False)   {Q : Int32 → gh_H → Prop} {X : String → gh_H → Prop}   (v0 : Nat) (v1 : Int32) (v2 : Int32) (v3 : Int32) (t0 : Int32) (H : Heap) (locs : List Loc) (ls : Array Slot) (h : gh_H) (G : gh_Inv D h0 (gh_A h0 s.heap.size) s.heap s H locs h) (hl : gh_L ls 6 [(0, 1, va_rf (some v0)), (1, 1, .int v1), (2, 1, .int v2), (3, 1, .int v3)]) (hw : wb_X3_print_52 D.2.2 Q X v0 v1 v2 v3 t0 h) : W p l e rm_X3_print s m args below meth c H locs 0 0 (vx_MQ below (gh_Qi Q D h0 s.heap.size) (gh_X X D h0 s.heap.size) args s 0 0 (gh_A h0 s.heap.size)) (F0 m 52 ls [.int t0]) := by
  unfold wb_X3_print_52 at hw
  have hx := M.1.1
  have hb := M.1.2.1
  refine gh_istore (lv' := [(4, 1, .int t0), (0, 1, va_rf (some v0)), (1, 1, .int v1), (2, 1, .int v2), (3, 1, .int v3)]) hx hb dX3_print_52 hl (by decide) rfl (fun ls hl => ?_)
  refine lv_iconst (v := (0 : Int32)) hx hb dX3_print_54 (by decide) ?_
  refine gh_istore (lv' := [(5, 1, .int (0 : Int32)), (4, 1, .int t0), (0, 1, va_rf (some v0)), (1, 1, .int v1), (2, 1, .int v2), (3, 1, .int v3)]) hx hb dX3_print_55 hl (by decide) rfl (fun ls hl => ?_)
  obtain ⟨n, hw⟩ := hw
  exact wk_X3_print_57 M hr hex  n v0 v1 v2 v3 t0 (0 : Int32) _ _ _ _ G (gh_sub hl [2, 3, 4, 5, 1, 0] rfl) hw
set_option maxHeartbeats 4000000 in
theorem met_X3_print (l : Launch) (D : gh_D) (v0 : Nat) (v1 : Int32) (v2 : Int32) (v3 : Int32) (Q : Int32 → gh_H → Prop) (X : String → gh_H → Prop) (h : gh_H) (sz : Nat) (hw : wp_X3_print D.2.2 v0 v1 v2 v3 Q X h) (hst : l.stackTraces = false) : vx_Met l yX3_print (ws_ yX3_print cX3_print 6 (some .int)) rm_X3_print (gh_Pc D h sz [.ref v0, .int v1, .int v2, .int v3]) (gh_Qi Q D h sz) (gh_X X D h sz) 0 0 (gh_A h sz) := by
  refine vx_ofW (by decide) rfl (fun p e s m args below meth c s₁ B hml hex hP => ?_)
  obtain ⟨rfl, rfl, hK, hT, hE, G⟩ := gh_start hP
  have M : gh_M D p l s m _ meth c RX3 cX3_print 6 (gh_A h s.heap.size) := ⟨⟨B.exec, B.bytes, hml, findClass_of_methodNamed B.named, fun w hw => atoms_spec (ws := ws_ yX3_print cX3_print 6 (some .int)) B.pre w (List.mem_cons_of_mem _ hw)⟩, hK, hT, hE, B.notSynchronized, hst⟩
  have hr := B.returns
  have hx := M.1.1
  have hb := M.1.2.1
  refine gh_enter (vs := [(1, .ref v0), (1, .int v1), (1, .int v2), (1, .int v3)]) (gh_w1 rfl (gh_w1 rfl (gh_w1 rfl (gh_w1 rfl gh_wn)))) (Nat.le_of_ble_eq_true rfl) (fun ls hl => ?_)
  replace hl : gh_L ls 6 [(0, 1, va_rf (some v0)), (1, 1, .int v1), (2, 1, .int v2), (3, 1, .int v3)] := hl
  unfold wp_X3_print at hw
  refine gh_aload_n hx hb dX3_print_0 rfl (gh_at hl 0 rfl) ?_
  refine lv_iload_n hx hb dX3_print_1 rfl (gh_at hl 1 rfl) ?_
  refine lv_iload_n hx hb dX3_print_2 rfl (gh_at hl 2 rfl) ?_
  obtain ⟨a1, lba1, fsa1, hra1, haa1, hw⟩ := hw
  rw [← Option.some.inj hra1] at haa1
  refine gh_ki G (vx_runV M.1 (met_X3_isSheet l D _ _ _ _ _ _ _ hw M.2.2.2.2.2) (cwV 2 (gh_Mts M) (lw_V q1732 q1734 qs31 q50 q1735) rfl rfl rfl ⟨rfl, by decide, by decide, rfl⟩ ⟨Nat.le_of_ble_eq_true rfl, Nat.le_of_ble_eq_true rfl⟩) (gh_preV (As := [.int v1, .int v2]) M G (gh_rec M G haa1 rfl)) rfl rfl hl.1.1 rfl (lv_room (Nat.le_of_ble_eq_true rfl)) dX3_print_3 ⟨(Nat.le_of_ble_eq_true rfl), (Nat.le_of_ble_eq_true rfl)⟩) (gh_out M hex (by exact Nat.le_of_ble_eq_true rfl) (by exact Nat.le_of_ble_eq_true rfl)) (fun r2 h3 H locs hw G => ?_)
  refine lv_if_ne (tgt := 11) hx hb dX3_print_6 (by decide) (fun hc => ?_) (fun hc => ?_)
  · replace hw := hw.2 hc
    refine lv_iload_n hx hb dX3_print_11 rfl (gh_at hl 3 rfl) ?_
    refine lv_iconst (v := (1 : Int32)) hx hb dX3_print_12 (by decide) ?_
    refine lv_sipush (v := (500 : Int32)) hx hb dX3_print_13 (by decide) ?_
    refine gh_ki G (vx_runS M.1 (met_X3_in l D _ _ _ _ _ _ _ hw M.2.2.2.2.2) (va_cwS 3 (gh_Mts M) (lw_S q1669 q1670 q50 q1671) rfl rfl rfl ⟨by decide, by decide, rfl⟩ ⟨Nat.le_of_ble_eq_true rfl, Nat.le_of_ble_eq_true rfl⟩) (gh_pre M G (As := [.int v3, .int (1 : Int32), .int (500 : Int32)])) rfl rfl hl.1.1 rfl (lv_room (Nat.le_of_ble_eq_true rfl)) dX3_print_16 ⟨(Nat.le_of_ble_eq_true rfl), (Nat.le_of_ble_eq_true rfl)⟩) (gh_out M hex (by exact Nat.le_of_ble_eq_true rfl) (by exact Nat.le_of_ble_eq_true rfl)) (fun r4 h5 H locs hw G => ?_)
    refine lv_if_ne (tgt := 28) hx hb dX3_print_19 (by decide) (fun hc => ?_) (fun hc => ?_)
    · replace hw := hw.2 hc
      refine gh_aload_n hx hb dX3_print_28 rfl (gh_at hl 0 rfl) ?_
      refine gh_getR M G hw fl_X3_22 dX3_print_29 (fun x6 hw => ?_)
      refine lv_bipush (v := (8 : Int32)) hx hb dX3_print_32 (by decide) ?_
      refine lv_iload_n hx hb dX3_print_34 rfl (gh_at hl 1 rfl) ?_
      refine lv_imul hx hb dX3_print_35 ?_
      refine lv_iload_n hx hb dX3_print_36 rfl (gh_at hl 2 rfl) ?_
      refine lv_iadd hx hb dX3_print_37 ?_
      refine gh_ial M G hw dX3_print_38 (fun x7 hw => ?_)
      refine lv_iload_n hx hb dX3_print_39 rfl (gh_at hl 3 rfl) ?_
      refine lv_iadd hx hb dX3_print_40 ?_
      refine lv_sipush (v := (9999 : Int32)) hx hb dX3_print_41 (by decide) ?_
      refine lv_icmp_gt (tgt := 51) hx hb dX3_print_44 (by decide) (fun hc => ?_) (fun hc => ?_)
      · replace hw := hw.1 hc
        refine lv_iconst (v := (0 : Int32)) hx hb dX3_print_51 (by decide) ?_
        exact wk_X3_print_52 M hr hex  v0 v1 v2 v3 (0 : Int32) _ _ _ _ G (gh_sub hl [0, 1, 2, 3] rfl) hw
      · replace hw := hw.2 hc
        refine lv_iconst (v := (1 : Int32)) hx hb dX3_print_47 (by decide) ?_
        refine lv_goto (tgt := 52) hx hb dX3_print_48 (by decide) ?_
        exact wk_X3_print_52 M hr hex  v0 v1 v2 v3 (1 : Int32) _ _ _ _ G (gh_sub hl [0, 1, 2, 3] rfl) hw
    · replace hw := hw.1 hc
      refine gh_aload_n hx hb dX3_print_22 rfl (gh_at hl 0 rfl) ?_
      refine lv_iconst (v := (4 : Int32)) hx hb dX3_print_23 (by decide) ?_
      obtain ⟨a8, lba8, fsa8, hra8, haa8, hw⟩ := hw
      rw [← Option.some.inj hra8] at haa8
      refine gh_ki G (vx_runV M.1 (met_X3_fails l D _ _ _ _ _ _ hw M.2.2.2.2.2) (cwV 1 (gh_Mts M) (lw_V q1657 q1659 qs21 q50 q1660) rfl rfl rfl ⟨rfl, by decide, by decide, rfl⟩ ⟨Nat.le_of_ble_eq_true rfl, Nat.le_of_ble_eq_true rfl⟩) (gh_preV (As := [.int (4 : Int32)]) M G (gh_rec M G haa8 rfl)) rfl rfl hl.1.1 rfl (lv_room (Nat.le_of_ble_eq_true rfl)) dX3_print_24 ⟨(Nat.le_of_ble_eq_true rfl), (Nat.le_of_ble_eq_true rfl)⟩) (gh_out M hex (by exact Nat.le_of_ble_eq_true rfl) (by exact Nat.le_of_ble_eq_true rfl)) (fun r9 h10 H locs hw G => ?_)
      exact gh_iret M G hr rfl hw (by exact Nat.le_of_ble_eq_true rfl) (by exact Nat.le_of_ble_eq_true rfl) dX3_print_27
  · replace hw := hw.1 hc
    refine lv_iconst (v := (0 : Int32)) hx hb dX3_print_9 (by decide) ?_
    exact gh_iret M G hr rfl hw (by exact Nat.le_of_ble_eq_true rfl) (by exact Nat.le_of_ble_eq_true rfl) dX3_print_10
