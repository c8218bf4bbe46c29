set_option maxRecDepth 100000
/-! java/util/AbstractCollection.<init> ()V -/
def rm_J0_init : Room := { frames := 2, cells := 0, slots := 0, locals := 80 }
def wp_J0_init (κ : Nat → Nat) (v0 : Nat) (Q : gh_H → Prop) (X : String → gh_H → Prop) (h : gh_H) : Prop := (Q h)
set_option maxHeartbeats 4000000 in
theorem met_J0_init (l : Launch) (D : gh_D) (v0 : Nat) (Q : gh_H → Prop) (X : String → gh_H → Prop) (h : gh_H) (sz : Nat) (hw : wp_J0_init D.2.2 v0 Q X h) (hst : l.stackTraces = false) : vx_Met l yJ0_init (ws_ yJ0_init cJ0_init 1 none) rm_J0_init (gh_Pc D h sz [.ref v0]) (gh_Qv Q D h sz) (gh_X X D h sz) 0 0 (gh_A h sz) := by
  refine vx_ofW (by decide) rfl (fun p e s m args below meth c s₁ B hml hex hP => ?_)
  obtain ⟨rfl, rfl, hK, hT, hE, G⟩ := gh_start hP
  have M : gh_M D p l s m _ meth c RJ0 cJ0_init 1 (gh_A h s.heap.size) := ⟨⟨B.exec, B.bytes, hml, findClass_of_methodNamed B.named, fun w hw => atoms_spec (ws := ws_ yJ0_init cJ0_init 1 none) B.pre w (List.mem_cons_of_mem _ hw)⟩, hK, hT, hE, B.notSynchronized, hst⟩
  have hr := B.returns
  have hname : meth.name = "<init>" := (name_of_methodNamed B.named B.method).1
  have hx := M.1.1
  have hb := M.1.2.1
  refine gh_enter (vs := [(1, .ref v0)]) (gh_w1 rfl gh_wn) (Nat.le_of_ble_eq_true rfl) (fun ls hl => ?_)
  replace hl : gh_L ls 1 [(0, 1, va_rf (some v0))] := hl
  unfold wp_J0_init at hw
  refine gh_aload_n hx hb dJ0_init_0 rfl (gh_at hl 0 rfl) ?_
  refine W.objInit M.1.1 M.1.2.1 M.1.2.2.2.1 (gh_Mts M _ q104) (gh_Mts M _ q91) (gh_Mts M _ q92) rfl (hl.1.1.trans M.1.2.2.1.symm) rfl dJ0_init_1 (Nat.le_of_ble_eq_true rfl) (Nat.le_trans (Nat.add_le_add_right (Nat.add_le_add_left gh_r0 _) _) (Nat.le_of_ble_eq_true rfl)) ?_
  exact gh_vret M G hr hw (by exact Nat.le_of_ble_eq_true rfl) (by exact Nat.le_of_ble_eq_true rfl) dJ0_init_4
/-! java/util/AbstractList.<init> ()V -/
theorem fl_J1_7 : gh_FL RJ1 7 [(8, 0)] := by
  intro args s hts tb q hq
  simp only [List.mem_cons, List.not_mem_nil, or_false] at hq
  subst hq
  exact ⟨_, "java/util/AbstractList", rfl, by decide, Or.inl (hts _ q111), (fun x h => h)⟩
theorem fp_J1_7 : gh_FP RJ1 7 [(8, 0)] (.int) false := by
  refine ⟨fl_J1_7, fun q hq => ?_⟩
  simp only [List.mem_cons, List.not_mem_nil, or_false] at hq
  subst hq
  exact ⟨_, rfl, rfl, by decide +kernel, fun h => by cases h⟩
def rm_J1_init : Room := { frames := 3, cells := 0, slots := 0, locals := 100 }
def wp_J1_init (κ : Nat → Nat) (v0 : Nat) (Q : gh_H → Prop) (X : String → gh_H → Prop) (h : gh_H) : Prop := (wp_J0_init κ v0 (fun h1 => (gh_PV h1 (some v0) [(8, 0)] (.int (0 : Int32)) (fun h2 => (Q h2)))) X h)
set_option maxHeartbeats 4000000 in
theorem met_J1_init (l : Launch) (D : gh_D) (v0 : Nat) (Q : gh_H → Prop) (X : String → gh_H → Prop) (h : gh_H) (sz : Nat) (hw : wp_J1_init D.2.2 v0 Q X h) (hst : l.stackTraces = false) : vx_Met l yJ1_init (ws_ yJ1_init cJ1_init 1 none) rm_J1_init (gh_Pc D h sz [.ref v0]) (gh_Qv Q D h sz) (gh_X X D h sz) 0 0 (gh_A h sz) := by
  refine vx_ofW (by decide) rfl (fun p e s m args below meth c s₁ B hml hex hP => ?_)
  obtain ⟨rfl, rfl, hK, hT, hE, G⟩ := gh_start hP
  have M : gh_M D p l s m _ meth c RJ1 cJ1_init 1 (gh_A h s.heap.size) := ⟨⟨B.exec, B.bytes, hml, findClass_of_methodNamed B.named, fun w hw => atoms_spec (ws := ws_ yJ1_init cJ1_init 1 none) B.pre w (List.mem_cons_of_mem _ hw)⟩, hK, hT, hE, B.notSynchronized, hst⟩
  have hr := B.returns
  have hname : meth.name = "<init>" := (name_of_methodNamed B.named B.method).1
  have hx := M.1.1
  have hb := M.1.2.1
  refine gh_enter (vs := [(1, .ref v0)]) (gh_w1 rfl gh_wn) (Nat.le_of_ble_eq_true rfl) (fun ls hl => ?_)
  replace hl : gh_L ls 1 [(0, 1, va_rf (some v0))] := hl
  unfold wp_J1_init at hw
  refine gh_aload_n hx hb dJ1_init_0 rfl (gh_at hl 0 rfl) ?_
  refine gh_kv G (vx_runI M.1 (met_J0_init l D _ _ _ _ _ hw M.2.2.2.2.2) (cwI 0 (gh_Mts M) (lw_meth q103) rfl rfl rfl (gh_Mts M _ q42) (gh_Mts M _ q101) (gh_Mts M _ q102) rfl ⟨by decide, by decide, rfl⟩ ⟨Nat.le_of_ble_eq_true rfl, Nat.le_of_ble_eq_true rfl⟩) (gh_pre M G (As := .ref v0 :: [])) rfl rfl hl.1.1 rfl (lv_room (Nat.le_of_ble_eq_true rfl)) dJ1_init_1 ⟨(Nat.le_of_ble_eq_true rfl), (Nat.le_of_ble_eq_true rfl)⟩) (gh_out M hex (by exact Nat.le_of_ble_eq_true rfl) (by exact Nat.le_of_ble_eq_true rfl)) (fun h1 H locs hw G => ?_)
  refine gh_aload_n hx hb dJ1_init_4 rfl (gh_at hl 0 rfl) ?_
  refine lv_iconst (v := (0 : Int32)) hx hb dJ1_init_5 (by decide) ?_
  refine gh_put M G hw fp_J1_7 rfl rfl dJ1_init_6 (fun h2 H locs hw G => ?_)
  exact gh_vret M G hr hw (by exact Nat.le_of_ble_eq_true rfl) (by exact Nat.le_of_ble_eq_true rfl) dJ1_init_9
/-! java/util/ArrayList.<init> ()V -/
theorem fl_J2_9 : gh_FL RJ2 9 [(8, 1)] := by
  intro args s hts tb q hq
  simp only [List.mem_cons, List.not_mem_nil, or_false] at hq
  subst hq
  exact ⟨_, "java/util/ArrayList", rfl, by decide, Or.inl (hts _ q107), (fun x h => h)⟩
theorem fp_J2_9 : gh_FP RJ2 9 [(8, 1)] (.array (.object "java/lang/Object")) false := by
  refine ⟨fl_J2_9, fun q hq => ?_⟩
  simp only [List.mem_cons, List.not_mem_nil, or_false] at hq
  subst hq
  exact ⟨_, rfl, rfl, by decide +kernel, fun h => by cases h⟩
def rm_J2_init : Room := { frames := 4, cells := 0, slots := 0, locals := 120 }
def wp_J2_init (κ : Nat → Nat) (v0 : Nat) (Q : gh_H → Prop) (X : String → gh_H → Prop) (h : gh_H) : Prop := (wp_J1_init κ v0 (fun h1 => (gh_PV h1 (some v0) [(8, 1)] (va_rf (some (κ 0))) (fun h2 => (Q h2)))) X h)
set_option maxHeartbeats 4000000 in
theorem met_J2_init (l : Launch) (D : gh_D) (v0 : Nat) (Q : gh_H → Prop) (X : String → gh_H → Prop) (h : gh_H) (sz : Nat) (hw : wp_J2_init D.2.2 v0 Q X h) (hst : l.stackTraces = false) : vx_Met l yJ2_init (ws_ yJ2_init cJ2_init 1 none) rm_J2_init (gh_Pc D h sz [.ref v0]) (gh_Qv Q D h sz) (gh_X X D h sz) 0 0 (gh_A h sz) := by
  refine vx_ofW (by decide) rfl (fun p e s m args below meth c s₁ B hml hex hP => ?_)
  obtain ⟨rfl, rfl, hK, hT, hE, G⟩ := gh_start hP
  have M : gh_M D p l s m _ meth c RJ2 cJ2_init 1 (gh_A h s.heap.size) := ⟨⟨B.exec, B.bytes, hml, findClass_of_methodNamed B.named, fun w hw => atoms_spec (ws := ws_ yJ2_init cJ2_init 1 none) B.pre w (List.mem_cons_of_mem _ hw)⟩, hK, hT, hE, B.notSynchronized, hst⟩
  have hr := B.returns
  have hname : meth.name = "<init>" := (name_of_methodNamed B.named B.method).1
  have hx := M.1.1
  have hb := M.1.2.1
  refine gh_enter (vs := [(1, .ref v0)]) (gh_w1 rfl gh_wn) (Nat.le_of_ble_eq_true rfl) (fun ls hl => ?_)
  replace hl : gh_L ls 1 [(0, 1, va_rf (some v0))] := hl
  unfold wp_J2_init at hw
  refine gh_aload_n hx hb dJ2_init_0 rfl (gh_at hl 0 rfl) ?_
  refine gh_kv G (vx_runI M.1 (met_J1_init l D _ _ _ _ _ hw M.2.2.2.2.2) (cwI 0 (gh_Mts M) (lw_meth q100) rfl rfl rfl (gh_Mts M _ q43) (gh_Mts M _ q98) (gh_Mts M _ q99) rfl ⟨by decide, by decide, rfl⟩ ⟨Nat.le_of_ble_eq_true rfl, Nat.le_of_ble_eq_true rfl⟩) (gh_pre M G (As := .ref v0 :: [])) rfl rfl hl.1.1 rfl (lv_room (Nat.le_of_ble_eq_true rfl)) dJ2_init_1 ⟨(Nat.le_of_ble_eq_true rfl), (Nat.le_of_ble_eq_true rfl)⟩) (gh_out M hex (by exact Nat.le_of_ble_eq_true rfl) (by exact Nat.le_of_ble_eq_true rfl)) (fun h1 H locs hw G => ?_)
  refine gh_aload_n hx hb dJ2_init_4 rfl (gh_at hl 0 rfl) ?_
  refine gh_gets (v := va_rf (some (D.2.2 0))) M G M.2.2.2.1.1 q105 rfl dJ2_init_5 ?_
  refine gh_put M G hw fp_J2_9 (gh_narA _ _) (gh_fitA _ _) dJ2_init_8 (fun h2 H locs hw G => ?_)
  exact gh_vret M G hr hw (by exact Nat.le_of_ble_eq_true rfl) (by exact Nat.le_of_ble_eq_true rfl) dJ2_init_11
/-! java/util/AbstractMap.<init> ()V -/
def rm_J5_init : Room := { frames := 2, cells := 0, slots := 0, locals := 80 }
def wp_J5_init (κ : Nat → Nat) (v0 : Nat) (Q : gh_H → Prop) (X : String → gh_H → Prop) (h : gh_H) : Prop := (Q h)
set_option maxHeartbeats 4000000 in
theorem met_J5_init (l : Launch) (D : gh_D) (v0 : Nat) (Q : gh_H → Prop) (X : String → gh_H → Prop) (h : gh_H) (sz : Nat) (hw : wp_J5_init D.2.2 v0 Q X h) (hst : l.stackTraces = false) : vx_Met l yJ5_init (ws_ yJ5_init cJ5_init 1 none) rm_J5_init (gh_Pc D h sz [.ref v0]) (gh_Qv Q D h sz) (gh_X X D h sz) 0 0 (gh_A h sz) := by
  refine vx_ofW (by decide) rfl (fun p e s m args below meth c s₁ B hml hex hP => ?_)
  obtain ⟨rfl, rfl, hK, hT, hE, G⟩ := gh_start hP
  have M : gh_M D p l s m _ meth c RJ5 cJ5_init 1 (gh_A h s.heap.size) := ⟨⟨B.exec, B.bytes, hml, findClass_of_methodNamed B.named, fun w hw => atoms_spec (ws := ws_ yJ5_init cJ5_init 1 none) B.pre w (List.mem_cons_of_mem _ hw)⟩, hK, hT, hE, B.notSynchronized, hst⟩
  have hr := B.returns
  have hname : meth.name = "<init>" := (name_of_methodNamed B.named B.method).1
  have hx := M.1.1
  have hb := M.1.2.1
  refine gh_enter (vs := [(1, .ref v0)]) (gh_w1 rfl gh_wn) (Nat.le_of_ble_eq_true rfl) (fun ls hl => ?_)
  replace hl : gh_L ls 1 [(0, 1, va_rf (some v0))] := hl
  unfold wp_J5_init at hw
  refine gh_aload_n hx hb dJ5_init_0 rfl (gh_at hl 0 rfl) ?_
  refine W.objInit M.1.1 M.1.2.1 M.1.2.2.2.1 (gh_Mts M _ q135) (gh_Mts M _ q91) (gh_Mts M _ q92) rfl (hl.1.1.trans M.1.2.2.1.symm) rfl dJ5_init_1 (Nat.le_of_ble_eq_true rfl) (Nat.le_trans (Nat.add_le_add_right (Nat.add_le_add_left gh_r0 _) _) (Nat.le_of_ble_eq_true rfl)) ?_
  exact gh_vret M G hr hw (by exact Nat.le_of_ble_eq_true rfl) (by exact Nat.le_of_ble_eq_true rfl) dJ5_init_4
/-! java/util/TreeMap.<init> ()V -/
theorem fl_J6_7 : gh_FL RJ6 7 [(11, 4)] := by
  intro args s hts tb q hq
  simp only [List.mem_cons, List.not_mem_nil, or_false] at hq
  subst hq
  exact ⟨_, "java/util/TreeMap", rfl, by decide, Or.inl (hts _ q138), (fun x h => h)⟩
theorem fp_J6_7 : gh_FP RJ6 7 [(11, 4)] (.int) false := by
  refine ⟨fl_J6_7, fun q hq => ?_⟩
  simp only [List.mem_cons, List.not_mem_nil, or_false] at hq
  subst hq
  exact ⟨_, rfl, rfl, by decide +kernel, fun h => by cases h⟩
theorem fl_J6_13 : gh_FL RJ6 13 [(11, 5)] := by
  intro args s hts tb q hq
  simp only [List.mem_cons, List.not_mem_nil, or_false] at hq
  subst hq
  exact ⟨_, "java/util/TreeMap", rfl, by decide, Or.inl (hts _ q139), (fun x h => h)⟩
theorem fp_J6_13 : gh_FP RJ6 13 [(11, 5)] (.int) false := by
  refine ⟨fl_J6_13, fun q hq => ?_⟩
  simp only [List.mem_cons, List.not_mem_nil, or_false] at hq
  subst hq
  exact ⟨_, rfl, rfl, by decide +kernel, fun h => by cases h⟩
theorem fl_J6_16 : gh_FL RJ6 16 [(11, 2)] := by
  intro args s hts tb q hq
  simp only [List.mem_cons, List.not_mem_nil, or_false] at hq
  subst hq
  exact ⟨_, "java/util/TreeMap", rfl, by decide, Or.inl (hts _ q136), (fun x h => h)⟩
theorem fp_J6_16 : gh_FP RJ6 16 [(11, 2)] (.object "java/util/Comparator") true := by
  refine ⟨fl_J6_16, fun q hq => ?_⟩
  simp only [List.mem_cons, List.not_mem_nil, or_false] at hq
  subst hq
  exact ⟨_, rfl, rfl, by decide +kernel, fun _ => rfl⟩
def rm_J6_init : Room := { frames := 3, cells := 0, slots := 0, locals := 100 }
def wp_J6_init (κ : Nat → Nat) (v0 : Nat) (Q : gh_H → Prop) (X : String → gh_H → Prop) (h : gh_H) : Prop := (wp_J5_init κ v0 (fun h1 => (gh_PV h1 (some v0) [(11, 4)] (.int (0 : Int32)) (fun h2 => (gh_PV h2 (some v0) [(11, 5)] (.int (0 : Int32)) (fun h3 => (gh_PV h3 (some v0) [(11, 2)] (va_rf none) (fun h4 => (Q h4)))))))) X h)
set_option maxHeartbeats 4000000 in
theorem met_J6_init (l : Launch) (D : gh_D) (v0 : Nat) (Q : gh_H → Prop) (X : String → gh_H → Prop) (h : gh_H) (sz : Nat) (hw : wp_J6_init D.2.2 v0 Q X h) (hst : l.stackTraces = false) : vx_Met l yJ6_init (ws_ yJ6_init cJ6_init 1 none) rm_J6_init (gh_Pc D h sz [.ref v0]) (gh_Qv Q D h sz) (gh_X X D h sz) 0 0 (gh_A h sz) := by
  refine vx_ofW (by decide) rfl (fun p e s m args below meth c s₁ B hml hex hP => ?_)
  obtain ⟨rfl, rfl, hK, hT, hE, G⟩ := gh_start hP
  have M : gh_M D p l s m _ meth c RJ6 cJ6_init 1 (gh_A h s.heap.size) := ⟨⟨B.exec, B.bytes, hml, findClass_of_methodNamed B.named, fun w hw => atoms_spec (ws := ws_ yJ6_init cJ6_init 1 none) B.pre w (List.mem_cons_of_mem _ hw)⟩, hK, hT, hE, B.notSynchronized, hst⟩
  have hr := B.returns
  have hname : meth.name = "<init>" := (name_of_methodNamed B.named B.method).1
  have hx := M.1.1
  have hb := M.1.2.1
  refine gh_enter (vs := [(1, .ref v0)]) (gh_w1 rfl gh_wn) (Nat.le_of_ble_eq_true rfl) (fun ls hl => ?_)
  replace hl : gh_L ls 1 [(0, 1, va_rf (some v0))] := hl
  unfold wp_J6_init at hw
  refine gh_aload_n hx hb dJ6_init_0 rfl (gh_at hl 0 rfl) ?_
  refine gh_kv G (vx_runI M.1 (met_J5_init l D _ _ _ _ _ hw M.2.2.2.2.2) (cwI 0 (gh_Mts M) (lw_meth q134) rfl rfl rfl (gh_Mts M _ q47) (gh_Mts M _ q132) (gh_Mts M _ q133) rfl ⟨by decide, by decide, rfl⟩ ⟨Nat.le_of_ble_eq_true rfl, Nat.le_of_ble_eq_true rfl⟩) (gh_pre M G (As := .ref v0 :: [])) rfl rfl hl.1.1 rfl (lv_room (Nat.le_of_ble_eq_true rfl)) dJ6_init_1 ⟨(Nat.le_of_ble_eq_true rfl), (Nat.le_of_ble_eq_true rfl)⟩) (gh_out M hex (by exact Nat.le_of_ble_eq_true rfl) (by exact Nat.le_of_ble_eq_true rfl)) (fun h1 H locs hw G => ?_)
  refine gh_aload_n hx hb dJ6_init_4 rfl (gh_at hl 0 rfl) ?_
  refine lv_iconst (v := (0 : Int32)) hx hb dJ6_init_5 (by decide) ?_
  refine gh_put M G hw fp_J6_7 rfl rfl dJ6_init_6 (fun h2 H locs hw G => ?_)
  refine gh_aload_n hx hb dJ6_init_9 rfl (gh_at hl 0 rfl) ?_
  refine lv_iconst (v := (0 : Int32)) hx hb dJ6_init_10 (by decide) ?_
  refine gh_put M G hw fp_J6_13 rfl rfl dJ6_init_11 (fun h3 H locs hw G => ?_)
  refine gh_aload_n hx hb dJ6_init_14 rfl (gh_at hl 0 rfl) ?_
  refine gh_null hx hb dJ6_init_15 ?_
  refine gh_putF M G hname hw fp_J6_16 (gh_narR _ _) (gh_fitR _ _) dJ6_init_16 (fun h4 H locs hw G => ?_)
  exact gh_vret M G hr hw (by exact Nat.le_of_ble_eq_true rfl) (by exact Nat.le_of_ble_eq_true rfl) dJ6_init_19
/-! java/util/AbstractSet.<init> ()V -/
def rm_J3_init : Room := { frames := 3, cells := 0, slots := 0, locals := 100 }
def wp_J3_init (κ : Nat → Nat) (v0 : Nat) (Q : gh_H → Prop) (X : String → gh_H → Prop) (h : gh_H) : Prop := (wp_J0_init κ v0 (fun h1 => (Q h1)) X h)
set_option maxHeartbeats 4000000 in
theorem met_J3_init (l : Launch) (D : gh_D) (v0 : Nat) (Q : gh_H → Prop) (X : String → gh_H → Prop) (h : gh_H) (sz : Nat) (hw : wp_J3_init D.2.2 v0 Q X h) (hst : l.stackTraces = false) : vx_Met l yJ3_init (ws_ yJ3_init cJ3_init 1 none) rm_J3_init (gh_Pc D h sz [.ref v0]) (gh_Qv Q D h sz) (gh_X X D h sz) 0 0 (gh_A h sz) := by
  refine vx_ofW (by decide) rfl (fun p e s m args below meth c s₁ B hml hex hP => ?_)
  obtain ⟨rfl, rfl, hK, hT, hE, G⟩ := gh_start hP
  have M : gh_M D p l s m _ meth c RJ3 cJ3_init 1 (gh_A h s.heap.size) := ⟨⟨B.exec, B.bytes, hml, findClass_of_methodNamed B.named, fun w hw => atoms_spec (ws := ws_ yJ3_init cJ3_init 1 none) B.pre w (List.mem_cons_of_mem _ hw)⟩, hK, hT, hE, B.notSynchronized, hst⟩
  have hr := B.returns
  have hname : meth.name = "<init>" := (name_of_methodNamed B.named B.method).1
  have hx := M.1.1
  have hb := M.1.2.1
  refine gh_enter (vs := [(1, .ref v0)]) (gh_w1 rfl gh_wn) (Nat.le_of_ble_eq_true rfl) (fun ls hl => ?_)
  replace hl : gh_L ls 1 [(0, 1, va_rf (some v0))] := hl
  unfold wp_J3_init at hw
  refine gh_aload_n hx hb dJ3_init_0 rfl (gh_at hl 0 rfl) ?_
  refine gh_kv G (vx_runI M.1 (met_J0_init l D _ _ _ _ _ hw M.2.2.2.2.2) (cwI 0 (gh_Mts M) (lw_meth q103) rfl rfl rfl (gh_Mts M _ q42) (gh_Mts M _ q167) (gh_Mts M _ q102) rfl ⟨by decide, by decide, rfl⟩ ⟨Nat.le_of_ble_eq_true rfl, Nat.le_of_ble_eq_true rfl⟩) (gh_pre M G (As := .ref v0 :: [])) rfl rfl hl.1.1 rfl (lv_room (Nat.le_of_ble_eq_true rfl)) dJ3_init_1 ⟨(Nat.le_of_ble_eq_true rfl), (Nat.le_of_ble_eq_true rfl)⟩) (gh_out M hex (by exact Nat.le_of_ble_eq_true rfl) (by exact Nat.le_of_ble_eq_true rfl)) (fun h1 H locs hw G => ?_)
  exact gh_vret M G hr hw (by exact Nat.le_of_ble_eq_true rfl) (by exact Nat.le_of_ble_eq_true rfl) dJ3_init_4
/-! java/util/TreeSet.<init> (Ljava/util/NavigableMap;)V -/
theorem fl_J4_7 : gh_FL RJ4 7 [(10, 0)] := by
  intro args s hts tb q hq
  simp only [List.mem_cons, List.not_mem_nil, or_false] at hq
  subst hq
  exact ⟨_, "java/util/TreeSet", rfl, by decide, Or.inl (hts _ q168), (fun x h => h)⟩
theorem fp_J4_7 : gh_FP RJ4 7 [(10, 0)] (.object "java/util/NavigableMap") false := by
  refine ⟨fl_J4_7, fun q hq => ?_⟩
  simp only [List.mem_cons, List.not_mem_nil, or_false] at hq
  subst hq
  exact ⟨_, rfl, rfl, by decide +kernel, fun h => by cases h⟩
def rm_J4_init_2 : Room := { frames := 4, cells := 0, slots := 0, locals := 120 }
def wp_J4_init_2 (κ : Nat → Nat) (v0 : Nat) (v1 : Option Nat) (Q : gh_H → Prop) (X : String → gh_H → Prop) (h : gh_H) : Prop := (wp_J3_init κ v0 (fun h1 => (gh_PV h1 (some v0) [(10, 0)] (va_rf v1) (fun h2 => (Q h2)))) X h)
set_option maxHeartbeats 4000000 in
theorem met_J4_init_2 (l : Launch) (D : gh_D) (v0 : Nat) (v1 : Option Nat) (Q : gh_H → Prop) (X : String → gh_H → Prop) (h : gh_H) (sz : Nat) (hw : wp_J4_init_2 D.2.2 v0 v1 Q X h) (hst : l.stackTraces = false) : vx_Met l yJ4_init_2 (ws_ yJ4_init_2 cJ4_init_2 2 none) rm_J4_init_2 (gh_Pc D h sz [.ref v0, va_rf v1]) (gh_Qv Q D h sz) (gh_X X D h sz) 0 0 (gh_A h sz) := by
  refine vx_ofW (by decide) rfl (fun p e s m args below meth c s₁ B hml hex hP => ?_)
  obtain ⟨rfl, rfl, hK, hT, hE, G⟩ := gh_start hP
  have M : gh_M D p l s m _ meth c RJ4 cJ4_init_2 2 (gh_A h s.heap.size) := ⟨⟨B.exec, B.bytes, hml, findClass_of_methodNamed B.named, fun w hw => atoms_spec (ws := ws_ yJ4_init_2 cJ4_init_2 2 none) B.pre w (List.mem_cons_of_mem _ hw)⟩, hK, hT, hE, B.notSynchronized, hst⟩
  have hr := B.returns
  have hname : meth.name = "<init>" := (name_of_methodNamed B.named B.method).1
  have hx := M.1.1
  have hb := M.1.2.1
  refine gh_enter (vs := [(1, .ref v0), (1, va_rf v1)]) (gh_w1 rfl (gh_w1 (gh_cat _) gh_wn)) (Nat.le_of_ble_eq_true rfl) (fun ls hl => ?_)
  replace hl : gh_L ls 2 [(0, 1, va_rf (some v0)), (1, 1, va_rf v1)] := hl
  unfold wp_J4_init_2 at hw
  refine gh_aload_n hx hb dJ4_init_2_0 rfl (gh_at hl 0 rfl) ?_
  refine gh_kv G (vx_runI M.1 (met_J3_init l D _ _ _ _ _ hw M.2.2.2.2.2) (cwI 0 (gh_Mts M) (lw_meth q166) rfl rfl rfl (gh_Mts M _ q45) (gh_Mts M _ q164) (gh_Mts M _ q165) rfl ⟨by decide, by decide, rfl⟩ ⟨Nat.le_of_ble_eq_true rfl, Nat.le_of_ble_eq_true rfl⟩) (gh_pre M G (As := .ref v0 :: [])) rfl rfl hl.1.1 rfl (lv_room (Nat.le_of_ble_eq_true rfl)) dJ4_init_2_1 ⟨(Nat.le_of_ble_eq_true rfl), (Nat.le_of_ble_eq_true rfl)⟩) (gh_out M hex (by exact Nat.le_of_ble_eq_true rfl) (by exact Nat.le_of_ble_eq_true rfl)) (fun h1 H locs hw G => ?_)
  refine gh_aload_n hx hb dJ4_init_2_4 rfl (gh_at hl 0 rfl) ?_
  refine gh_aload_n hx hb dJ4_init_2_5 rfl (gh_at hl 1 rfl) ?_
  refine gh_put M G hw fp_J4_7 (gh_narR _ _) (gh_fitR _ _) dJ4_init_2_6 (fun h2 H locs hw G => ?_)
  exact gh_vret M G hr hw (by exact Nat.le_of_ble_eq_true rfl) (by exact Nat.le_of_ble_eq_true rfl) dJ4_init_2_9
/-! java/util/TreeSet.<init> ()V -/
theorem nd_J6 : ∀ j, j < 9 → defaultValue (tyJ6 j) = vp_V [va_rf none, va_rf none, va_rf none, va_rf none, .int 0, .int 0, va_rf none, va_rf none, va_rf none] j := by
  intro j hj
  rcases (show j = 0 ∨ j = 1 ∨ j = 2 ∨ j = 3 ∨ j = 4 ∨ j = 5 ∨ j = 6 ∨ j = 7 ∨ j = 8 by omega) with rfl | rfl | rfl | rfl | rfl | rfl | rfl | rfl | rfl <;> rfl
def rm_J4_init : Room := { frames := 5, cells := 1, slots := 9, locals := 141 }
def wp_J4_init (κ : Nat → Nat) (v0 : Nat) (Q : gh_H → Prop) (X : String → gh_H → Prop) (h : gh_H) : Prop := (gh_NO h 11 [va_rf none, va_rf none, va_rf none, va_rf none, .int 0, .int 0, va_rf none, va_rf none, va_rf none] (fun q1 h2 => (wp_J6_init κ q1 (fun h3 => (wp_J4_init_2 κ v0 (some q1) (fun h4 => (Q h4)) X h3)) X h2)))
set_option maxHeartbeats 4000000 in
theorem met_J4_init (l : Launch) (D : gh_D) (v0 : Nat) (Q : gh_H → Prop) (X : String → gh_H → Prop) (h : gh_H) (sz : Nat) (hw : wp_J4_init D.2.2 v0 Q X h) (hst : l.stackTraces = false) : vx_Met l yJ4_init (ws_ yJ4_init cJ4_init 1 none) rm_J4_init (gh_Pc D h sz [.ref v0]) (gh_Qv Q D h sz) (gh_X X D h sz) 1 9 (gh_A h sz) := by
  refine vx_ofW (by decide) rfl (fun p e s m args below meth c s₁ B hml hex hP => ?_)
  obtain ⟨rfl, rfl, hK, hT, hE, G⟩ := gh_start hP
  have M : gh_M D p l s m _ meth c RJ4 cJ4_init 1 (gh_A h s.heap.size) := ⟨⟨B.exec, B.bytes, hml, findClass_of_methodNamed B.named, fun w hw => atoms_spec (ws := ws_ yJ4_init cJ4_init 1 none) B.pre w (List.mem_cons_of_mem _ hw)⟩, hK, hT, hE, B.notSynchronized, hst⟩
  have hr := B.returns
  have hname : meth.name = "<init>" := (name_of_methodNamed B.named B.method).1
  have hx := M.1.1
  have hb := M.1.2.1
  refine gh_enter (vs := [(1, .ref v0)]) (gh_w1 rfl gh_wn) (Nat.le_of_ble_eq_true rfl) (fun ls hl => ?_)
  replace hl : gh_L ls 1 [(0, 1, va_rf (some v0))] := hl
  unfold wp_J4_init at hw
  refine gh_aload_n hx hb dJ4_init_0 rfl (gh_at hl 0 rfl) ?_
  refine gh_new (N := 9) (r := (RJ6, TJ6, 9)) (ci := 11) (fs := [va_rf none, va_rf none, va_rf none, va_rf none, .int 0, .int 0, va_rf none, va_rf none, va_rf none]) M G hw tyJ6 tyJ6_ok q127 q128 q48 rfl rfl nd_J6 (Nat.le_of_ble_eq_true rfl) (Nat.le_of_ble_eq_true rfl) dJ4_init_1 (fun q1 h2 H hw G => ?_)
  refine lv_dup hx hb dJ4_init_4 (gh_cat _) ?_
  refine gh_kv G (vx_runI M.1 (met_J6_init l D _ _ _ _ _ hw M.2.2.2.2.2) (cwI 0 (gh_Mts M) (lw_meth q131) rfl rfl rfl (gh_Mts M _ q48) (gh_Mts M _ q129) (gh_Mts M _ q130) rfl ⟨by decide, by decide, rfl⟩ ⟨Nat.le_of_ble_eq_true rfl, Nat.le_of_ble_eq_true rfl⟩) (gh_pre M G (As := .ref q1 :: [])) rfl rfl hl.1.1 rfl (lv_room (Nat.le_trans (gh_r1 (gh_cat _) (gh_r1 (gh_cat _) gh_r0)) (Nat.le_of_ble_eq_true rfl : 2 ≤ 8))) dJ4_init_5 ⟨(Nat.le_of_ble_eq_true rfl), (Nat.le_of_ble_eq_true rfl)⟩) (gh_out M hex (by exact Nat.le_of_ble_eq_true rfl) (by exact Nat.le_of_ble_eq_true rfl)) (fun h3 H locs hw G => ?_)
  refine gh_kv G (vx_runI M.1 (met_J4_init_2 l D _ _ _ _ _ _ hw M.2.2.2.2.2) (cwI 1 (gh_Mts M) (lw_meth q163) rfl rfl rfl (gh_Mts M _ q46) (gh_Mts M _ q161) (gh_Mts M _ q162) rfl ⟨by decide, by decide, rfl⟩ ⟨Nat.le_of_ble_eq_true rfl, Nat.le_of_ble_eq_true rfl⟩) (gh_pre M G (As := .ref v0 :: [va_rf (some q1)])) rfl rfl hl.1.1 rfl (lv_room (Nat.le_of_ble_eq_true rfl)) dJ4_init_8 ⟨(Nat.le_of_ble_eq_true rfl), (Nat.le_of_ble_eq_true rfl)⟩) (gh_out M hex (by exact Nat.le_of_ble_eq_true rfl) (by exact Nat.le_of_ble_eq_true rfl)) (fun h4 H locs hw G => ?_)
  exact gh_vret M G hr hw (by exact Nat.le_of_ble_eq_true rfl) (by exact Nat.le_of_ble_eq_true rfl) dJ4_init_11
/-! BinderyDesk$Counter.<init> ()V -/
def rm_X2_init : Room := { frames := 2, cells := 0, slots := 0, locals := 80 }
def wp_X2_init (κ : Nat → Nat) (v0 : Nat) (Q : gh_H → Prop) (X : String → gh_H → Prop) (h : gh_H) : Prop := (Q h)
set_option maxHeartbeats 4000000 in
theorem met_X2_init (l : Launch) (D : gh_D) (v0 : Nat) (Q : gh_H → Prop) (X : String → gh_H → Prop) (h : gh_H) (sz : Nat) (hw : wp_X2_init D.2.2 v0 Q X h) (hst : l.stackTraces = false) : vx_Met l yX2_init (ws_ yX2_init cX2_init 1 none) rm_X2_init (gh_Pc D h sz [.ref v0]) (gh_Qv Q D h sz) (gh_X X D h sz) 0 0 (gh_A h sz) := by
  refine vx_ofW (by decide) rfl (fun p e s m args below meth c s₁ B hml hex hP => ?_)
  obtain ⟨rfl, rfl, hK, hT, hE, G⟩ := gh_start hP
  have M : gh_M D p l s m _ meth c RX2 cX2_init 1 (gh_A h s.heap.size) := ⟨⟨B.exec, B.bytes, hml, findClass_of_methodNamed B.named, fun w hw => atoms_spec (ws := ws_ yX2_init cX2_init 1 none) B.pre w (List.mem_cons_of_mem _ hw)⟩, hK, hT, hE, B.notSynchronized, hst⟩
  have hr := B.returns
  have hname : meth.name = "<init>" := (name_of_methodNamed B.named B.method).1
  have hx := M.1.1
  have hb := M.1.2.1
  refine gh_enter (vs := [(1, .ref v0)]) (gh_w1 rfl gh_wn) (Nat.le_of_ble_eq_true rfl) (fun ls hl => ?_)
  replace hl : gh_L ls 1 [(0, 1, va_rf (some v0))] := hl
  unfold wp_X2_init at hw
  refine gh_aload_n hx hb dX2_init_0 rfl (gh_at hl 0 rfl) ?_
  refine W.objInit M.1.1 M.1.2.1 M.1.2.2.2.1 (gh_Mts M _ q177) (gh_Mts M _ q91) (gh_Mts M _ q92) rfl (hl.1.1.trans M.1.2.2.1.symm) rfl dX2_init_1 (Nat.le_of_ble_eq_true rfl) (Nat.le_trans (Nat.add_le_add_right (Nat.add_le_add_left gh_r0 _) _) (Nat.le_of_ble_eq_true rfl)) ?_
  exact gh_vret M G hr hw (by exact Nat.le_of_ble_eq_true rfl) (by exact Nat.le_of_ble_eq_true rfl) dX2_init_4
/-! BinderyDesk.<init> ()V -/
theorem nd_J2 : ∀ j, j < 3 → defaultValue (tyJ2 j) = vp_V [.int 0, va_rf none, .int 0] j := by
  intro j hj
  rcases (show j = 0 ∨ j = 1 ∨ j = 2 by omega) with rfl | rfl | rfl <;> rfl
theorem fl_X1_27 : gh_FL RX1 27 [(0, 0)] := by
  intro args s hts tb q hq
  simp only [List.mem_cons, List.not_mem_nil, or_false] at hq
  subst hq
  exact ⟨_, "BinderyDesk", rfl, by decide, Or.inl (hts _ q182), (fun x h => h)⟩
theorem fp_X1_27 : gh_FP RX1 27 [(0, 0)] (.object "java/util/List") true := by
  refine ⟨fl_X1_27, fun q hq => ?_⟩
  simp only [List.mem_cons, List.not_mem_nil, or_false] at hq
  subst hq
  exact ⟨_, rfl, rfl, by decide +kernel, fun _ => rfl⟩
theorem fl_X1_31 : gh_FL RX1 31 [(0, 1)] := by
  intro args s hts tb q hq
  simp only [List.mem_cons, List.not_mem_nil, or_false] at hq
  subst hq
  exact ⟨_, "BinderyDesk", rfl, by decide, Or.inl (hts _ q183), (fun x h => h)⟩
theorem fp_X1_31 : gh_FP RX1 31 [(0, 1)] (.object "java/util/List") true := by
  refine ⟨fl_X1_31, fun q hq => ?_⟩
  simp only [List.mem_cons, List.not_mem_nil, or_false] at hq
  subst hq
  exact ⟨_, rfl, rfl, by decide +kernel, fun _ => rfl⟩
theorem fl_X1_34 : gh_FL RX1 34 [(0, 2)] := by
  intro args s hts tb q hq
  simp only [List.mem_cons, List.not_mem_nil, or_false] at hq
  subst hq
  exact ⟨_, "BinderyDesk", rfl, by decide, Or.inl (hts _ q184), (fun x h => h)⟩
theorem fp_X1_34 : gh_FP RX1 34 [(0, 2)] (.object "java/util/List") true := by
  refine ⟨fl_X1_34, fun q hq => ?_⟩
  simp only [List.mem_cons, List.not_mem_nil, or_false] at hq
  subst hq
  exact ⟨_, rfl, rfl, by decide +kernel, fun _ => rfl⟩
theorem fl_X1_37 : gh_FL RX1 37 [(0, 3)] := by
  intro args s hts tb q hq
  simp only [List.mem_cons, List.not_mem_nil, or_false] at hq
  subst hq
  exact ⟨_, "BinderyDesk", rfl, by decide, Or.inl (hts _ q185), (fun x h => h)⟩
theorem fp_X1_37 : gh_FP RX1 37 [(0, 3)] (.object "java/util/List") true := by
  refine ⟨fl_X1_37, fun q hq => ?_⟩
  simp only [List.mem_cons, List.not_mem_nil, or_false] at hq
  subst hq
  exact ⟨_, rfl, rfl, by decide +kernel, fun _ => rfl⟩
theorem nd_J4 : ∀ j, j < 1 → defaultValue (tyJ4 j) = vp_V [va_rf none] j := by
  intro j hj
  rcases (show j = 0 by omega) with rfl <;> rfl
theorem fl_X1_43 : gh_FL RX1 43 [(0, 4)] := by
  intro args s hts tb q hq
  simp only [List.mem_cons, List.not_mem_nil, or_false] at hq
  subst hq
  exact ⟨_, "BinderyDesk", rfl, by decide, Or.inl (hts _ q186), (fun x h => h)⟩
theorem fp_X1_43 : gh_FP RX1 43 [(0, 4)] (.object "java/util/TreeSet") true := by
  refine ⟨fl_X1_43, fun q hq => ?_⟩
  simp only [List.mem_cons, List.not_mem_nil, or_false] at hq
  subst hq
  exact ⟨_, rfl, rfl, by decide +kernel, fun _ => rfl⟩
theorem nd_X2 : ∀ j, j < 1 → defaultValue (tyX2 j) = vp_V [.long 0] j := by
  intro j hj
  rcases (show j = 0 by omega) with rfl <;> rfl
theorem fl_X1_50 : gh_FL RX1 50 [(0, 5)] := by
  intro args s hts tb q hq
  simp only [List.mem_cons, List.not_mem_nil, or_false] at hq
  subst hq
  exact ⟨_, "BinderyDesk", rfl, by decide, Or.inl (hts _ q187), (fun x h => h)⟩
theorem fp_X1_50 : gh_FP RX1 50 [(0, 5)] (.object "BinderyDesk$Counter") true := by
  refine ⟨fl_X1_50, fun q hq => ?_⟩
  simp only [List.mem_cons, List.not_mem_nil, or_false] at hq
  subst hq
  exact ⟨_, rfl, rfl, by decide +kernel, fun _ => rfl⟩
theorem fl_X1_54 : gh_FL RX1 54 [(0, 6)] := by
  intro args s hts tb q hq
  simp only [List.mem_cons, List.not_mem_nil, or_false] at hq
  subst hq
  exact ⟨_, "BinderyDesk", rfl, by decide, Or.inl (hts _ q188), (fun x h => h)⟩
theorem fp_X1_54 : gh_FP RX1 54 [(0, 6)] (.object "BinderyDesk$Counter") true := by
  refine ⟨fl_X1_54, fun q hq => ?_⟩
  simp only [List.mem_cons, List.not_mem_nil, or_false] at hq
  subst hq
  exact ⟨_, rfl, rfl, by decide +kernel, fun _ => rfl⟩
theorem fl_X1_57 : gh_FL RX1 57 [(0, 9)] := by
  intro args s hts tb q hq
  simp only [List.mem_cons, List.not_mem_nil, or_false] at hq
  subst hq
  exact ⟨_, "BinderyDesk", rfl, by decide, Or.inl (hts _ q191), (fun x h => h)⟩
theorem fp_X1_57 : gh_FP RX1 57 [(0, 9)] (.array (.int)) true := by
  refine ⟨fl_X1_57, fun q hq => ?_⟩
  simp only [List.mem_cons, List.not_mem_nil, or_false] at hq
  subst hq
  exact ⟨_, rfl, rfl, by decide +kernel, fun _ => rfl⟩
def rm_X1_init : Room := { frames := 6, cells := 9, slots := 26, locals := 161 }
def wp_X1_init (κ : Nat → Nat) (v0 : Nat) (Q : gh_H → Prop) (X : String → gh_H → Prop) (h : gh_H) : Prop := (gh_NO h 8 [.int 0, va_rf none, .int 0] (fun q1 h2 => (wp_J2_init κ q1 (fun h3 => (gh_PV h3 (some v0) [(0, 0)] (va_rf (some q1)) (fun h4 => (gh_NO h4 8 [.int 0, va_rf none, .int 0] (fun q5 h6 => (wp_J2_init κ q5 (fun h7 => (gh_PV h7 (some v0) [(0, 1)] (va_rf (some q5)) (fun h8 => (gh_NO h8 8 [.int 0, va_rf none, .int 0] (fun q9 h10 => (wp_J2_init κ q9 (fun h11 => (gh_PV h11 (some v0) [(0, 2)] (va_rf (some q9)) (fun h12 => (gh_NO h12 8 [.int 0, va_rf none, .int 0] (fun q13 h14 => (wp_J2_init κ q13 (fun h15 => (gh_PV h15 (some v0) [(0, 3)] (va_rf (some q13)) (fun h16 => (gh_NO h16 10 [va_rf none] (fun q17 h18 => (wp_J4_init κ q17 (fun h19 => (gh_PV h19 (some v0) [(0, 4)] (va_rf (some q17)) (fun h20 => (gh_NO h20 2 [.long 0] (fun q21 h22 => (wp_X2_init κ q21 (fun h23 => (gh_PV h23 (some v0) [(0, 5)] (va_rf (some q21)) (fun h24 => (gh_NO h24 2 [.long 0] (fun q25 h26 => (wp_X2_init κ q25 (fun h27 => (gh_PV h27 (some v0) [(0, 6)] (va_rf (some q25)) (fun h28 => (gh_NA h28 0 (2 : Int32) 2 (.inl (fun _ => 0)) (fun q29 h30 => (gh_SI h30 (some q29) (0 : Int32) (-1 : Int32) (fun h31 => (gh_SI h31 (some q29) (1 : Int32) (-1 : Int32) (fun h32 => (gh_PV h32 (some v0) [(0, 9)] (va_rf (some q29)) (fun h33 => (Q h33)))))))))))) X h26)))))) X h22)))))) X h18)))))) X h14)))))) X h10)))))) X h6)))))) X h2)))
set_option maxHeartbeats 4000000 in
theorem met_X1_init (l : Launch) (D : gh_D) (v0 : Nat) (Q : gh_H → Prop) (X : String → gh_H → Prop) (h : gh_H) (sz : Nat) (hw : wp_X1_init D.2.2 v0 Q X h) (hst : l.stackTraces = false) : vx_Met l yX1_init (ws_ yX1_init cX1_init 1 none) rm_X1_init (gh_Pc D h sz [.ref v0]) (gh_Qv Q D h sz) (gh_X X D h sz) 9 26 (gh_A h sz) := by
  refine vx_ofW (by decide) rfl (fun p e s m args below meth c s₁ B hml hex hP => ?_)
  obtain ⟨rfl, rfl, hK, hT, hE, G⟩ := gh_start hP
  have M : gh_M D p l s m _ meth c RX1 cX1_init 1 (gh_A h s.heap.size) := ⟨⟨B.exec, B.bytes, hml, findClass_of_methodNamed B.named, fun w hw => atoms_spec (ws := ws_ yX1_init cX1_init 1 none) B.pre w (List.mem_cons_of_mem _ hw)⟩, hK, hT, hE, B.notSynchronized, hst⟩
  have hr := B.returns
  have hname : meth.name = "<init>" := (name_of_methodNamed B.named B.method).1
  have hx := M.1.1
  have hb := M.1.2.1
  refine gh_enter (vs := [(1, .ref v0)]) (gh_w1 rfl gh_wn) (Nat.le_of_ble_eq_true rfl) (fun ls hl => ?_)
  replace hl : gh_L ls 1 [(0, 1, va_rf (some v0))] := hl
  unfold wp_X1_init at hw
  refine gh_aload_n hx hb dX1_init_0 rfl (gh_at hl 0 rfl) ?_
  refine W.objInit M.1.1 M.1.2.1 M.1.2.2.2.1 (gh_Mts M _ q90) (gh_Mts M _ q91) (gh_Mts M _ q92) rfl (hl.1.1.trans M.1.2.2.1.symm) rfl dX1_init_1 (Nat.le_of_ble_eq_true rfl) (Nat.le_trans (Nat.add_le_add_right (Nat.add_le_add_left gh_r0 _) _) (Nat.le_of_ble_eq_true rfl)) ?_
  refine gh_aload_n hx hb dX1_init_4 rfl (gh_at hl 0 rfl) ?_
  refine gh_new (N := 3) (r := (RJ2, TJ2, 3)) (ci := 8) (fs := [.int 0, va_rf none, .int 0]) M G hw tyJ2 tyJ2_ok q93 q94 q44 rfl rfl nd_J2 (Nat.le_of_ble_eq_true rfl) (Nat.le_of_ble_eq_true rfl) dX1_init_5 (fun q1 h2 H hw G => ?_)
  refine lv_dup hx hb dX1_init_8 (gh_cat _) ?_
  refine gh_kv G (vx_runI M.1 (met_J2_init l D _ _ _ _ _ hw M.2.2.2.2.2) (cwI 0 (gh_Mts M) (lw_meth q97) rfl rfl rfl (gh_Mts M _ q44) (gh_Mts M _ q95) (gh_Mts M _ q96) rfl ⟨by decide, by decide, rfl⟩ ⟨Nat.le_of_ble_eq_true rfl, Nat.le_of_ble_eq_true rfl⟩) (gh_pre M G (As := .ref q1 :: [])) rfl rfl hl.1.1 rfl (lv_room (Nat.le_trans (gh_r1 (gh_cat _) (gh_r1 (gh_cat _) gh_r0)) (Nat.le_of_ble_eq_true rfl : 2 ≤ 8))) dX1_init_9 ⟨(Nat.le_of_ble_eq_true rfl), (Nat.le_of_ble_eq_true rfl)⟩) (gh_out M hex (by exact Nat.le_of_ble_eq_true rfl) (by exact Nat.le_of_ble_eq_true rfl)) (fun h3 H locs hw G => ?_)
  refine gh_putF M G hname hw fp_X1_27 (gh_narR _ _) (gh_fitR _ _) dX1_init_12 (fun h4 H locs hw G => ?_)
  refine gh_aload_n hx hb dX1_init_15 rfl (gh_at hl 0 rfl) ?_
  refine gh_new (N := 3) (r := (RJ2, TJ2, 3)) (ci := 8) (fs := [.int 0, va_rf none, .int 0]) M G hw tyJ2 tyJ2_ok q93 q94 q44 rfl rfl nd_J2 (Nat.le_of_ble_eq_true rfl) (Nat.le_of_ble_eq_true rfl) dX1_init_16 (fun q5 h6 H hw G => ?_)
  refine lv_dup hx hb dX1_init_19 (gh_cat _) ?_
  refine gh_kv G (vx_runI M.1 (met_J2_init l D _ _ _ _ _ hw M.2.2.2.2.2) (cwI 0 (gh_Mts M) (lw_meth q97) rfl rfl rfl (gh_Mts M _ q44) (gh_Mts M _ q95) (gh_Mts M _ q96) rfl ⟨by decide, by decide, rfl⟩ ⟨Nat.le_of_ble_eq_true rfl, Nat.le_of_ble_eq_true rfl⟩) (gh_pre M G (As := .ref q5 :: [])) rfl rfl hl.1.1 rfl (lv_room (Nat.le_trans (gh_r1 (gh_cat _) (gh_r1 (gh_cat _) gh_r0)) (Nat.le_of_ble_eq_true rfl : 2 ≤ 8))) dX1_init_20 ⟨(Nat.le_of_ble_eq_true rfl), (Nat.le_of_ble_eq_true rfl)⟩) (gh_out M hex (by exact Nat.le_of_ble_eq_true rfl) (by exact Nat.le_of_ble_eq_true rfl)) (fun h7 H locs hw G => ?_)
  refine gh_putF M G hname hw fp_X1_31 (gh_narR _ _) (gh_fitR _ _) dX1_init_23 (fun h8 H locs hw G => ?_)
  refine gh_aload_n hx hb dX1_init_26 rfl (gh_at hl 0 rfl) ?_
  refine gh_new (N := 3) (r := (RJ2, TJ2, 3)) (ci := 8) (fs := [.int 0, va_rf none, .int 0]) M G hw tyJ2 tyJ2_ok q93 q94 q44 rfl rfl nd_J2 (Nat.le_of_ble_eq_true rfl) (Nat.le_of_ble_eq_true rfl) dX1_init_27 (fun q9 h10 H hw G => ?_)
  refine lv_dup hx hb dX1_init_30 (gh_cat _) ?_
  refine gh_kv G (vx_runI M.1 (met_J2_init l D _ _ _ _ _ hw M.2.2.2.2.2) (cwI 0 (gh_Mts M) (lw_meth q97) rfl rfl rfl (gh_Mts M _ q44) (gh_Mts M _ q95) (gh_Mts M _ q96) rfl ⟨by decide, by decide, rfl⟩ ⟨Nat.le_of_ble_eq_true rfl, Nat.le_of_ble_eq_true rfl⟩) (gh_pre M G (As := .ref q9 :: [])) rfl rfl hl.1.1 rfl (lv_room (Nat.le_trans (gh_r1 (gh_cat _) (gh_r1 (gh_cat _) gh_r0)) (Nat.le_of_ble_eq_true rfl : 2 ≤ 8))) dX1_init_31 ⟨(Nat.le_of_ble_eq_true rfl), (Nat.le_of_ble_eq_true rfl)⟩) (gh_out M hex (by exact Nat.le_of_ble_eq_true rfl) (by exact Nat.le_of_ble_eq_true rfl)) (fun h11 H locs hw G => ?_)
  refine gh_putF M G hname hw fp_X1_34 (gh_narR _ _) (gh_fitR _ _) dX1_init_34 (fun h12 H locs hw G => ?_)
  refine gh_aload_n hx hb dX1_init_37 rfl (gh_at hl 0 rfl) ?_
  refine gh_new (N := 3) (r := (RJ2, TJ2, 3)) (ci := 8) (fs := [.int 0, va_rf none, .int 0]) M G hw tyJ2 tyJ2_ok q93 q94 q44 rfl rfl nd_J2 (Nat.le_of_ble_eq_true rfl) (Nat.le_of_ble_eq_true rfl) dX1_init_38 (fun q13 h14 H hw G => ?_)
  refine lv_dup hx hb dX1_init_41 (gh_cat _) ?_
  refine gh_kv G (vx_runI M.1 (met_J2_init l D _ _ _ _ _ hw M.2.2.2.2.2) (cwI 0 (gh_Mts M) (lw_meth q97) rfl rfl rfl (gh_Mts M _ q44) (gh_Mts M _ q95) (gh_Mts M _ q96) rfl ⟨by decide, by decide, rfl⟩ ⟨Nat.le_of_ble_eq_true rfl, Nat.le_of_ble_eq_true rfl⟩) (gh_pre M G (As := .ref q13 :: [])) rfl rfl hl.1.1 rfl (lv_room (Nat.le_trans (gh_r1 (gh_cat _) (gh_r1 (gh_cat _) gh_r0)) (Nat.le_of_ble_eq_true rfl : 2 ≤ 8))) dX1_init_42 ⟨(Nat.le_of_ble_eq_true rfl), (Nat.le_of_ble_eq_true rfl)⟩) (gh_out M hex (by exact Nat.le_of_ble_eq_true rfl) (by exact Nat.le_of_ble_eq_true rfl)) (fun h15 H locs hw G => ?_)
  refine gh_putF M G hname hw fp_X1_37 (gh_narR _ _) (gh_fitR _ _) dX1_init_45 (fun h16 H locs hw G => ?_)
  refine gh_aload_n hx hb dX1_init_48 rfl (gh_at hl 0 rfl) ?_
  refine gh_new (N := 1) (r := (RJ4, TJ4, 1)) (ci := 10) (fs := [va_rf none]) M G hw tyJ4 tyJ4_ok q122 q123 q46 rfl rfl nd_J4 (Nat.le_of_ble_eq_true rfl) (Nat.le_of_ble_eq_true rfl) dX1_init_49 (fun q17 h18 H hw G => ?_)
  refine lv_dup hx hb dX1_init_52 (gh_cat _) ?_
  refine gh_kv G (vx_runI M.1 (met_J4_init l D _ _ _ _ _ hw M.2.2.2.2.2) (cwI 0 (gh_Mts M) (lw_meth q126) rfl rfl rfl (gh_Mts M _ q46) (gh_Mts M _ q124) (gh_Mts M _ q125) rfl ⟨by decide, by decide, rfl⟩ ⟨Nat.le_of_ble_eq_true rfl, Nat.le_of_ble_eq_true rfl⟩) (gh_pre M G (As := .ref q17 :: [])) rfl rfl hl.1.1 rfl (lv_room (Nat.le_trans (gh_r1 (gh_cat _) (gh_r1 (gh_cat _) gh_r0)) (Nat.le_of_ble_eq_true rfl : 2 ≤ 8))) dX1_init_53 ⟨(Nat.le_of_ble_eq_true rfl), (Nat.le_of_ble_eq_true rfl)⟩) (gh_out M hex (by exact Nat.le_of_ble_eq_true rfl) (by exact Nat.le_of_ble_eq_true rfl)) (fun h19 H locs hw G => ?_)
  refine gh_putF M G hname hw fp_X1_43 (gh_narR _ _) (gh_fitR _ _) dX1_init_56 (fun h20 H locs hw G => ?_)
  refine gh_aload_n hx hb dX1_init_59 rfl (gh_at hl 0 rfl) ?_
  refine gh_new (N := 1) (r := (RX2, TX2, 1)) (ci := 2) (fs := [.long 0]) M G hw tyX2 tyX2_ok q172 q173 q49 rfl rfl nd_X2 (Nat.le_of_ble_eq_true rfl) (Nat.le_of_ble_eq_true rfl) dX1_init_60 (fun q21 h22 H hw G => ?_)
  refine lv_dup hx hb dX1_init_63 (gh_cat _) ?_
  refine gh_kv G (vx_runIN M.1 (met_X2_init l D _ _ _ _ _ hw M.2.2.2.2.2) ⟨va_cnB (host := "BinderyDesk") 0 (gh_Mts M) (lw_meth q176) rfl rfl rfl (M.2.2.1.1 _ (List.mem_of_getElem? (i := 118) rfl)) (gh_Mts M _ q49) ⟨by decide, by decide, rfl⟩ ⟨Nat.le_of_ble_eq_true rfl, Nat.le_of_ble_eq_true rfl⟩, rfl, gh_Mts M _ q175⟩ (gh_pre M G (As := .ref q21 :: [])) rfl rfl hl.1.1 rfl (lv_room (Nat.le_trans (gh_r1 (gh_cat _) (gh_r1 (gh_cat _) gh_r0)) (Nat.le_of_ble_eq_true rfl : 2 ≤ 8))) dX1_init_64 ⟨(Nat.le_of_ble_eq_true rfl), (Nat.le_of_ble_eq_true rfl)⟩) (gh_out M hex (by exact Nat.le_of_ble_eq_true rfl) (by exact Nat.le_of_ble_eq_true rfl)) (fun h23 H locs hw G => ?_)
  refine gh_putF M G hname hw fp_X1_50 (gh_narR _ _) (gh_fitR _ _) dX1_init_67 (fun h24 H locs hw G => ?_)
  refine gh_aload_n hx hb dX1_init_70 rfl (gh_at hl 0 rfl) ?_
  refine gh_new (N := 1) (r := (RX2, TX2, 1)) (ci := 2) (fs := [.long 0]) M G hw tyX2 tyX2_ok q172 q173 q49 rfl rfl nd_X2 (Nat.le_of_ble_eq_true rfl) (Nat.le_of_ble_eq_true rfl) dX1_init_71 (fun q25 h26 H hw G => ?_)
  refine lv_dup hx hb dX1_init_74 (gh_cat _) ?_
  refine gh_kv G (vx_runIN M.1 (met_X2_init l D _ _ _ _ _ hw M.2.2.2.2.2) ⟨va_cnB (host := "BinderyDesk") 0 (gh_Mts M) (lw_meth q176) rfl rfl rfl (M.2.2.1.1 _ (List.mem_of_getElem? (i := 118) rfl)) (gh_Mts M _ q49) ⟨by decide, by decide, rfl⟩ ⟨Nat.le_of_ble_eq_true rfl, Nat.le_of_ble_eq_true rfl⟩, rfl, gh_Mts M _ q175⟩ (gh_pre M G (As := .ref q25 :: [])) rfl rfl hl.1.1 rfl (lv_room (Nat.le_trans (gh_r1 (gh_cat _) (gh_r1 (gh_cat _) gh_r0)) (Nat.le_of_ble_eq_true rfl : 2 ≤ 8))) dX1_init_75 ⟨(Nat.le_of_ble_eq_true rfl), (Nat.le_of_ble_eq_true rfl)⟩) (gh_out M hex (by exact Nat.le_of_ble_eq_true rfl) (by exact Nat.le_of_ble_eq_true rfl)) (fun h27 H locs hw G => ?_)
  refine gh_putF M G hname hw fp_X1_54 (gh_narR _ _) (gh_fitR _ _) dX1_init_78 (fun h28 H locs hw G => ?_)
  refine gh_aload_n hx hb dX1_init_81 rfl (gh_at hl 0 rfl) ?_
  refine lv_iconst (v := (2 : Int32)) hx hb dX1_init_82 (by decide) ?_
  refine gh_newI (lim := 2) M G hw q216 (Nat.le_of_ble_eq_true rfl) (Nat.le_of_ble_eq_true rfl) (Nat.le_of_ble_eq_true rfl) dX1_init_83 (fun q29 h30 H hw G => ?_)
  refine lv_dup hx hb dX1_init_85 (gh_cat _) ?_
  refine lv_iconst (v := (0 : Int32)) hx hb dX1_init_86 (by decide) ?_
  refine lv_iconst (v := (-1 : Int32)) hx hb dX1_init_87 (by decide) ?_
  refine gh_ias M G hw dX1_init_88 (fun h31 H locs hw G => ?_)
  refine lv_dup hx hb dX1_init_89 (gh_cat _) ?_
  refine lv_iconst (v := (1 : Int32)) hx hb dX1_init_90 (by decide) ?_
  refine lv_iconst (v := (-1 : Int32)) hx hb dX1_init_91 (by decide) ?_
  refine gh_ias M G hw dX1_init_92 (fun h32 H locs hw G => ?_)
  refine gh_putF M G hname hw fp_X1_57 (gh_narA _ _) (gh_fitA _ _) dX1_init_93 (fun h33 H locs hw G => ?_)
  exact gh_vret M G hr hw (by exact Nat.le_of_ble_eq_true rfl) (by exact Nat.le_of_ble_eq_true rfl) dX1_init_96
/-! BinderyDeskModel.<init> ()V -/
theorem fl_X3_7 : gh_FL RX3 7 [(1, 12)] := by
  intro args s hts tb q hq
  simp only [List.mem_cons, List.not_mem_nil, or_false] at hq
  subst hq
  exact ⟨_, "BinderyDeskModel", rfl, by decide, Or.inl (hts _ q1581), (fun x h => h)⟩
theorem fp_X3_7 : gh_FP RX3 7 [(1, 12)] (.array (.int)) true := by
  refine ⟨fl_X3_7, fun q hq => ?_⟩
  simp only [List.mem_cons, List.not_mem_nil, or_false] at hq
  subst hq
  exact ⟨_, rfl, rfl, by decide +kernel, fun _ => rfl⟩
theorem fl_X3_13 : gh_FL RX3 13 [(1, 13)] := by
  intro args s hts tb q hq
  simp only [List.mem_cons, List.not_mem_nil, or_false] at hq
  subst hq
  exact ⟨_, "BinderyDeskModel", rfl, by decide, Or.inl (hts _ q1582), (fun x h => h)⟩
theorem fp_X3_13 : gh_FP RX3 13 [(1, 13)] (.array (.int)) true := by
  refine ⟨fl_X3_13, fun q hq => ?_⟩
  simp only [List.mem_cons, List.not_mem_nil, or_false] at hq
  subst hq
  exact ⟨_, rfl, rfl, by decide +kernel, fun _ => rfl⟩
theorem fl_X3_16 : gh_FL RX3 16 [(1, 14)] := by
  intro args s hts tb q hq
  simp only [List.mem_cons, List.not_mem_nil, or_false] at hq
  subst hq
  exact ⟨_, "BinderyDeskModel", rfl, by decide, Or.inl (hts _ q1583), (fun x h => h)⟩
theorem fp_X3_16 : gh_FP RX3 16 [(1, 14)] (.array (.int)) true := by
  refine ⟨fl_X3_16, fun q hq => ?_⟩
  simp only [List.mem_cons, List.not_mem_nil, or_false] at hq
  subst hq
  exact ⟨_, rfl, rfl, by decide +kernel, fun _ => rfl⟩
theorem fl_X3_19 : gh_FL RX3 19 [(1, 15)] := by
  intro args s hts tb q hq
  simp only [List.mem_cons, List.not_mem_nil, or_false] at hq
  subst hq
  exact ⟨_, "BinderyDeskModel", rfl, by decide, Or.inl (hts _ q1584), (fun x h => h)⟩
theorem fp_X3_19 : gh_FP RX3 19 [(1, 15)] (.array (.int)) true := by
  refine ⟨fl_X3_19, fun q hq => ?_⟩
  simp only [List.mem_cons, List.not_mem_nil, or_false] at hq
  subst hq
  exact ⟨_, rfl, rfl, by decide +kernel, fun _ => rfl⟩
theorem fl_X3_22 : gh_FL RX3 22 [(1, 16)] := by
  intro args s hts tb q hq
  simp only [List.mem_cons, List.not_mem_nil, or_false] at hq
  subst hq
  exact ⟨_, "BinderyDeskModel", rfl, by decide, Or.inl (hts _ q1585), (fun x h => h)⟩
theorem fp_X3_22 : gh_FP RX3 22 [(1, 16)] (.array (.int)) true := by
  refine ⟨fl_X3_22, fun q hq => ?_⟩
  simp only [List.mem_cons, List.not_mem_nil, or_false] at hq
  subst hq
  exact ⟨_, rfl, rfl, by decide +kernel, fun _ => rfl⟩
theorem fl_X3_25 : gh_FL RX3 25 [(1, 17)] := by
  intro args s hts tb q hq
  simp only [List.mem_cons, List.not_mem_nil, or_false] at hq
  subst hq
  exact ⟨_, "BinderyDeskModel", rfl, by decide, Or.inl (hts _ q1586), (fun x h => h)⟩
theorem fp_X3_25 : gh_FP RX3 25 [(1, 17)] (.array (.boolean)) true := by
  refine ⟨fl_X3_25, fun q hq => ?_⟩
  simp only [List.mem_cons, List.not_mem_nil, or_false] at hq
  subst hq
  exact ⟨_, rfl, rfl, by decide +kernel, fun _ => rfl⟩
theorem fl_X3_29 : gh_FL RX3 29 [(1, 18)] := by
  intro args s hts tb q hq
  simp only [List.mem_cons, List.not_mem_nil, or_false] at hq
  subst hq
  exact ⟨_, "BinderyDeskModel", rfl, by decide, Or.inl (hts _ q1587), (fun x h => h)⟩
theorem fp_X3_29 : gh_FP RX3 29 [(1, 18)] (.array (.int)) true := by
  refine ⟨fl_X3_29, fun q hq => ?_⟩
  simp only [List.mem_cons, List.not_mem_nil, or_false] at hq
  subst hq
  exact ⟨_, rfl, rfl, by decide +kernel, fun _ => rfl⟩
theorem fl_X3_32 : gh_FL RX3 32 [(1, 19)] := by
  intro args s hts tb q hq
  simp only [List.mem_cons, List.not_mem_nil, or_false] at hq
  subst hq
  exact ⟨_, "BinderyDeskModel", rfl, by decide, Or.inl (hts _ q1588), (fun x h => h)⟩
theorem fp_X3_32 : gh_FP RX3 32 [(1, 19)] (.array (.int)) true := by
  refine ⟨fl_X3_32, fun q hq => ?_⟩
  simp only [List.mem_cons, List.not_mem_nil, or_false] at hq
  subst hq
  exact ⟨_, rfl, rfl, by decide +kernel, fun _ => rfl⟩
theorem fl_X3_35 : gh_FL RX3 35 [(1, 20)] := by
  intro args s hts tb q hq
  simp only [List.mem_cons, List.not_mem_nil, or_false] at hq
  subst hq
  exact ⟨_, "BinderyDeskModel", rfl, by decide, Or.inl (hts _ q1589), (fun x h => h)⟩
theorem fp_X3_35 : gh_FP RX3 35 [(1, 20)] (.array (.int)) true := by
  refine ⟨fl_X3_35, fun q hq => ?_⟩
  simp only [List.mem_cons, List.not_mem_nil, or_false] at hq
  subst hq
  exact ⟨_, rfl, rfl, by decide +kernel, fun _ => rfl⟩
theorem fl_X3_38 : gh_FL RX3 38 [(1, 21)] := by
  intro args s hts tb q hq
  simp only [List.mem_cons, List.not_mem_nil, or_false] at hq
  subst hq
  exact ⟨_, "BinderyDeskModel", rfl, by decide, Or.inl (hts _ q1590), (fun x h => h)⟩
theorem fp_X3_38 : gh_FP RX3 38 [(1, 21)] (.array (.int)) true := by
  refine ⟨fl_X3_38, fun q hq => ?_⟩
  simp only [List.mem_cons, List.not_mem_nil, or_false] at hq
  subst hq
  exact ⟨_, rfl, rfl, by decide +kernel, fun _ => rfl⟩
theorem fl_X3_41 : gh_FL RX3 41 [(1, 22)] := by
  intro args s hts tb q hq
  simp only [List.mem_cons, List.not_mem_nil, or_false] at hq
  subst hq
  exact ⟨_, "BinderyDeskModel", rfl, by decide, Or.inl (hts _ q1591), (fun x h => h)⟩
theorem fp_X3_41 : gh_FP RX3 41 [(1, 22)] (.array (.int)) true := by
  refine ⟨fl_X3_41, fun q hq => ?_⟩
  simp only [List.mem_cons, List.not_mem_nil, or_false] at hq
  subst hq
  exact ⟨_, rfl, rfl, by decide +kernel, fun _ => rfl⟩
theorem fl_X3_44 : gh_FL RX3 44 [(1, 23)] := by
  intro args s hts tb q hq
  simp only [List.mem_cons, List.not_mem_nil, or_false] at hq
  subst hq
  exact ⟨_, "BinderyDeskModel", rfl, by decide, Or.inl (hts _ q1592), (fun x h => h)⟩
theorem fp_X3_44 : gh_FP RX3 44 [(1, 23)] (.array (.int)) true := by
  refine ⟨fl_X3_44, fun q hq => ?_⟩
  simp only [List.mem_cons, List.not_mem_nil, or_false] at hq
  subst hq
  exact ⟨_, rfl, rfl, by decide +kernel, fun _ => rfl⟩
theorem fl_X3_47 : gh_FL RX3 47 [(1, 24)] := by
  intro args s hts tb q hq
  simp only [List.mem_cons, List.not_mem_nil, or_false] at hq
  subst hq
  exact ⟨_, "BinderyDeskModel", rfl, by decide, Or.inl (hts _ q1593), (fun x h => h)⟩
theorem fp_X3_47 : gh_FP RX3 47 [(1, 24)] (.array (.int)) true := by
  refine ⟨fl_X3_47, fun q hq => ?_⟩
  simp only [List.mem_cons, List.not_mem_nil, or_false] at hq
  subst hq
  exact ⟨_, rfl, rfl, by decide +kernel, fun _ => rfl⟩
theorem fl_X3_50 : gh_FL RX3 50 [(1, 25)] := by
  intro args s hts tb q hq
  simp only [List.mem_cons, List.not_mem_nil, or_false] at hq
  subst hq
  exact ⟨_, "BinderyDeskModel", rfl, by decide, Or.inl (hts _ q1594), (fun x h => h)⟩
theorem fp_X3_50 : gh_FP RX3 50 [(1, 25)] (.array (.int)) true := by
  refine ⟨fl_X3_50, fun q hq => ?_⟩
  simp only [List.mem_cons, List.not_mem_nil, or_false] at hq
  subst hq
  exact ⟨_, rfl, rfl, by decide +kernel, fun _ => rfl⟩
def rm_X3_init : Room := { frames := 2, cells := 14, slots := 5192, locals := 80 }
def wp_X3_init (κ : Nat → Nat) (v0 : Nat) (Q : gh_H → Prop) (X : String → gh_H → Prop) (h : gh_H) : Prop := (gh_NA h 0 (12 : Int32) 12 (.inl (fun _ => 0)) (fun q1 h2 => (gh_PV h2 (some v0) [(1, 12)] (va_rf (some q1)) (fun h3 => (gh_NA h3 0 (4 : Int32) 4 (.inl (fun _ => 0)) (fun q4 h5 => (gh_PV h5 (some v0) [(1, 13)] (va_rf (some q4)) (fun h6 => (gh_NA h6 0 (4 : Int32) 4 (.inl (fun _ => 0)) (fun q7 h8 => (gh_PV h8 (some v0) [(1, 14)] (va_rf (some q7)) (fun h9 => (gh_NA h9 0 (64 : Int32) 64 (.inl (fun _ => 0)) (fun q10 h11 => (gh_PV h11 (some v0) [(1, 15)] (va_rf (some q10)) (fun h12 => (gh_NA h12 0 (32 : Int32) 32 (.inl (fun _ => 0)) (fun q13 h14 => (gh_PV h14 (some v0) [(1, 16)] (va_rf (some q13)) (fun h15 => (gh_NA h15 3 (12 : Int32) 12 (.inl (fun _ => 0)) (fun q16 h17 => (gh_PV h17 (some v0) [(1, 17)] (va_rf (some q16)) (fun h18 => (gh_NA h18 0 (1100 : Int32) 1100 (.inl (fun _ => 0)) (fun q19 h20 => (gh_PV h20 (some v0) [(1, 18)] (va_rf (some q19)) (fun h21 => (gh_NA h21 0 (8 : Int32) 8 (.inl (fun _ => 0)) (fun q22 h23 => (gh_PV h23 (some v0) [(1, 19)] (va_rf (some q22)) (fun h24 => (gh_NA h24 0 (8 : Int32) 8 (.inl (fun _ => 0)) (fun q25 h26 => (gh_PV h26 (some v0) [(1, 20)] (va_rf (some q25)) (fun h27 => (gh_NA h27 0 (2048 : Int32) 2048 (.inl (fun _ => 0)) (fun q28 h29 => (gh_PV h29 (some v0) [(1, 21)] (va_rf (some q28)) (fun h30 => (gh_NA h30 0 (100 : Int32) 100 (.inl (fun _ => 0)) (fun q31 h32 => (gh_PV h32 (some v0) [(1, 22)] (va_rf (some q31)) (fun h33 => (gh_NA h33 0 (100 : Int32) 100 (.inl (fun _ => 0)) (fun q34 h35 => (gh_PV h35 (some v0) [(1, 23)] (va_rf (some q34)) (fun h36 => (gh_NA h36 0 (100 : Int32) 100 (.inl (fun _ => 0)) (fun q37 h38 => (gh_PV h38 (some v0) [(1, 24)] (va_rf (some q37)) (fun h39 => (gh_NA h39 0 (1600 : Int32) 1600 (.inl (fun _ => 0)) (fun q40 h41 => (gh_PV h41 (some v0) [(1, 25)] (va_rf (some q40)) (fun h42 => (Q h42)))))))))))))))))))))))))))))))))))))))))))))))))))))))))
set_option maxHeartbeats 4000000 in
theorem met_X3_init (l : Launch) (D : gh_D) (v0 : Nat) (Q : gh_H → Prop) (X : String → gh_H → Prop) (h : gh_H) (sz : Nat) (hw : wp_X3_init D.2.2 v0 Q X h) (hst : l.stackTraces = false) : vx_Met l yX3_init (ws_ yX3_init cX3_init 1 none) rm_X3_init (gh_Pc D h sz [.ref v0]) (gh_Qv Q D h sz) (gh_X X D h sz) 14 5192 (gh_A h sz) := by
  refine vx_ofW (by decide) rfl (fun p e s m args below meth c s₁ B hml hex hP => ?_)
  obtain ⟨rfl, rfl, hK, hT, hE, G⟩ := gh_start hP
  have M : gh_M D p l s m _ meth c RX3 cX3_init 1 (gh_A h s.heap.size) := ⟨⟨B.exec, B.bytes, hml, findClass_of_methodNamed B.named, fun w hw => atoms_spec (ws := ws_ yX3_init cX3_init 1 none) B.pre w (List.mem_cons_of_mem _ hw)⟩, hK, hT, hE, B.notSynchronized, hst⟩
  have hr := B.returns
  have hname : meth.name = "<init>" := (name_of_methodNamed B.named B.method).1
  have hx := M.1.1
  have hb := M.1.2.1
  refine gh_enter (vs := [(1, .ref v0)]) (gh_w1 rfl gh_wn) (Nat.le_of_ble_eq_true rfl) (fun ls hl => ?_)
  replace hl : gh_L ls 1 [(0, 1, va_rf (some v0))] := hl
  unfold wp_X3_init at hw
  refine gh_aload_n hx hb dX3_init_0 rfl (gh_at hl 0 rfl) ?_
  refine W.objInit M.1.1 M.1.2.1 M.1.2.2.2.1 (gh_Mts M _ q1568) (gh_Mts M _ q91) (gh_Mts M _ q92) rfl (hl.1.1.trans M.1.2.2.1.symm) rfl dX3_init_1 (Nat.le_of_ble_eq_true rfl) (Nat.le_trans (Nat.add_le_add_right (Nat.add_le_add_left gh_r0 _) _) (Nat.le_of_ble_eq_true rfl)) ?_
  refine gh_aload_n hx hb dX3_init_4 rfl (gh_at hl 0 rfl) ?_
  refine lv_bipush (v := (12 : Int32)) hx hb dX3_init_5 (by decide) ?_
  refine gh_newI (lim := 12) M G hw q216 (Nat.le_of_ble_eq_true rfl) (Nat.le_of_ble_eq_true rfl) (Nat.le_of_ble_eq_true rfl) dX3_init_7 (fun q1 h2 H hw G => ?_)
  refine gh_putF M G hname hw fp_X3_7 (gh_narA _ _) (gh_fitA _ _) dX3_init_9 (fun h3 H locs hw G => ?_)
  refine gh_aload_n hx hb dX3_init_12 rfl (gh_at hl 0 rfl) ?_
  refine lv_iconst (v := (4 : Int32)) hx hb dX3_init_13 (by decide) ?_
  refine gh_newI (lim := 4) M G hw q216 (Nat.le_of_ble_eq_true rfl) (Nat.le_of_ble_eq_true rfl) (Nat.le_of_ble_eq_true rfl) dX3_init_14 (fun q4 h5 H hw G => ?_)
  refine gh_putF M G hname hw fp_X3_13 (gh_narA _ _) (gh_fitA _ _) dX3_init_16 (fun h6 H locs hw G => ?_)
  refine gh_aload_n hx hb dX3_init_19 rfl (gh_at hl 0 rfl) ?_
  refine lv_iconst (v := (4 : Int32)) hx hb dX3_init_20 (by decide) ?_
  refine gh_newI (lim := 4) M G hw q216 (Nat.le_of_ble_eq_true rfl) (Nat.le_of_ble_eq_true rfl) (Nat.le_of_ble_eq_true rfl) dX3_init_21 (fun q7 h8 H hw G => ?_)
  refine gh_putF M G hname hw fp_X3_16 (gh_narA _ _) (gh_fitA _ _) dX3_init_23 (fun h9 H locs hw G => ?_)
  refine gh_aload_n hx hb dX3_init_26 rfl (gh_at hl 0 rfl) ?_
  refine lv_bipush (v := (64 : Int32)) hx hb dX3_init_27 (by decide) ?_
  refine gh_newI (lim := 64) M G hw q216 (Nat.le_of_ble_eq_true rfl) (Nat.le_of_ble_eq_true rfl) (Nat.le_of_ble_eq_true rfl) dX3_init_29 (fun q10 h11 H hw G => ?_)
  refine gh_putF M G hname hw fp_X3_19 (gh_narA _ _) (gh_fitA _ _) dX3_init_31 (fun h12 H locs hw G => ?_)
  refine gh_aload_n hx hb dX3_init_34 rfl (gh_at hl 0 rfl) ?_
  refine lv_bipush (v := (32 : Int32)) hx hb dX3_init_35 (by decide) ?_
  refine gh_newI (lim := 32) M G hw q216 (Nat.le_of_ble_eq_true rfl) (Nat.le_of_ble_eq_true rfl) (Nat.le_of_ble_eq_true rfl) dX3_init_37 (fun q13 h14 H hw G => ?_)
  refine gh_putF M G hname hw fp_X3_22 (gh_narA _ _) (gh_fitA _ _) dX3_init_39 (fun h15 H locs hw G => ?_)
  refine gh_aload_n hx hb dX3_init_42 rfl (gh_at hl 0 rfl) ?_
  refine lv_bipush (v := (12 : Int32)) hx hb dX3_init_43 (by decide) ?_
  refine gh_newZ (lim := 12) M G hw q1648 (Nat.le_of_ble_eq_true rfl) (Nat.le_of_ble_eq_true rfl) (Nat.le_of_ble_eq_true rfl) dX3_init_45 (fun q16 h17 H hw G => ?_)
  refine gh_putF M G hname hw fp_X3_25 (gh_narA _ _) (gh_fitA _ _) dX3_init_47 (fun h18 H locs hw G => ?_)
  refine gh_aload_n hx hb dX3_init_50 rfl (gh_at hl 0 rfl) ?_
  refine lv_sipush (v := (1100 : Int32)) hx hb dX3_init_51 (by decide) ?_
  refine gh_newI (lim := 1100) M G hw q216 (Nat.le_of_ble_eq_true rfl) (Nat.le_of_ble_eq_true rfl) (Nat.le_of_ble_eq_true rfl) dX3_init_54 (fun q19 h20 H hw G => ?_)
  refine gh_putF M G hname hw fp_X3_29 (gh_narA _ _) (gh_fitA _ _) dX3_init_56 (fun h21 H locs hw G => ?_)
  refine gh_aload_n hx hb dX3_init_59 rfl (gh_at hl 0 rfl) ?_
  refine lv_bipush (v := (8 : Int32)) hx hb dX3_init_60 (by decide) ?_
  refine gh_newI (lim := 8) M G hw q216 (Nat.le_of_ble_eq_true rfl) (Nat.le_of_ble_eq_true rfl) (Nat.le_of_ble_eq_true rfl) dX3_init_62 (fun q22 h23 H hw G => ?_)
  refine gh_putF M G hname hw fp_X3_32 (gh_narA _ _) (gh_fitA _ _) dX3_init_64 (fun h24 H locs hw G => ?_)
  refine gh_aload_n hx hb dX3_init_67 rfl (gh_at hl 0 rfl) ?_
  refine lv_bipush (v := (8 : Int32)) hx hb dX3_init_68 (by decide) ?_
  refine gh_newI (lim := 8) M G hw q216 (Nat.le_of_ble_eq_true rfl) (Nat.le_of_ble_eq_true rfl) (Nat.le_of_ble_eq_true rfl) dX3_init_70 (fun q25 h26 H hw G => ?_)
  refine gh_putF M G hname hw fp_X3_35 (gh_narA _ _) (gh_fitA _ _) dX3_init_72 (fun h27 H locs hw G => ?_)
  refine gh_aload_n hx hb dX3_init_75 rfl (gh_at hl 0 rfl) ?_
  refine lv_sipush (v := (2048 : Int32)) hx hb dX3_init_76 (by decide) ?_
  refine gh_newI (lim := 2048) M G hw q216 (Nat.le_of_ble_eq_true rfl) (Nat.le_of_ble_eq_true rfl) (Nat.le_of_ble_eq_true rfl) dX3_init_79 (fun q28 h29 H hw G => ?_)
  refine gh_putF M G hname hw fp_X3_38 (gh_narA _ _) (gh_fitA _ _) dX3_init_81 (fun h30 H locs hw G => ?_)
  refine gh_aload_n hx hb dX3_init_84 rfl (gh_at hl 0 rfl) ?_
  refine lv_bipush (v := (100 : Int32)) hx hb dX3_init_85 (by decide) ?_
  refine gh_newI (lim := 100) M G hw q216 (Nat.le_of_ble_eq_true rfl) (Nat.le_of_ble_eq_true rfl) (Nat.le_of_ble_eq_true rfl) dX3_init_87 (fun q31 h32 H hw G => ?_)
  refine gh_putF M G hname hw fp_X3_41 (gh_narA _ _) (gh_fitA _ _) dX3_init_89 (fun h33 H locs hw G => ?_)
  refine gh_aload_n hx hb dX3_init_92 rfl (gh_at hl 0 rfl) ?_
  refine lv_bipush (v := (100 : Int32)) hx hb dX3_init_93 (by decide) ?_
  refine gh_newI (lim := 100) M G hw q216 (Nat.le_of_ble_eq_true rfl) (Nat.le_of_ble_eq_true rfl) (Nat.le_of_ble_eq_true rfl) dX3_init_95 (fun q34 h35 H hw G => ?_)
  refine gh_putF M G hname hw fp_X3_44 (gh_narA _ _) (gh_fitA _ _) dX3_init_97 (fun h36 H locs hw G => ?_)
  refine gh_aload_n hx hb dX3_init_100 rfl (gh_at hl 0 rfl) ?_
  refine lv_bipush (v := (100 : Int32)) hx hb dX3_init_101 (by decide) ?_
  refine gh_newI (lim := 100) M G hw q216 (Nat.le_of_ble_eq_true rfl) (Nat.le_of_ble_eq_true rfl) (Nat.le_of_ble_eq_true rfl) dX3_init_103 (fun q37 h38 H hw G => ?_)
  refine gh_putF M G hname hw fp_X3_47 (gh_narA _ _) (gh_fitA _ _) dX3_init_105 (fun h39 H locs hw G => ?_)
  refine gh_aload_n hx hb dX3_init_108 rfl (gh_at hl 0 rfl) ?_
  refine lv_sipush (v := (1600 : Int32)) hx hb dX3_init_109 (by decide) ?_
  refine gh_newI (lim := 1600) M G hw q216 (Nat.le_of_ble_eq_true rfl) (Nat.le_of_ble_eq_true rfl) (Nat.le_of_ble_eq_true rfl) dX3_init_112 (fun q40 h41 H hw G => ?_)
  refine gh_putF M G hname hw fp_X3_50 (gh_narA _ _) (gh_fitA _ _) dX3_init_114 (fun h42 H locs hw G => ?_)
  exact gh_vret M G hr hw (by exact Nat.le_of_ble_eq_true rfl) (by exact Nat.le_of_ble_eq_true rfl) dX3_init_117
/-! java/util/ArrayList.size ()I -/
theorem fl_J2_48 : gh_FL RJ2 48 [(8, 2)] := by
  intro args s hts tb q hq
  simp only [List.mem_cons, List.not_mem_nil, or_false] at hq
  subst hq
  exact ⟨_, "java/util/ArrayList", rfl, by decide, Or.inl (hts _ q110), (fun x h => h)⟩
def rm_J2_size : Room := { frames := 1, cells := 0, slots := 0, locals := 40 }
def wp_J2_size (κ : Nat → Nat) (v0 : Nat) (Q : Int32 → gh_H → Prop) (X : String → gh_H → Prop) (h : gh_H) : Prop := (gh_GI h (some v0) [(8, 2)] (fun x1 => (Q x1 h)))
set_option maxHeartbeats 4000000 in
theorem met_J2_size (l : Launch) (D : gh_D) (v0 : Nat) (Q : Int32 → gh_H → Prop) (X : String → gh_H → Prop) (h : gh_H) (sz : Nat) (hw : wp_J2_size D.2.2 v0 Q X h) (hst : l.stackTraces = false) : vx_Met l yJ2_size (ws_ yJ2_size cJ2_size 1 (some .int)) rm_J2_size (gh_Pc D h sz [.ref v0]) (gh_Qi Q D h sz) (gh_X X D h sz) 0 0 (gh_A h sz) := by
  refine vx_ofW (by decide) rfl (fun p e s m args below meth c s₁ B hml hex hP => ?_)
  obtain ⟨rfl, rfl, hK, hT, hE, G⟩ := gh_start hP
  have M : gh_M D p l s m _ meth c RJ2 cJ2_size 1 (gh_A h s.heap.size) := ⟨⟨B.exec, B.bytes, hml, findClass_of_methodNamed B.named, fun w hw => atoms_spec (ws := ws_ yJ2_size cJ2_size 1 (some .int)) B.pre w (List.mem_cons_of_mem _ hw)⟩, hK, hT, hE, B.notSynchronized, hst⟩
  have hr := B.returns
  have hx := M.1.1
  have hb := M.1.2.1
  refine gh_enter (vs := [(1, .ref v0)]) (gh_w1 rfl gh_wn) (Nat.le_of_ble_eq_true rfl) (fun ls hl => ?_)
  replace hl : gh_L ls 1 [(0, 1, va_rf (some v0))] := hl
  unfold wp_J2_size at hw
  refine gh_aload_n hx hb dJ2_size_0 rfl (gh_at hl 0 rfl) ?_
  refine gh_getI M G hw fl_J2_48 dJ2_size_1 (fun x1 hw => ?_)
  exact gh_iret M G hr rfl hw (by exact Nat.le_of_ble_eq_true rfl) (by exact Nat.le_of_ble_eq_true rfl) dJ2_size_4
/-! BinderyDesk.requireState (Z)V -/
theorem at_X1_14 {args : Array Value} {s : State} (hts : ∀ w ∈ lw_all, w.before args s = true) (tb : gh_Tb s) : ∀ w ∈ (vx_at0 RX1 14 "java/lang/IllegalStateException" ["java/lang/RuntimeException", "java/lang/Exception"]), w.before args s = true := by
  refine vx_hat (B := [Cond.declares ({ cls := "java/lang/RuntimeException", name := "<init>", desc := "()V" } : MethodName), Cond.declares ({ cls := "java/lang/Exception", name := "<init>", desc := "()V" } : MethodName), Cond.declares ({ cls := "java/lang/Throwable", name := "<init>", desc := "()V" } : MethodName), Cond.castable "java/lang/IllegalStateException" "java/lang/IllegalStateException"]) (fun w hw => hts w (lw_in _ [51, 291, 300, 309, 312, 314, 292, 293, 91, 92, 294, 299, 310, 327, 281, 328, 283, 329, 285, 295, 297, 287, 316, 317, 318, 319, 319, 320, 321, 322, 322, 323, 324, 292, 315, 270, 278, 279, 280, 282, 284, 286, 290, 289, 288] (by decide +kernel) (by decide +kernel) w hw)) (by decide +kernel) ?_
  exact vx_c (va_Nw.use rfl (tb.1 _ (List.mem_of_getElem? (i := 116) rfl))) (vx_c (va_Nw.use rfl (tb.1 _ (List.mem_of_getElem? (i := 114) rfl))) (vx_c (va_Nw.use rfl (tb.1 _ (List.mem_of_getElem? (i := 111) rfl))) (vx_c (va_Nw.use rfl (tb.1 _ (List.mem_of_getElem? (i := 4) rfl))) (vx_n))))
theorem at_X1_14_g : ∀ w ∈ Cond.classLink RX1 12 "java/lang/IllegalStateException" :: Cond.initialized "java/lang/IllegalStateException" :: (vx_at0 RX1 14 "java/lang/IllegalStateException" ["java/lang/RuntimeException", "java/lang/Exception"]), vx_ot w = true := by decide +kernel
def rm_X1_requireState : Room := { frames := 6, cells := 1, slots := 6, locals := 100 }
def wp_X1_requireState (κ : Nat → Nat) (v0 : Int32) (Q : gh_H → Prop) (X : String → gh_H → Prop) (h : gh_H) : Prop := ((v0 = 0 → (X "java/lang/IllegalStateException" h)) ∧ (¬ v0 = 0 → (Q h)))
set_option maxHeartbeats 4000000 in
theorem met_X1_requireState (l : Launch) (D : gh_D) (v0 : Int32) (Q : gh_H → Prop) (X : String → gh_H → Prop) (h : gh_H) (sz : Nat) (hw : wp_X1_requireState D.2.2 v0 Q X h) (hst : l.stackTraces = false) : vx_Met l yX1_requireState (ws_ yX1_requireState cX1_requireState 1 none) rm_X1_requireState (gh_Pc D h sz [.int v0]) (gh_Qv Q D h sz) (gh_X X D h sz) 1 6 (gh_A h sz) := by
  refine vx_ofW (by decide) rfl (fun p e s m args below meth c s₁ B hml hex hP => ?_)
  obtain ⟨rfl, rfl, hK, hT, hE, G⟩ := gh_start hP
  have M : gh_M D p l s m _ meth c RX1 cX1_requireState 1 (gh_A h s.heap.size) := ⟨⟨B.exec, B.bytes, hml, findClass_of_methodNamed B.named, fun w hw => atoms_spec (ws := ws_ yX1_requireState cX1_requireState 1 none) B.pre w (List.mem_cons_of_mem _ hw)⟩, hK, hT, hE, B.notSynchronized, hst⟩
  have hr := B.returns
  have hx := M.1.1
  have hb := M.1.2.1
  refine gh_enter (vs := [(1, .int v0)]) (gh_w1 rfl gh_wn) (Nat.le_of_ble_eq_true rfl) (fun ls hl => ?_)
  replace hl : gh_L ls 1 [(0, 1, .int v0)] := hl
  unfold wp_X1_requireState at hw
  refine lv_iload_n hx hb dX1_requireState_0 rfl (gh_at hl 0 rfl) ?_
  refine lv_if_ne (tgt := 12) hx hb dX1_requireState_1 (by decide) (fun hc => ?_) (fun hc => ?_)
  · replace hw := hw.2 hc
    exact gh_vret M G hr hw (by exact Nat.le_of_ble_eq_true rfl) (by exact Nat.le_of_ble_eq_true rfl) dX1_requireState_12
  · replace hw := hw.1 hc
    exact gh_throw (names := ["java/lang/RuntimeException", "java/lang/Exception"]) M G hex hw (by decide +kernel) (by decide +kernel) q269 q54 (at_X1_14 (gh_Mts M) M.2.2.1) at_X1_14_g hl.1.1 dX1_requireState_4 dX1_requireState_7 dX1_requireState_8 dX1_requireState_11 (Nat.le_of_ble_eq_true rfl) (Nat.le_trans (Nat.add_le_add_right gh_r0 _) (Nat.le_of_ble_eq_true rfl)) (Nat.le_of_ble_eq_true rfl) (Nat.le_of_ble_eq_true rfl) (Nat.le_of_ble_eq_true rfl) (Nat.le_of_ble_eq_true rfl)
/-! BinderyDesk$Content.<init> (I)V -/
theorem fl_X4_9 : gh_FL RX4 9 [(4, 0)] := by
  intro args s hts tb q hq
  simp only [List.mem_cons, List.not_mem_nil, or_false] at hq
  subst hq
  exact ⟨_, "BinderyDesk$Content", rfl, by decide, Or.inl (hts _ q344), (fun x h => h)⟩
theorem fp_X4_9 : gh_FP RX4 9 [(4, 0)] (.int) true := by
  refine ⟨fl_X4_9, fun q hq => ?_⟩
  simp only [List.mem_cons, List.not_mem_nil, or_false] at hq
  subst hq
  exact ⟨_, rfl, rfl, by decide +kernel, fun _ => rfl⟩
def rm_X4_init : Room := { frames := 2, cells := 0, slots := 0, locals := 80 }
def wp_X4_init (κ : Nat → Nat) (v0 : Nat) (v1 : Int32) (Q : gh_H → Prop) (X : String → gh_H → Prop) (h : gh_H) : Prop := (gh_PV h (some v0) [(4, 0)] (.int v1) (fun h1 => (Q h1)))
set_option maxHeartbeats 4000000 in
theorem met_X4_init (l : Launch) (D : gh_D) (v0 : Nat) (v1 : Int32) (Q : gh_H → Prop) (X : String → gh_H → Prop) (h : gh_H) (sz : Nat) (hw : wp_X4_init D.2.2 v0 v1 Q X h) (hst : l.stackTraces = false) : vx_Met l yX4_init (ws_ yX4_init cX4_init 2 none) rm_X4_init (gh_Pc D h sz [.ref v0, .int v1]) (gh_Qv Q D h sz) (gh_X X D h sz) 0 0 (gh_A h sz) := by
  refine vx_ofW (by decide) rfl (fun p e s m args below meth c s₁ B hml hex hP => ?_)
  obtain ⟨rfl, rfl, hK, hT, hE, G⟩ := gh_start hP
  have M : gh_M D p l s m _ meth c RX4 cX4_init 2 (gh_A h s.heap.size) := ⟨⟨B.exec, B.bytes, hml, findClass_of_methodNamed B.named, fun w hw => atoms_spec (ws := ws_ yX4_init cX4_init 2 none) B.pre w (List.mem_cons_of_mem _ hw)⟩, hK, hT, hE, B.notSynchronized, hst⟩
  have hr := B.returns
  have hname : meth.name = "<init>" := (name_of_methodNamed B.named B.method).1
  have hx := M.1.1
  have hb := M.1.2.1
  refine gh_enter (vs := [(1, .ref v0), (1, .int v1)]) (gh_w1 rfl (gh_w1 rfl gh_wn)) (Nat.le_of_ble_eq_true rfl) (fun ls hl => ?_)
  replace hl : gh_L ls 2 [(0, 1, va_rf (some v0)), (1, 1, .int v1)] := hl
  unfold wp_X4_init at hw
  refine gh_aload_n hx hb dX4_init_0 rfl (gh_at hl 0 rfl) ?_
  refine W.objInit M.1.1 M.1.2.1 M.1.2.2.2.1 (gh_Mts M _ q343) (gh_Mts M _ q91) (gh_Mts M _ q92) rfl (hl.1.1.trans M.1.2.2.1.symm) rfl dX4_init_1 (Nat.le_of_ble_eq_true rfl) (Nat.le_trans (Nat.add_le_add_right (Nat.add_le_add_left gh_r0 _) _) (Nat.le_of_ble_eq_true rfl)) ?_
  refine gh_aload_n hx hb dX4_init_4 rfl (gh_at hl 0 rfl) ?_
  refine lv_iload_n hx hb dX4_init_5 rfl (gh_at hl 1 rfl) ?_
  refine gh_putF M G hname hw fp_X4_9 rfl rfl dX4_init_6 (fun h1 H locs hw G => ?_)
  exact gh_vret M G hr hw (by exact Nat.le_of_ble_eq_true rfl) (by exact Nat.le_of_ble_eq_true rfl) dX4_init_9
/-! jdk/internal/util/ArraysSupport.hugeLength (II)I -/
def rm_J11_hugeLength : Room := { frames := 1, cells := 0, slots := 0, locals := 40 }
def wp_J11_hugeLength (κ : Nat → Nat) (v0 : Int32) (v1 : Int32) (Q : Int32 → gh_H → Prop) (X : String → gh_H → Prop) (h : gh_H) : Prop := ((0 ≤ (v0 + v1) → (((2147483639 : Int32) < (v0 + v1) → (Q (v0 + v1) h)) ∧ (¬ (2147483639 : Int32) < (v0 + v1) → (Q (2147483639 : Int32) h)))) ∧ (¬ 0 ≤ (v0 + v1) → False))
set_option maxHeartbeats 4000000 in
theorem met_J11_hugeLength (l : Launch) (D : gh_D) (v0 : Int32) (v1 : Int32) (Q : Int32 → gh_H → Prop) (X : String → gh_H → Prop) (h : gh_H) (sz : Nat) (hw : wp_J11_hugeLength D.2.2 v0 v1 Q X h) (hst : l.stackTraces = false) : vx_Met l yJ11_hugeLength (ws_ yJ11_hugeLength cJ11_hugeLength 3 (some .int)) rm_J11_hugeLength (gh_Pc D h sz [.int v0, .int v1]) (gh_Qi Q D h sz) (gh_X X D h sz) 0 0 (gh_A h sz) := by
  refine vx_ofW (by decide) rfl (fun p e s m args below meth c s₁ B hml hex hP => ?_)
  obtain ⟨rfl, rfl, hK, hT, hE, G⟩ := gh_start hP
  have M : gh_M D p l s m _ meth c RJ11 cJ11_hugeLength 3 (gh_A h s.heap.size) := ⟨⟨B.exec, B.bytes, hml, findClass_of_methodNamed B.named, fun w hw => atoms_spec (ws := ws_ yJ11_hugeLength cJ11_hugeLength 3 (some .int)) B.pre w (List.mem_cons_of_mem _ hw)⟩, hK, hT, hE, B.notSynchronized, hst⟩
  have hr := B.returns
  have hx := M.1.1
  have hb := M.1.2.1
  refine gh_enter (vs := [(1, .int v0), (1, .int v1)]) (gh_w1 rfl (gh_w1 rfl gh_wn)) (Nat.le_of_ble_eq_true rfl) (fun ls hl => ?_)
  replace hl : gh_L ls 3 [(0, 1, .int v0), (1, 1, .int v1)] := hl
  unfold wp_J11_hugeLength at hw
  refine lv_iload_n hx hb dJ11_hugeLength_0 rfl (gh_at hl 0 rfl) ?_
  refine lv_iload_n hx hb dJ11_hugeLength_1 rfl (gh_at hl 1 rfl) ?_
  refine lv_iadd hx hb dJ11_hugeLength_2 ?_
  refine gh_istore_n (lv' := [(2, 1, .int (v0 + v1)), (0, 1, .int v0), (1, 1, .int v1)]) hx hb dJ11_hugeLength_3 rfl hl (by decide) rfl (fun ls hl => ?_)
  refine lv_iload_n hx hb dJ11_hugeLength_4 rfl (gh_at hl 0 rfl) ?_
  refine lv_if_ge (tgt := 49) hx hb dJ11_hugeLength_5 (by decide) (fun hc => ?_) (fun hc => ?_)
  · replace hw := hw.1 hc
    refine lv_iload_n hx hb dJ11_hugeLength_49 rfl (gh_at hl 0 rfl) ?_
    refine lv_ldc (v := (2147483639 : Int32)) hx hb M.1.2.2.2.1 (gh_Mts M _ q384) dJ11_hugeLength_50 ?_
    refine lv_icmp_gt (tgt := 58) hx hb dJ11_hugeLength_52 (by decide) (fun hc => ?_) (fun hc => ?_)
    · replace hw := hw.1 hc
      refine lv_iload_n hx hb dJ11_hugeLength_58 rfl (gh_at hl 0 rfl) ?_
      exact gh_iret M G hr rfl hw (by exact Nat.le_of_ble_eq_true rfl) (by exact Nat.le_of_ble_eq_true rfl) dJ11_hugeLength_59
    · replace hw := hw.2 hc
      refine lv_ldc (v := (2147483639 : Int32)) hx hb M.1.2.2.2.1 (gh_Mts M _ q384) dJ11_hugeLength_55 ?_
      exact gh_iret M G hr rfl hw (by exact Nat.le_of_ble_eq_true rfl) (by exact Nat.le_of_ble_eq_true rfl) dJ11_hugeLength_57
  · replace hw := hw.2 hc
    exact hw.elim
/-! jdk/internal/util/ArraysSupport.newLength (III)I -/
def rm_J11_newLength : Room := { frames := 2, cells := 0, slots := 0, locals := 80 }
def wb_J11_newLength_21 (κ : Nat → Nat)  (Q : Int32 → gh_H → Prop) (X : String → gh_H → Prop) (v0 : Int32) (v1 : Int32) (h : gh_H) : Prop := (wp_J11_hugeLength κ v0 v1 (fun r1 h2 => (Q r1 h2)) X h)
def wp_J11_newLength (κ : Nat → Nat) (v0 : Int32) (v1 : Int32) (v2 : Int32) (Q : Int32 → gh_H → Prop) (X : String → gh_H → Prop) (h : gh_H) : Prop := (((v0 + (if v1 < v2 then v2 else v1)) ≤ (0 : Int32) → wb_J11_newLength_21 κ Q X v0 v1 h) ∧ (¬ (v0 + (if v1 < v2 then v2 else v1)) ≤ (0 : Int32) → (((2147483639 : Int32) < (v0 + (if v1 < v2 then v2 else v1)) → wb_J11_newLength_21 κ Q X v0 v1 h) ∧ (¬ (2147483639 : Int32) < (v0 + (if v1 < v2 then v2 else v1)) → (Q (v0 + (if v1 < v2 then v2 else v1)) h)))))
set_option maxHeartbeats 4000000 in
theorem wk_J11_newLength_21 {D : gh_D} {p : Program} {l : Launch} {e : Env} {s : State} {m : MethodId} {args : Array Value} {below : List Frame} {meth : Method} {c : Code} {h0 : gh_H} (M : gh_M D p l s m args meth c RJ11 cJ11_newLength 4 (gh_A h0 s.heap.size)) (hr : meth.sig.returnType = (some .int)) (hex : ∀ x ∈ c.exceptionTable.toList, False)   {Q : Int32 → gh_H → Prop} {X : String → gh_H → Prop}   (v0 : Int32) (v1 : Int32) (H : Heap) (locs : List Loc) (ls : Array Slot) (h : gh_H) (G : gh_Inv D h0 (gh_A h0 s.heap.size) s.heap s H locs h) (hl : gh_L ls 4 [(0, 1, .int v0), (1, 1, .int v1)]) (hw : wb_J11_newLength_21 D.2.2 Q X v0 v1 h) : W p l e rm_J11_newLength s m args below meth c H locs 0 0 (vx_MQ below (gh_Qi Q D h0 s.heap.size) (gh_X X D h0 s.heap.size) args s 0 0 (gh_A h0 s.heap.size)) (F0 m 21 ls []) := by
  unfold wb_J11_newLength_21 at hw
  have hx := M.1.1
  have hb := M.1.2.1
  refine lv_iload_n hx hb dJ11_newLength_21 rfl (gh_at hl 0 rfl) ?_
  refine lv_iload_n hx hb dJ11_newLength_22 rfl (gh_at hl 1 rfl) ?_
  refine gh_ki G (vx_runS M.1 (met_J11_hugeLength l D _ _ _ _ _ _ hw M.2.2.2.2.2) (va_cwS 2 (gh_Mts M) (lw_S q385 q386 q56 q387) rfl rfl rfl ⟨by decide, by decide, rfl⟩ ⟨Nat.le_of_ble_eq_true rfl, Nat.le_of_ble_eq_true rfl⟩) (gh_pre M G (As := [.int v0, .int v1])) rfl rfl hl.1.1 rfl (lv_room (Nat.le_of_ble_eq_true rfl)) dJ11_newLength_23 ⟨(Nat.le_of_ble_eq_true rfl), (Nat.le_of_ble_eq_true rfl)⟩) (gh_out M hex (by exact Nat.le_of_ble_eq_true rfl) (by exact Nat.le_of_ble_eq_true rfl)) (fun r1 h2 H locs hw G => ?_)
  exact gh_iret M G hr rfl hw (by exact Nat.le_of_ble_eq_true rfl) (by exact Nat.le_of_ble_eq_true rfl) dJ11_newLength_26
set_option maxHeartbeats 4000000 in
theorem met_J11_newLength (l : Launch) (D : gh_D) (v0 : Int32) (v1 : Int32) (v2 : Int32) (Q : Int32 → gh_H → Prop) (X : String → gh_H → Prop) (h : gh_H) (sz : Nat) (hw : wp_J11_newLength D.2.2 v0 v1 v2 Q X h) (hst : l.stackTraces = false) : vx_Met l yJ11_newLength (ws_ yJ11_newLength cJ11_newLength 4 (some .int)) rm_J11_newLength (gh_Pc D h sz [.int v0, .int v1, .int v2]) (gh_Qi Q D h sz) (gh_X X D h sz) 0 0 (gh_A h sz) := by
  refine vx_ofW (by decide) rfl (fun p e s m args below meth c s₁ B hml hex hP => ?_)
  obtain ⟨rfl, rfl, hK, hT, hE, G⟩ := gh_start hP
  have M : gh_M D p l s m _ meth c RJ11 cJ11_newLength 4 (gh_A h s.heap.size) := ⟨⟨B.exec, B.bytes, hml, findClass_of_methodNamed B.named, fun w hw => atoms_spec (ws := ws_ yJ11_newLength cJ11_newLength 4 (some .int)) B.pre w (List.mem_cons_of_mem _ hw)⟩, hK, hT, hE, B.notSynchronized, hst⟩
  have hr := B.returns
  have hx := M.1.1
  have hb := M.1.2.1
  refine gh_enter (vs := [(1, .int v0), (1, .int v1), (1, .int v2)]) (gh_w1 rfl (gh_w1 rfl (gh_w1 rfl gh_wn))) (Nat.le_of_ble_eq_true rfl) (fun ls hl => ?_)
  replace hl : gh_L ls 4 [(0, 1, .int v0), (1, 1, .int v1), (2, 1, .int v2)] := hl
  unfold wp_J11_newLength at hw
  refine lv_iload_n hx hb dJ11_newLength_0 rfl (gh_at hl 0 rfl) ?_
  refine lv_iload_n hx hb dJ11_newLength_1 rfl (gh_at hl 1 rfl) ?_
  refine lv_iload_n hx hb dJ11_newLength_2 rfl (gh_at hl 2 rfl) ?_
  refine va_mmax M.1.1 M.1.2.1 (M.1.2.2.1.trans hl.1.1.symm) M.1.2.2.2.1 (gh_Mts M _ q381) (gh_Mts M _ q382) (gh_Mts M _ q57) (gh_Mts M _ q383) (by exact Nat.le_of_ble_eq_true rfl) (Nat.le_trans (Nat.add_le_add_right (gh_r1 rfl gh_r0) _) (by exact Nat.le_of_ble_eq_true rfl)) (Nat.le_of_ble_eq_true rfl) (Nat.le_of_ble_eq_true rfl) dJ11_newLength_3 ?_
  refine lv_iadd hx hb dJ11_newLength_6 ?_
  refine gh_istore_n (lv' := [(3, 1, .int (v0 + (if v1 < v2 then v2 else v1))), (0, 1, .int v0), (1, 1, .int v1), (2, 1, .int v2)]) hx hb dJ11_newLength_7 rfl hl (by decide) rfl (fun ls hl => ?_)
  refine lv_iconst (v := (0 : Int32)) hx hb dJ11_newLength_8 (by decide) ?_
  refine lv_iload_n hx hb dJ11_newLength_9 rfl (gh_at hl 0 rfl) ?_
  refine lv_icmp_ge (tgt := 21) hx hb dJ11_newLength_10 (by decide) (fun hc => ?_) (fun hc => ?_)
  · replace hw := hw.1 hc
    exact wk_J11_newLength_21 M hr hex  v0 v1 _ _ _ _ G (gh_sub hl [1, 2] rfl) hw
  · replace hw := hw.2 hc
    refine lv_iload_n hx hb dJ11_newLength_13 rfl (gh_at hl 0 rfl) ?_
    refine lv_ldc (v := (2147483639 : Int32)) hx hb M.1.2.2.2.1 (gh_Mts M _ q384) dJ11_newLength_14 ?_
    refine lv_icmp_gt (tgt := 21) hx hb dJ11_newLength_16 (by decide) (fun hc => ?_) (fun hc => ?_)
    · replace hw := hw.1 hc
      exact wk_J11_newLength_21 M hr hex  v0 v1 _ _ _ _ G (gh_sub hl [1, 2] rfl) hw
    · replace hw := hw.2 hc
      refine lv_iload_n hx hb dJ11_newLength_19 rfl (gh_at hl 0 rfl) ?_
      exact gh_iret M G hr rfl hw (by exact Nat.le_of_ble_eq_true rfl) (by exact Nat.le_of_ble_eq_true rfl) dJ11_newLength_20
/-! java/util/Arrays.copyOf ([Ljava/lang/Object;ILjava/lang/Class;)[Ljava/lang/Object; -/
def rm_J13_copyOf_2 : Room := { frames := 2, cells := 1, slots := 80, locals := 80 }
def wp_J13_copyOf_2 (κ : Nat → Nat) (v0 : Option Nat) (v1 : Int32) (v2 : Option Nat) (Q : Option Nat → gh_H → Prop) (X : String → gh_H → Prop) (h : gh_H) : Prop := ((v2 = (some (κ 6)) → (gh_NA h 4 v1 80 (.inr (.inr (.inr (.inr (fun _ => none))))) (fun q1 h2 => (gh_LN h2 v0 (fun x3 => (gh_CP h2 v0 (0 : Int32) (some q1) (0 : Int32) (if v1 < x3 then v1 else x3) (fun h4 => (Q (some q1) h4)))))))) ∧ (¬ v2 = (some (κ 6)) → False))
set_option maxHeartbeats 4000000 in
theorem met_J13_copyOf_2 (l : Launch) (D : gh_D) (v0 : Option Nat) (v1 : Int32) (v2 : Option Nat) (Q : Option Nat → gh_H → Prop) (X : String → gh_H → Prop) (h : gh_H) (sz : Nat) (hw : wp_J13_copyOf_2 D.2.2 v0 v1 v2 Q X h) (hst : l.stackTraces = false) : vx_Met l yJ13_copyOf_2 (ws_ yJ13_copyOf_2 cJ13_copyOf_2 4 (some (.array (.object "java/lang/Object")))) rm_J13_copyOf_2 (gh_Pc D h sz [va_rf v0, .int v1, va_rf v2]) (gh_Qq Q D h sz) (gh_X X D h sz) 1 80 (gh_A h sz) := by
  refine vx_ofW (by decide) rfl (fun p e s m args below meth c s₁ B hml hex hP => ?_)
  obtain ⟨rfl, rfl, hK, hT, hE, G⟩ := gh_start hP
  have M : gh_M D p l s m _ meth c RJ13 cJ13_copyOf_2 4 (gh_A h s.heap.size) := ⟨⟨B.exec, B.bytes, hml, findClass_of_methodNamed B.named, fun w hw => atoms_spec (ws := ws_ yJ13_copyOf_2 cJ13_copyOf_2 4 (some (.array (.object "java/lang/Object")))) B.pre w (List.mem_cons_of_mem _ hw)⟩, hK, hT, hE, B.notSynchronized, hst⟩
  have hr := B.returns
  have hx := M.1.1
  have hb := M.1.2.1
  refine gh_enter (vs := [(1, va_rf v0), (1, .int v1), (1, va_rf v2)]) (gh_w1 (gh_cat _) (gh_w1 rfl (gh_w1 (gh_cat _) gh_wn))) (Nat.le_of_ble_eq_true rfl) (fun ls hl => ?_)
  replace hl : gh_L ls 4 [(0, 1, va_rf v0), (1, 1, .int v1), (2, 1, va_rf v2)] := hl
  unfold wp_J13_copyOf_2 at hw
  refine gh_aload_n hx hb dJ13_copyOf_2_0 rfl (gh_at hl 2 rfl) ?_
  refine va_ldcM hx hb M.1.2.2.2.1 (gh_Mts M _ q425) M.2.2.2.1.2.2.2.2.2.2.2.2.2 dJ13_copyOf_2_1 ?_
  refine lv_acmp_ne (rx := v2) (ry := (some (D.2.2 6))) (tgt := 13) hx hb dJ13_copyOf_2_3 (by decide) (fun hc => ?_) (fun hc => ?_)
  · replace hw := hw.2 hc
    refine gh_aload_n hx hb dJ13_copyOf_2_13 rfl (gh_at hl 2 rfl) ?_
    exact hw.elim
  · replace hw := hw.1 hc
    refine lv_iload_n hx hb dJ13_copyOf_2_6 rfl (gh_at hl 1 rfl) ?_
    refine gh_newq (lim := 80) M G hw q427 (Nat.le_of_ble_eq_true rfl) (Nat.le_of_ble_eq_true rfl) (Nat.le_of_ble_eq_true rfl) dJ13_copyOf_2_7 (fun q1 h2 H hw G => ?_)
    refine lv_goto (tgt := 24) hx hb dJ13_copyOf_2_10 (by decide) ?_
    refine gh_astore_n (lv' := [(3, 1, va_rf (some q1)), (0, 1, va_rf v0), (1, 1, .int v1), (2, 1, va_rf v2)]) hx hb dJ13_copyOf_2_24 rfl hl (by decide) rfl (fun ls hl => ?_)
    refine gh_aload_n hx hb dJ13_copyOf_2_25 rfl (gh_at hl 1 rfl) ?_
    refine lv_iconst (v := (0 : Int32)) hx hb dJ13_copyOf_2_26 (by decide) ?_
    refine gh_aload_n hx hb dJ13_copyOf_2_27 rfl (gh_at hl 0 rfl) ?_
    refine lv_iconst (v := (0 : Int32)) hx hb dJ13_copyOf_2_28 (by decide) ?_
    refine gh_aload_n hx hb dJ13_copyOf_2_29 rfl (gh_at hl 1 rfl) ?_
    refine gh_len M G hw dJ13_copyOf_2_30 (fun x3 hw => ?_)
    refine lv_iload_n hx hb dJ13_copyOf_2_31 rfl (gh_at hl 2 rfl) ?_
    refine va_mmin M.1.1 M.1.2.1 (M.1.2.2.1.trans hl.1.1.symm) M.1.2.2.2.1 (gh_Mts M _ q428) (gh_Mts M _ q429) (gh_Mts M _ q57) (gh_Mts M _ q430) (by exact Nat.le_of_ble_eq_true rfl) (Nat.le_trans (Nat.add_le_add_right (gh_r1 rfl (gh_r1 (gh_cat _) (gh_r1 rfl (gh_r1 (gh_cat _) gh_r0)))) _) (by exact Nat.le_of_ble_eq_true rfl)) (Nat.le_of_ble_eq_true rfl) (Nat.le_of_ble_eq_true rfl) dJ13_copyOf_2_32 ?_
    refine gh_copy M G hw q431 q432 q59 q433 hl.1.1 (Nat.le_of_ble_eq_true rfl) dJ13_copyOf_2_35 (Nat.le_of_ble_eq_true rfl) (Nat.le_of_ble_eq_true rfl) (fun h4 H locs hw G => ?_)
    refine gh_aload_n hx hb dJ13_copyOf_2_38 rfl (gh_at hl 0 rfl) ?_
    exact gh_aret M G hr (Or.inr ⟨_, rfl⟩) hw (by exact Nat.le_of_ble_eq_true rfl) (by exact Nat.le_of_ble_eq_true rfl) dJ13_copyOf_2_39
/-! java/util/Arrays.copyOf ([Ljava/lang/Object;I)[Ljava/lang/Object; -/
def rm_J13_copyOf : Room := { frames := 3, cells := 1, slots := 80, locals := 103 }
def wp_J13_copyOf (κ : Nat → Nat) (v0 : Option Nat) (v1 : Int32) (Q : Option Nat → gh_H → Prop) (X : String → gh_H → Prop) (h : gh_H) : Prop := (gh_GA h v0 (wp_J13_copyOf_2 κ v0 v1 (some (κ 6)) (fun r1 h2 => (Q r1 h2)) X h))
set_option maxHeartbeats 4000000 in
theorem met_J13_copyOf (l : Launch) (D : gh_D) (v0 : Option Nat) (v1 : Int32) (Q : Option Nat → gh_H → Prop) (X : String → gh_H → Prop) (h : gh_H) (sz : Nat) (hw : wp_J13_copyOf D.2.2 v0 v1 Q X h) (hst : l.stackTraces = false) : vx_Met l yJ13_copyOf (ws_ yJ13_copyOf cJ13_copyOf 2 (some (.array (.object "java/lang/Object")))) rm_J13_copyOf (gh_Pc D h sz [va_rf v0, .int v1]) (gh_Qq Q D h sz) (gh_X X D h sz) 1 80 (gh_A h sz) := by
  refine vx_ofW (by decide) rfl (fun p e s m args below meth c s₁ B hml hex hP => ?_)
  obtain ⟨rfl, rfl, hK, hT, hE, G⟩ := gh_start hP
  have M : gh_M D p l s m _ meth c RJ13 cJ13_copyOf 2 (gh_A h s.heap.size) := ⟨⟨B.exec, B.bytes, hml, findClass_of_methodNamed B.named, fun w hw => atoms_spec (ws := ws_ yJ13_copyOf cJ13_copyOf 2 (some (.array (.object "java/lang/Object")))) B.pre w (List.mem_cons_of_mem _ hw)⟩, hK, hT, hE, B.notSynchronized, hst⟩
  have hr := B.returns
  have hx := M.1.1
  have hb := M.1.2.1
  refine gh_enter (vs := [(1, va_rf v0), (1, .int v1)]) (gh_w1 (gh_cat _) (gh_w1 rfl gh_wn)) (Nat.le_of_ble_eq_true rfl) (fun ls hl => ?_)
  replace hl : gh_L ls 2 [(0, 1, va_rf v0), (1, 1, .int v1)] := hl
  unfold wp_J13_copyOf at hw
  refine gh_aload_n hx hb dJ13_copyOf_0 rfl (gh_at hl 0 rfl) ?_
  refine lv_iload_n hx hb dJ13_copyOf_1 rfl (gh_at hl 1 rfl) ?_
  refine gh_aload_n hx hb dJ13_copyOf_2 rfl (gh_at hl 0 rfl) ?_
  refine gh_getA M G hw q391 (List.mem_of_getElem? (i := 86) rfl) q1896 q392 q421 hl.1.1 (Nat.le_trans (gh_r1 rfl (gh_r1 (gh_cat _) gh_r0)) (Nat.le_of_ble_eq_true rfl : 2 ≤ 8)) dJ13_copyOf_3 (Nat.le_of_ble_eq_true rfl) (Nat.le_of_ble_eq_true rfl) (fun hw => ?_)
  refine gh_kq G (vx_runS M.1 (met_J13_copyOf_2 l D _ _ _ _ _ _ _ hw M.2.2.2.2.2) (va_cwS 3 (gh_Mts M) (lw_S q422 q423 q58 q424) rfl rfl rfl ⟨by decide, by decide, rfl⟩ ⟨Nat.le_of_ble_eq_true rfl, Nat.le_of_ble_eq_true rfl⟩) (gh_pre M G (As := [va_rf v0, .int v1, va_rf (some (D.2.2 6))])) rfl rfl hl.1.1 rfl (lv_room (Nat.le_of_ble_eq_true rfl)) dJ13_copyOf_6 ⟨(Nat.le_of_ble_eq_true rfl), (Nat.le_of_ble_eq_true rfl)⟩) (gh_out M hex (by exact Nat.le_of_ble_eq_true rfl) (by exact Nat.le_of_ble_eq_true rfl)) (fun r1 h2 H locs hw G => ?_)
  exact gh_aret M G hr (Or.inr ⟨_, rfl⟩) hw (by exact Nat.le_of_ble_eq_true rfl) (by exact Nat.le_of_ble_eq_true rfl) dJ13_copyOf_9
/-! java/util/ArrayList.grow (I)[Ljava/lang/Object; -/
def rm_J2_grow_2 : Room := { frames := 4, cells := 1, slots := 80, locals := 124 }
def wb_J2_grow_2_20 (κ : Nat → Nat)  (Q : Option Nat → gh_H → Prop) (X : String → gh_H → Prop) (v0 : Nat) (v1 : Int32) (v2 : Int32) (h : gh_H) : Prop := (wp_J11_newLength κ v2 (v1 - v2) (v2 >>> ((1 : Int32) &&& 31)) (fun r1 h2 => (gh_GR h2 (some v0) [(8, 1)] (fun x3 => (wp_J13_copyOf κ x3 r1 (fun r4 h5 => (gh_PV h5 (some v0) [(8, 1)] (va_rf r4) (fun h6 => (Q r4 h6)))) X h2)))) X h)
def wp_J2_grow_2 (κ : Nat → Nat) (v0 : Nat) (v1 : Int32) (Q : Option Nat → gh_H → Prop) (X : String → gh_H → Prop) (h : gh_H) : Prop := (gh_GR h (some v0) [(8, 1)] (fun x1 => (gh_LN h x1 (fun x2 => ((0 < x2 → wb_J2_grow_2_20 κ Q X v0 v1 x2 h) ∧ (¬ 0 < x2 → (gh_GR h (some v0) [(8, 1)] (fun x3 => ((x3 = (some (κ 0)) → (gh_NA h 4 (if (10 : Int32) < v1 then v1 else (10 : Int32)) 10 (.inr (.inr (.inr (.inr (fun _ => none))))) (fun q4 h5 => (gh_PV h5 (some v0) [(8, 1)] (va_rf (some q4)) (fun h6 => (Q (some q4) h6)))))) ∧ (¬ x3 = (some (κ 0)) → wb_J2_grow_2_20 κ Q X v0 v1 x2 h))))))))))
set_option maxHeartbeats 4000000 in
theorem wk_J2_grow_2_20 {D : gh_D} {p : Program} {l : Launch} {e : Env} {s : State} {m : MethodId} {args : Array Value} {below : List Frame} {meth : Method} {c : Code} {h0 : gh_H} (M : gh_M D p l s m args meth c RJ2 cJ2_grow_2 4 (gh_A h0 s.heap.size)) (hr : meth.sig.returnType = (some (.array (.object "java/lang/Object")))) (hex : ∀ x ∈ c.exceptionTable.toList, False)   {Q : Option Nat → gh_H → Prop} {X : String → gh_H → Prop}   (v0 : Nat) (v1 : Int32) (v2 : Int32) (H : Heap) (locs : List Loc) (ls : Array Slot) (h : gh_H) (G : gh_Inv D h0 (gh_A h0 s.heap.size) s.heap s H locs h) (hl : gh_L ls 4 [(0, 1, va_rf (some v0)), (1, 1, .int v1), (2, 1, .int v2)]) (hw : wb_J2_grow_2_20 D.2.2 Q X v0 v1 v2 h) : W p l e rm_J2_grow_2 s m args below meth c H locs 0 0 (vx_MQ below (gh_Qq Q D h0 s.heap.size) (gh_X X D h0 s.heap.size) args s 1 80 (gh_A h0 s.heap.size)) (F0 m 20 ls []) := by
  unfold wb_J2_grow_2_20 at hw
  have hx := M.1.1
  have hb := M.1.2.1
  refine lv_iload_n hx hb dJ2_grow_2_20 rfl (gh_at hl 2 rfl) ?_
  refine lv_iload_n hx hb dJ2_grow_2_21 rfl (gh_at hl 1 rfl) ?_
  refine lv_iload_n hx hb dJ2_grow_2_22 rfl (gh_at hl 2 rfl) ?_
  refine lv_isub hx hb dJ2_grow_2_23 ?_
  refine lv_iload_n hx hb dJ2_grow_2_24 rfl (gh_at hl 2 rfl) ?_
  refine lv_iconst (v := (1 : Int32)) hx hb dJ2_grow_2_25 (by decide) ?_
  refine lv_ishr hx hb dJ2_grow_2_26 ?_
  refine gh_ki G (vx_runS M.1 (met_J11_newLength l D _ _ _ _ _ _ _ hw M.2.2.2.2.2) (va_cwS 3 (gh_Mts M) (lw_S q378 q379 q56 q380) rfl rfl rfl ⟨by decide, by decide, rfl⟩ ⟨Nat.le_of_ble_eq_true rfl, Nat.le_of_ble_eq_true rfl⟩) (gh_pre M G (As := [.int v2, .int (v1 - v2), .int (v2 >>> ((1 : Int32) &&& 31))])) rfl rfl hl.1.1 rfl (lv_room (Nat.le_of_ble_eq_true rfl)) dJ2_grow_2_27 ⟨(Nat.le_of_ble_eq_true rfl), (Nat.le_of_ble_eq_true rfl)⟩) (gh_out M hex (by exact Nat.le_of_ble_eq_true rfl) (by exact Nat.le_of_ble_eq_true rfl)) (fun r1 h2 H locs hw G => ?_)
  refine gh_istore_n (lv' := [(3, 1, .int r1), (0, 1, va_rf (some v0)), (1, 1, .int v1), (2, 1, .int v2)]) hx hb dJ2_grow_2_30 rfl hl (by decide) rfl (fun ls hl => ?_)
  refine gh_aload_n hx hb dJ2_grow_2_31 rfl (gh_at hl 1 rfl) ?_
  refine gh_aload_n hx hb dJ2_grow_2_32 rfl (gh_at hl 1 rfl) ?_
  refine gh_getR M G hw fl_J2_9 dJ2_grow_2_33 (fun x3 hw => ?_)
  refine lv_iload_n hx hb dJ2_grow_2_36 rfl (gh_at hl 0 rfl) ?_
  refine gh_kq G (vx_runS M.1 (met_J13_copyOf l D _ _ _ _ _ _ hw M.2.2.2.2.2) (va_cwS 2 (gh_Mts M) (lw_S q388 q389 q58 q390) rfl rfl rfl ⟨by decide, by decide, rfl⟩ ⟨Nat.le_of_ble_eq_true rfl, Nat.le_of_ble_eq_true rfl⟩) (gh_pre M G (As := [va_rf x3, .int r1])) rfl rfl hl.1.1 rfl (lv_room (Nat.le_trans (gh_r1 (gh_cat _) gh_r0) (Nat.le_of_ble_eq_true rfl : 1 ≤ 8))) dJ2_grow_2_37 ⟨(Nat.le_of_ble_eq_true rfl), (Nat.le_of_ble_eq_true rfl)⟩) (gh_out M hex (by exact Nat.le_of_ble_eq_true rfl) (by exact Nat.le_of_ble_eq_true rfl)) (fun r4 h5 H locs hw G => ?_)
  refine lv_dup_x1 hx hb dJ2_grow_2_40 (gh_cat _) (gh_cat _) ?_
  refine gh_put M G hw fp_J2_9 (gh_narA _ _) (gh_fitA _ _) dJ2_grow_2_41 (fun h6 H locs hw G => ?_)
  exact gh_aret M G hr (Or.inr ⟨_, rfl⟩) hw (by exact Nat.le_of_ble_eq_true rfl) (by exact Nat.le_of_ble_eq_true rfl) dJ2_grow_2_44
set_option maxHeartbeats 4000000 in
theorem met_J2_grow_2 (l : Launch) (D : gh_D) (v0 : Nat) (v1 : Int32) (Q : Option Nat → gh_H → Prop) (X : String → gh_H → Prop) (h : gh_H) (sz : Nat) (hw : wp_J2_grow_2 D.2.2 v0 v1 Q X h) (hst : l.stackTraces = false) : vx_Met l yJ2_grow_2 (ws_ yJ2_grow_2 cJ2_grow_2 4 (some (.array (.object "java/lang/Object")))) rm_J2_grow_2 (gh_Pc D h sz [.ref v0, .int v1]) (gh_Qq Q D h sz) (gh_X X D h sz) 1 80 (gh_A h sz) := by
  refine vx_ofW (by decide) rfl (fun p e s m args below meth c s₁ B hml hex hP => ?_)
  obtain ⟨rfl, rfl, hK, hT, hE, G⟩ := gh_start hP
  have M : gh_M D p l s m _ meth c RJ2 cJ2_grow_2 4 (gh_A h s.heap.size) := ⟨⟨B.exec, B.bytes, hml, findClass_of_methodNamed B.named, fun w hw => atoms_spec (ws := ws_ yJ2_grow_2 cJ2_grow_2 4 (some (.array (.object "java/lang/Object")))) B.pre w (List.mem_cons_of_mem _ hw)⟩, hK, hT, hE, B.notSynchronized, hst⟩
  have hr := B.returns
  have hx := M.1.1
  have hb := M.1.2.1
  refine gh_enter (vs := [(1, .ref v0), (1, .int v1)]) (gh_w1 rfl (gh_w1 rfl gh_wn)) (Nat.le_of_ble_eq_true rfl) (fun ls hl => ?_)
  replace hl : gh_L ls 4 [(0, 1, va_rf (some v0)), (1, 1, .int v1)] := hl
  unfold wp_J2_grow_2 at hw
  refine gh_aload_n hx hb dJ2_grow_2_0 rfl (gh_at hl 0 rfl) ?_
  refine gh_getR M G hw fl_J2_9 dJ2_grow_2_1 (fun x1 hw => ?_)
  refine gh_len M G hw dJ2_grow_2_4 (fun x2 hw => ?_)
  refine gh_istore_n (lv' := [(2, 1, .int x2), (0, 1, va_rf (some v0)), (1, 1, .int v1)]) hx hb dJ2_grow_2_5 rfl hl (by decide) rfl (fun ls hl => ?_)
  refine lv_iload_n hx hb dJ2_grow_2_6 rfl (gh_at hl 0 rfl) ?_
  refine lv_if_gt (tgt := 20) hx hb dJ2_grow_2_7 (by decide) (fun hc => ?_) (fun hc => ?_)
  · replace hw := hw.1 hc
    exact wk_J2_grow_2_20 M hr hex  v0 v1 x2 _ _ _ _ G (gh_sub hl [1, 2, 0] rfl) hw
  · replace hw := hw.2 hc
    refine gh_aload_n hx hb dJ2_grow_2_10 rfl (gh_at hl 1 rfl) ?_
    refine gh_getR M G hw fl_J2_9 dJ2_grow_2_11 (fun x3 hw => ?_)
    refine gh_gets (v := va_rf (some (D.2.2 0))) M G M.2.2.2.1.1 q105 rfl dJ2_grow_2_14 ?_
    refine lv_acmp_eq (rx := x3) (ry := (some (D.2.2 0))) (tgt := 45) hx hb dJ2_grow_2_17 (by decide) (fun hc => ?_) (fun hc => ?_)
    · replace hw := hw.1 hc
      refine gh_aload_n hx hb dJ2_grow_2_45 rfl (gh_at hl 1 rfl) ?_
      refine lv_bipush (v := (10 : Int32)) hx hb dJ2_grow_2_46 (by decide) ?_
      refine lv_iload_n hx hb dJ2_grow_2_48 rfl (gh_at hl 2 rfl) ?_
      refine va_mmax M.1.1 M.1.2.1 (M.1.2.2.1.trans hl.1.1.symm) M.1.2.2.2.1 (gh_Mts M _ q434) (gh_Mts M _ q382) (gh_Mts M _ q57) (gh_Mts M _ q383) (by exact Nat.le_of_ble_eq_true rfl) (Nat.le_trans (Nat.add_le_add_right (gh_r1 (gh_cat _) gh_r0) _) (by exact Nat.le_of_ble_eq_true rfl)) (Nat.le_of_ble_eq_true rfl) (Nat.le_of_ble_eq_true rfl) dJ2_grow_2_49 ?_
      refine gh_newq (lim := 10) M G hw q435 (Nat.le_of_ble_eq_true rfl) (Nat.le_of_ble_eq_true rfl) (Nat.le_of_ble_eq_true rfl) dJ2_grow_2_52 (fun q4 h5 H hw G => ?_)
      refine lv_dup_x1 hx hb dJ2_grow_2_55 (gh_cat _) (gh_cat _) ?_
      refine gh_put M G hw fp_J2_9 (gh_narA _ _) (gh_fitA _ _) dJ2_grow_2_56 (fun h6 H locs hw G => ?_)
      exact gh_aret M G hr (Or.inr ⟨_, rfl⟩) hw (by exact Nat.le_of_ble_eq_true rfl) (by exact Nat.le_of_ble_eq_true rfl) dJ2_grow_2_59
    · replace hw := hw.2 hc
      exact wk_J2_grow_2_20 M hr hex  v0 v1 x2 _ _ _ _ G (gh_sub hl [1, 2, 0] rfl) hw
/-! java/util/ArrayList.grow ()[Ljava/lang/Object; -/
def rm_J2_grow : Room := { frames := 5, cells := 1, slots := 80, locals := 147 }
def wp_J2_grow (κ : Nat → Nat) (v0 : Nat) (Q : Option Nat → gh_H → Prop) (X : String → gh_H → Prop) (h : gh_H) : Prop := (gh_GI h (some v0) [(8, 2)] (fun x1 => (gh_RC h (some v0) 8 (fun _ => (wp_J2_grow_2 κ v0 (x1 + (1 : Int32)) (fun r3 h4 => (Q r3 h4)) X h)))))
set_option maxHeartbeats 4000000 in
theorem met_J2_grow (l : Launch) (D : gh_D) (v0 : Nat) (Q : Option Nat → gh_H → Prop) (X : String → gh_H → Prop) (h : gh_H) (sz : Nat) (hw : wp_J2_grow D.2.2 v0 Q X h) (hst : l.stackTraces = false) : vx_Met l yJ2_grow (ws_ yJ2_grow cJ2_grow 1 (some (.array (.object "java/lang/Object")))) rm_J2_grow (gh_Pc D h sz [.ref v0]) (gh_Qq Q D h sz) (gh_X X D h sz) 1 80 (gh_A h sz) := by
  refine vx_ofW (by decide) rfl (fun p e s m args below meth c s₁ B hml hex hP => ?_)
  obtain ⟨rfl, rfl, hK, hT, hE, G⟩ := gh_start hP
  have M : gh_M D p l s m _ meth c RJ2 cJ2_grow 1 (gh_A h s.heap.size) := ⟨⟨B.exec, B.bytes, hml, findClass_of_methodNamed B.named, fun w hw => atoms_spec (ws := ws_ yJ2_grow cJ2_grow 1 (some (.array (.object "java/lang/Object")))) B.pre w (List.mem_cons_of_mem _ hw)⟩, hK, hT, hE, B.notSynchronized, hst⟩
  have hr := B.returns
  have hx := M.1.1
  have hb := M.1.2.1
  refine gh_enter (vs := [(1, .ref v0)]) (gh_w1 rfl gh_wn) (Nat.le_of_ble_eq_true rfl) (fun ls hl => ?_)
  replace hl : gh_L ls 1 [(0, 1, va_rf (some v0))] := hl
  unfold wp_J2_grow at hw
  refine gh_aload_n hx hb dJ2_grow_0 rfl (gh_at hl 0 rfl) ?_
  refine gh_aload_n hx hb dJ2_grow_1 rfl (gh_at hl 0 rfl) ?_
  refine gh_getI M G hw fl_J2_48 dJ2_grow_2 (fun x1 hw => ?_)
  refine lv_iconst (v := (1 : Int32)) hx hb dJ2_grow_5 (by decide) ?_
  refine lv_iadd hx hb dJ2_grow_6 ?_
  obtain ⟨a2, lba2, fsa2, hra2, haa2, hw⟩ := hw
  rw [← Option.some.inj hra2] at haa2
  refine gh_kq G (vx_runV M.1 (met_J2_grow_2 l D _ _ _ _ _ _ hw M.2.2.2.2.2) (cwV 1 (gh_Mts M) (lw_V q374 q376 qs3 q44 q377) rfl rfl rfl ⟨rfl, by decide, by decide, rfl⟩ ⟨Nat.le_of_ble_eq_true rfl, Nat.le_of_ble_eq_true rfl⟩) (gh_preV (As := [.int (x1 + (1 : Int32))]) M G (gh_rec M G haa2 rfl)) rfl rfl hl.1.1 rfl (lv_room (Nat.le_of_ble_eq_true rfl)) dJ2_grow_7 ⟨(Nat.le_of_ble_eq_true rfl), (Nat.le_of_ble_eq_true rfl)⟩) (gh_out M hex (by exact Nat.le_of_ble_eq_true rfl) (by exact Nat.le_of_ble_eq_true rfl)) (fun r3 h4 H locs hw G => ?_)
  exact gh_aret M G hr (Or.inr ⟨_, rfl⟩) hw (by exact Nat.le_of_ble_eq_true rfl) (by exact Nat.le_of_ble_eq_true rfl) dJ2_grow_10
/-! java/util/ArrayList.add (Ljava/lang/Object;[Ljava/lang/Object;I)V -/
theorem fp_J2_48 : gh_FP RJ2 48 [(8, 2)] (.int) false := by
  refine ⟨fl_J2_48, fun q hq => ?_⟩
  simp only [List.mem_cons, List.not_mem_nil, or_false] at hq
  subst hq
  exact ⟨_, rfl, rfl, by decide +kernel, fun h => by cases h⟩
def rm_J2_add_2 : Room := { frames := 6, cells := 1, slots := 80, locals := 167 }
def wb_J2_add_2_11 (κ : Nat → Nat)  (Q : gh_H → Prop) (X : String → gh_H → Prop) (v0 : Nat) (v1 : Option Nat) (v2 : Option Nat) (v3 : Int32) (h : gh_H) : Prop := (gh_SR h v2 v3 v1 (fun h1 => (gh_PV h1 (some v0) [(8, 2)] (.int (v3 + (1 : Int32))) (fun h2 => (Q h2)))))
def wp_J2_add_2 (κ : Nat → Nat) (v0 : Nat) (v1 : Option Nat) (v2 : Option Nat) (v3 : Int32) (Q : gh_H → Prop) (X : String → gh_H → Prop) (h : gh_H) : Prop := (gh_LN h v2 (fun x1 => ((v3 = x1 → (gh_RC h (some v0) 8 (fun _ => (wp_J2_grow κ v0 (fun r3 h4 => wb_J2_add_2_11 κ Q X v0 v1 r3 v3 h4) X h)))) ∧ (¬ v3 = x1 → wb_J2_add_2_11 κ Q X v0 v1 v2 v3 h))))
set_option maxHeartbeats 4000000 in
theorem wk_J2_add_2_11 {D : gh_D} {p : Program} {l : Launch} {e : Env} {s : State} {m : MethodId} {args : Array Value} {below : List Frame} {meth : Method} {c : Code} {h0 : gh_H} (M : gh_M D p l s m args meth c RJ2 cJ2_add_2 4 (gh_A h0 s.heap.size)) (hr : meth.sig.returnType = none) (hex : ∀ x ∈ c.exceptionTable.toList, False)   {Q : gh_H → Prop} {X : String → gh_H → Prop}   (v0 : Nat) (v1 : Option Nat) (v2 : Option Nat) (v3 : Int32) (H : Heap) (locs : List Loc) (ls : Array Slot) (h : gh_H) (G : gh_Inv D h0 (gh_A h0 s.heap.size) s.heap s H locs h) (hl : gh_L ls 4 [(0, 1, va_rf (some v0)), (1, 1, va_rf v1), (2, 1, va_rf v2), (3, 1, .int v3)]) (hw : wb_J2_add_2_11 D.2.2 Q X v0 v1 v2 v3 h) : W p l e rm_J2_add_2 s m args below meth c H locs 1 80 (vx_MQ below (gh_Qv Q D h0 s.heap.size) (gh_X X D h0 s.heap.size) args s 1 80 (gh_A h0 s.heap.size)) (F0 m 11 ls []) := by
  unfold wb_J2_add_2_11 at hw
  have hx := M.1.1
  have hb := M.1.2.1
  refine gh_aload_n hx hb dJ2_add_2_11 rfl (gh_at hl 2 rfl) ?_
  refine lv_iload_n hx hb dJ2_add_2_12 rfl (gh_at hl 3 rfl) ?_
  refine gh_aload_n hx hb dJ2_add_2_13 rfl (gh_at hl 1 rfl) ?_
  refine gh_ras M G hw dJ2_add_2_14 (fun h1 H locs hw G => ?_)
  refine gh_aload_n hx hb dJ2_add_2_15 rfl (gh_at hl 0 rfl) ?_
  refine lv_iload_n hx hb dJ2_add_2_16 rfl (gh_at hl 3 rfl) ?_
  refine lv_iconst (v := (1 : Int32)) hx hb dJ2_add_2_17 (by decide) ?_
  refine lv_iadd hx hb dJ2_add_2_18 ?_
  refine gh_put M G hw fp_J2_48 rfl rfl dJ2_add_2_19 (fun h2 H locs hw G => ?_)
  exact gh_vret M G hr hw (by exact Nat.le_of_ble_eq_true rfl) (by exact Nat.le_of_ble_eq_true rfl) dJ2_add_2_22
set_option maxHeartbeats 4000000 in
theorem met_J2_add_2 (l : Launch) (D : gh_D) (v0 : Nat) (v1 : Option Nat) (v2 : Option Nat) (v3 : Int32) (Q : gh_H → Prop) (X : String → gh_H → Prop) (h : gh_H) (sz : Nat) (hw : wp_J2_add_2 D.2.2 v0 v1 v2 v3 Q X h) (hst : l.stackTraces = false) : vx_Met l yJ2_add_2 (ws_ yJ2_add_2 cJ2_add_2 4 none) rm_J2_add_2 (gh_Pc D h sz [.ref v0, va_rf v1, va_rf v2, .int v3]) (gh_Qv Q D h sz) (gh_X X D h sz) 1 80 (gh_A h sz) := by
  refine vx_ofW (by decide) rfl (fun p e s m args below meth c s₁ B hml hex hP => ?_)
  obtain ⟨rfl, rfl, hK, hT, hE, G⟩ := gh_start hP
  have M : gh_M D p l s m _ meth c RJ2 cJ2_add_2 4 (gh_A h s.heap.size) := ⟨⟨B.exec, B.bytes, hml, findClass_of_methodNamed B.named, fun w hw => atoms_spec (ws := ws_ yJ2_add_2 cJ2_add_2 4 none) B.pre w (List.mem_cons_of_mem _ hw)⟩, hK, hT, hE, B.notSynchronized, hst⟩
  have hr := B.returns
  have hx := M.1.1
  have hb := M.1.2.1
  refine gh_enter (vs := [(1, .ref v0), (1, va_rf v1), (1, va_rf v2), (1, .int v3)]) (gh_w1 rfl (gh_w1 (gh_cat _) (gh_w1 (gh_cat _) (gh_w1 rfl gh_wn)))) (Nat.le_of_ble_eq_true rfl) (fun ls hl => ?_)
  replace hl : gh_L ls 4 [(0, 1, va_rf (some v0)), (1, 1, va_rf v1), (2, 1, va_rf v2), (3, 1, .int v3)] := hl
  unfold wp_J2_add_2 at hw
  refine lv_iload_n hx hb dJ2_add_2_0 rfl (gh_at hl 3 rfl) ?_
  refine gh_aload_n hx hb dJ2_add_2_1 rfl (gh_at hl 2 rfl) ?_
  refine gh_len M G hw dJ2_add_2_2 (fun x1 hw => ?_)
  refine lv_icmp_ne (tgt := 11) hx hb dJ2_add_2_3 (by decide) (fun hc => ?_) (fun hc => ?_)
  · replace hw := hw.2 hc
    refine W.widen (k := 1) (n := 80) (by exact Nat.le_of_ble_eq_true rfl) (by exact Nat.le_of_ble_eq_true rfl) ?_
    exact wk_J2_add_2_11 M hr hex  v0 v1 v2 v3 _ _ _ _ G (gh_sub hl [0, 1, 2, 3] rfl) hw
  · replace hw := hw.1 hc
    refine gh_aload_n hx hb dJ2_add_2_6 rfl (gh_at hl 0 rfl) ?_
    obtain ⟨a2, lba2, fsa2, hra2, haa2, hw⟩ := hw
    rw [← Option.some.inj hra2] at haa2
    refine gh_kq G (vx_runV M.1 (met_J2_grow l D _ _ _ _ _ hw M.2.2.2.2.2) (cwV 0 (gh_Mts M) (lw_V q370 q372 qs2 q44 q373) rfl rfl rfl ⟨rfl, by decide, by decide, rfl⟩ ⟨Nat.le_of_ble_eq_true rfl, Nat.le_of_ble_eq_true rfl⟩) (gh_preV (As := []) M G (gh_rec M G haa2 rfl)) rfl rfl hl.1.1 rfl (lv_room (Nat.le_of_ble_eq_true rfl)) dJ2_add_2_7 ⟨(Nat.le_of_ble_eq_true rfl), (Nat.le_of_ble_eq_true rfl)⟩) (gh_out M hex (by exact Nat.le_of_ble_eq_true rfl) (by exact Nat.le_of_ble_eq_true rfl)) (fun r3 h4 H locs hw G => ?_)
    refine gh_astore_n (lv' := [(2, 1, va_rf r3), (0, 1, va_rf (some v0)), (1, 1, va_rf v1), (3, 1, .int v3)]) hx hb dJ2_add_2_10 rfl hl (by decide) rfl (fun ls hl => ?_)
    exact wk_J2_add_2_11 M hr hex  v0 v1 r3 v3 _ _ _ _ G (gh_sub hl [1, 2, 0, 3] rfl) hw
/-! java/util/ArrayList.add (Ljava/lang/Object;)Z -/
theorem fl_J2_63 : gh_FL RJ2 63 [(8, 0)] := by
  intro args s hts tb q hq
  simp only [List.mem_cons, List.not_mem_nil, or_false] at hq
  subst hq
  exact ⟨_, "java/util/ArrayList", rfl, by decide, Or.inl (hts _ q114), (fun x h => u_same (hts _ q113) x h)⟩
theorem fp_J2_63 : gh_FP RJ2 63 [(8, 0)] (.int) false := by
  refine ⟨fl_J2_63, fun q hq => ?_⟩
  simp only [List.mem_cons, List.not_mem_nil, or_false] at hq
  subst hq
  exact ⟨_, rfl, rfl, by decide +kernel, fun h => by cases h⟩
def rm_J2_add : Room := { frames := 7, cells := 1, slots := 80, locals := 190 }
def wp_J2_add (κ : Nat → Nat) (v0 : Nat) (v1 : Option Nat) (Q : Int32 → gh_H → Prop) (X : String → gh_H → Prop) (h : gh_H) : Prop := (gh_GI h (some v0) [(8, 0)] (fun x1 => (gh_PV h (some v0) [(8, 0)] (.int (x1 + (1 : Int32))) (fun h2 => (gh_GR h2 (some v0) [(8, 1)] (fun x3 => (gh_GI h2 (some v0) [(8, 2)] (fun x4 => (gh_RC h2 (some v0) 8 (fun _ => (wp_J2_add_2 κ v0 v1 x3 x4 (fun h6 => (narrow .boolean (.int (1 : Int32)) = .int (1 : Int32) ∧ Q (1 : Int32) h6)) X h2)))))))))))
set_option maxHeartbeats 4000000 in
theorem met_J2_add (l : Launch) (D : gh_D) (v0 : Nat) (v1 : Option Nat) (Q : Int32 → gh_H → Prop) (X : String → gh_H → Prop) (h : gh_H) (sz : Nat) (hw : wp_J2_add D.2.2 v0 v1 Q X h) (hst : l.stackTraces = false) : vx_Met l yJ2_add (ws_ yJ2_add cJ2_add 2 (some .boolean)) rm_J2_add (gh_Pc D h sz [.ref v0, va_rf v1]) (gh_Qi Q D h sz) (gh_X X D h sz) 1 80 (gh_A h sz) := by
  refine vx_ofW (by decide) rfl (fun p e s m args below meth c s₁ B hml hex hP => ?_)
  obtain ⟨rfl, rfl, hK, hT, hE, G⟩ := gh_start hP
  have M : gh_M D p l s m _ meth c RJ2 cJ2_add 2 (gh_A h s.heap.size) := ⟨⟨B.exec, B.bytes, hml, findClass_of_methodNamed B.named, fun w hw => atoms_spec (ws := ws_ yJ2_add cJ2_add 2 (some .boolean)) B.pre w (List.mem_cons_of_mem _ hw)⟩, hK, hT, hE, B.notSynchronized, hst⟩
  have hr := B.returns
  have hx := M.1.1
  have hb := M.1.2.1
  refine gh_enter (vs := [(1, .ref v0), (1, va_rf v1)]) (gh_w1 rfl (gh_w1 (gh_cat _) gh_wn)) (Nat.le_of_ble_eq_true rfl) (fun ls hl => ?_)
  replace hl : gh_L ls 2 [(0, 1, va_rf (some v0)), (1, 1, va_rf v1)] := hl
  unfold wp_J2_add at hw
  refine gh_aload_n hx hb dJ2_add_0 rfl (gh_at hl 0 rfl) ?_
  refine lv_dup hx hb dJ2_add_1 (gh_cat _) ?_
  refine gh_getI M G hw fl_J2_63 dJ2_add_2 (fun x1 hw => ?_)
  refine lv_iconst (v := (1 : Int32)) hx hb dJ2_add_5 (by decide) ?_
  refine lv_iadd hx hb dJ2_add_6 ?_
  refine gh_put M G hw fp_J2_63 rfl rfl dJ2_add_7 (fun h2 H locs hw G => ?_)
  refine gh_aload_n hx hb dJ2_add_10 rfl (gh_at hl 0 rfl) ?_
  refine gh_aload_n hx hb dJ2_add_11 rfl (gh_at hl 1 rfl) ?_
  refine gh_aload_n hx hb dJ2_add_12 rfl (gh_at hl 0 rfl) ?_
  refine gh_getR M G hw fl_J2_9 dJ2_add_13 (fun x3 hw => ?_)
  refine gh_aload_n hx hb dJ2_add_16 rfl (gh_at hl 0 rfl) ?_
  refine gh_getI M G hw fl_J2_48 dJ2_add_17 (fun x4 hw => ?_)
  obtain ⟨a5, lba5, fsa5, hra5, haa5, hw⟩ := hw
  rw [← Option.some.inj hra5] at haa5
  refine gh_kv G (vx_runV M.1 (met_J2_add_2 l D _ _ _ _ _ _ _ _ hw M.2.2.2.2.2) (cwV 3 (gh_Mts M) (lw_V q366 q368 qs1 q44 q369) rfl rfl rfl ⟨rfl, by decide, by decide, rfl⟩ ⟨Nat.le_of_ble_eq_true rfl, Nat.le_of_ble_eq_true rfl⟩) (gh_preV (As := [va_rf v1, va_rf x3, .int x4]) M G (gh_rec M G haa5 rfl)) rfl rfl hl.1.1 rfl (lv_room (Nat.le_of_ble_eq_true rfl)) dJ2_add_20 ⟨(Nat.le_of_ble_eq_true rfl), (Nat.le_of_ble_eq_true rfl)⟩) (gh_out M hex (by exact Nat.le_of_ble_eq_true rfl) (by exact Nat.le_of_ble_eq_true rfl)) (fun h6 H locs hw G => ?_)
  refine lv_iconst (v := (1 : Int32)) hx hb dJ2_add_23 (by decide) ?_
  exact gh_iret M G hr hw.1 hw.2 (by exact Nat.le_of_ble_eq_true rfl) (by exact Nat.le_of_ble_eq_true rfl) dJ2_add_24
/-! BinderyDesk.addContent ()I -/
theorem nd_X4 : ∀ j, j < 3 → defaultValue (tyX4 j) = vp_V [.int 0, .int 0, .int 0] j := by
  intro j hj
  rcases (show j = 0 ∨ j = 1 ∨ j = 2 by omega) with rfl | rfl | rfl <;> rfl
def rm_X1_addContent : Room := { frames := 8, cells := 3, slots := 89, locals := 211 }
def wb_X1_addContent_19 (κ : Nat → Nat)  (Q : Int32 → gh_H → Prop) (X : String → gh_H → Prop) (v0 : Nat) (t0 : Int32) (h : gh_H) : Prop := (wp_X1_requireState κ t0 (fun h1 => (gh_GR h1 (some v0) [(0, 0)] (fun x2 => (gh_NO h1 4 [.int 0, .int 0, .int 0] (fun q3 h4 => (gh_GR h4 (some v0) [(0, 0)] (fun x5 => (gh_RC h4 x5 8 (fun a6 => (wp_J2_size κ a6 (fun r7 h8 => (wp_X4_init κ q3 r7 (fun h9 => (gh_RC h9 x2 8 (fun a10 => (wp_J2_add κ a10 (some q3) (fun r11 h12 => (gh_GR h12 (some v0) [(0, 0)] (fun x13 => (gh_RC h12 x13 8 (fun a14 => (wp_J2_size κ a14 (fun r15 h16 => (Q (r15 - (1 : Int32)) h16)) X h12)))))) X h9)))) X h8)) X h4)))))))))) X h)
def wp_X1_addContent (κ : Nat → Nat) (v0 : Nat) (Q : Int32 → gh_H → Prop) (X : String → gh_H → Prop) (h : gh_H) : Prop := (gh_GR h (some v0) [(0, 0)] (fun x1 => (gh_RC h x1 8 (fun a2 => (wp_J2_size κ a2 (fun r3 h4 => (((12 : Int32) ≤ r3 → wb_X1_addContent_19 κ Q X v0 (0 : Int32) h4) ∧ (¬ (12 : Int32) ≤ r3 → wb_X1_addContent_19 κ Q X v0 (1 : Int32) h4))) X h)))))
set_option maxHeartbeats 4000000 in
theorem wk_X1_addContent_19 {D : gh_D} {p : Program} {l : Launch} {e : Env} {s : State} {m : MethodId} {args : Array Value} {below : List Frame} {meth : Method} {c : Code} {h0 : gh_H} (M : gh_M D p l s m args meth c RX1 cX1_addContent 1 (gh_A h0 s.heap.size)) (hr : meth.sig.returnType = (some .int)) (hex : ∀ x ∈ c.exceptionTable.toList, False)   {Q : Int32 → gh_H → Prop} {X : String → gh_H → Prop}   (v0 : Nat) (t0 : Int32) (H : Heap) (locs : List Loc) (ls : Array Slot) (h : gh_H) (G : gh_Inv D h0 (gh_A h0 s.heap.size) s.heap s H locs h) (hl : gh_L ls 1 [(0, 1, va_rf (some v0))]) (hw : wb_X1_addContent_19 D.2.2 Q X v0 t0 h) : W p l e rm_X1_addContent s m args below meth c H locs 0 0 (vx_MQ below (gh_Qi Q D h0 s.heap.size) (gh_X X D h0 s.heap.size) args s 3 89 (gh_A h0 s.heap.size)) (F0 m 19 ls [.int t0]) := by
  unfold wb_X1_addContent_19 at hw
  have hx := M.1.1
  have hb := M.1.2.1
  refine gh_kv G (vx_runS M.1 (met_X1_requireState l D _ _ _ _ _ hw M.2.2.2.2.2) (va_cwS 1 (gh_Mts M) (lw_S q266 q267 q41 q268) rfl rfl rfl ⟨by decide, by decide, rfl⟩ ⟨Nat.le_of_ble_eq_true rfl, Nat.le_of_ble_eq_true rfl⟩) (gh_pre M G (As := [.int t0])) rfl rfl hl.1.1 rfl (lv_room (Nat.le_of_ble_eq_true rfl)) dX1_addContent_19 ⟨(Nat.le_of_ble_eq_true rfl), (Nat.le_of_ble_eq_true rfl)⟩) (gh_out M hex (by exact Nat.le_of_ble_eq_true rfl) (by exact Nat.le_of_ble_eq_true rfl)) (fun h1 H locs hw G => ?_)
  refine gh_aload_n hx hb dX1_addContent_22 rfl (gh_at hl 0 rfl) ?_
  refine gh_getR M G hw fl_X1_27 dX1_addContent_23 (fun x2 hw => ?_)
  refine gh_new (N := 3) (r := (RX4, TX4, 3)) (ci := 4) (fs := [.int 0, .int 0, .int 0]) M G hw tyX4 tyX4_ok q338 q339 q55 rfl rfl nd_X4 (Nat.le_of_ble_eq_true rfl) (Nat.le_of_ble_eq_true rfl) dX1_addContent_26 (fun q3 h4 H hw G => ?_)
  refine lv_dup hx hb dX1_addContent_29 (gh_cat _) ?_
  refine gh_aload_n hx hb dX1_addContent_30 rfl (gh_at hl 0 rfl) ?_
  refine gh_getR M G hw fl_X1_27 dX1_addContent_31 (fun x5 hw => ?_)
  obtain ⟨a6, lba6, fsa6, rfl, haa6, hw⟩ := hw
  refine gh_kFi G (vx_runF (C := "java/util/ArrayList") (M.2.1.1.1 8 _ rfl).2 M.1 (met_J2_size l D _ _ _ _ _ hw M.2.2.2.2.2) (va_cwF 0 (gh_Mts M) (gh_gF q239 q243 q245 q44 q247) rfl rfl rfl (M.2.2.1.2.1 _ (List.mem_of_getElem? (i := 4) rfl)) ⟨by decide, by decide, rfl⟩ ⟨Nat.le_of_ble_eq_true rfl, Nat.le_of_ble_eq_true rfl⟩) (gh_preV (As := []) M G (gh_rec M G haa6 rfl)) rfl rfl hl.1.1 rfl (lv_room (Nat.le_trans (gh_r1 (gh_cat _) (gh_r1 (gh_cat _) (gh_r1 (gh_cat _) gh_r0))) (Nat.le_of_ble_eq_true rfl : 3 ≤ 8))) dX1_addContent_34 ⟨(Nat.le_of_ble_eq_true rfl), (Nat.le_of_ble_eq_true rfl)⟩) (gh_out M hex (by exact Nat.le_of_ble_eq_true rfl) (by exact Nat.le_of_ble_eq_true rfl)) (fun r7 h8 H locs hw G => ?_)
  refine gh_kv G (vx_runI M.1 (met_X4_init l D _ _ _ _ _ _ hw M.2.2.2.2.2) (cwI 1 (gh_Mts M) (lw_meth q342) rfl rfl rfl (gh_Mts M _ q55) (gh_Mts M _ q340) (gh_Mts M _ q341) rfl ⟨by decide, by decide, rfl⟩ ⟨Nat.le_of_ble_eq_true rfl, Nat.le_of_ble_eq_true rfl⟩) (gh_pre M G (As := .ref q3 :: [.int r7])) rfl rfl hl.1.1 rfl (lv_room (Nat.le_trans (gh_r1 (gh_cat _) (gh_r1 (gh_cat _) gh_r0)) (Nat.le_of_ble_eq_true rfl : 2 ≤ 8))) dX1_addContent_39 ⟨(Nat.le_of_ble_eq_true rfl), (Nat.le_of_ble_eq_true rfl)⟩) (gh_out M hex (by exact Nat.le_of_ble_eq_true rfl) (by exact Nat.le_of_ble_eq_true rfl)) (fun h9 H locs hw G => ?_)
  obtain ⟨a10, lba10, fsa10, rfl, haa10, hw⟩ := hw
  refine gh_kFi G (vx_runF (C := "java/util/ArrayList") (M.2.1.1.1 8 _ rfl).2 M.1 (met_J2_add l D _ _ _ _ _ _ hw M.2.2.2.2.2) (va_cwF 1 (gh_Mts M) (gh_gF q358 q361 q363 q44 q365) rfl rfl rfl (M.2.2.1.2.1 _ (List.mem_of_getElem? (i := 5) rfl)) ⟨by decide, by decide, rfl⟩ ⟨Nat.le_of_ble_eq_true rfl, Nat.le_of_ble_eq_true rfl⟩) (gh_preV (As := [va_rf (some q3)]) M G (gh_rec M G haa10 rfl)) rfl rfl hl.1.1 rfl (lv_room (Nat.le_of_ble_eq_true rfl)) dX1_addContent_42 ⟨(Nat.le_of_ble_eq_true rfl), (Nat.le_of_ble_eq_true rfl)⟩) (gh_out M hex (by exact Nat.le_of_ble_eq_true rfl) (by exact Nat.le_of_ble_eq_true rfl)) (fun r11 h12 H locs hw G => ?_)
  refine lv_pop hx hb dX1_addContent_47 rfl ?_
  refine gh_aload_n hx hb dX1_addContent_48 rfl (gh_at hl 0 rfl) ?_
  refine gh_getR M G hw fl_X1_27 dX1_addContent_49 (fun x13 hw => ?_)
  obtain ⟨a14, lba14, fsa14, rfl, haa14, hw⟩ := hw
  refine gh_kFi G (vx_runF (C := "java/util/ArrayList") (M.2.1.1.1 8 _ rfl).2 M.1 (met_J2_size l D _ _ _ _ _ hw M.2.2.2.2.2) (va_cwF 0 (gh_Mts M) (gh_gF q239 q243 q245 q44 q247) rfl rfl rfl (M.2.2.1.2.1 _ (List.mem_of_getElem? (i := 4) rfl)) ⟨by decide, by decide, rfl⟩ ⟨Nat.le_of_ble_eq_true rfl, Nat.le_of_ble_eq_true rfl⟩) (gh_preV (As := []) M G (gh_rec M G haa14 rfl)) rfl rfl hl.1.1 rfl (lv_room (Nat.le_of_ble_eq_true rfl)) dX1_addContent_52 ⟨(Nat.le_of_ble_eq_true rfl), (Nat.le_of_ble_eq_true rfl)⟩) (gh_out M hex (by exact Nat.le_of_ble_eq_true rfl) (by exact Nat.le_of_ble_eq_true rfl)) (fun r15 h16 H locs hw G => ?_)
  refine lv_iconst (v := (1 : Int32)) hx hb dX1_addContent_57 (by decide) ?_
  refine lv_isub hx hb dX1_addContent_58 ?_
  exact gh_iret M G hr rfl hw (by exact Nat.le_of_ble_eq_true rfl) (by exact Nat.le_of_ble_eq_true rfl) dX1_addContent_59
set_option maxHeartbeats 4000000 in
theorem met_X1_addContent (l : Launch) (D : gh_D) (v0 : Nat) (Q : Int32 → gh_H → Prop) (X : String → gh_H → Prop) (h : gh_H) (sz : Nat) (hw : wp_X1_addContent D.2.2 v0 Q X h) (hst : l.stackTraces = false) : vx_Met l yX1_addContent (ws_ yX1_addContent cX1_addContent 1 (some .int)) rm_X1_addContent (gh_Pc D h sz [.ref v0]) (gh_Qi Q D h sz) (gh_X X D h sz) 3 89 (gh_A h sz) := by
  refine vx_ofW (by decide) rfl (fun p e s m args below meth c s₁ B hml hex hP => ?_)
  obtain ⟨rfl, rfl, hK, hT, hE, G⟩ := gh_start hP
  have M : gh_M D p l s m _ meth c RX1 cX1_addContent 1 (gh_A h s.heap.size) := ⟨⟨B.exec, B.bytes, hml, findClass_of_methodNamed B.named, fun w hw => atoms_spec (ws := ws_ yX1_addContent cX1_addContent 1 (some .int)) B.pre w (List.mem_cons_of_mem _ hw)⟩, hK, hT, hE, B.notSynchronized, hst⟩
  have hr := B.returns
  have hx := M.1.1
  have hb := M.1.2.1
  refine gh_enter (vs := [(1, .ref v0)]) (gh_w1 rfl gh_wn) (Nat.le_of_ble_eq_true rfl) (fun ls hl => ?_)
  replace hl : gh_L ls 1 [(0, 1, va_rf (some v0))] := hl
  unfold wp_X1_addContent at hw
  refine gh_aload_n hx hb dX1_addContent_0 rfl (gh_at hl 0 rfl) ?_
  refine gh_getR M G hw fl_X1_27 dX1_addContent_1 (fun x1 hw => ?_)
  obtain ⟨a2, lba2, fsa2, rfl, haa2, hw⟩ := hw
  refine gh_kFi G (vx_runF (C := "java/util/ArrayList") (M.2.1.1.1 8 _ rfl).2 M.1 (met_J2_size l D _ _ _ _ _ hw M.2.2.2.2.2) (va_cwF 0 (gh_Mts M) (gh_gF q239 q243 q245 q44 q247) rfl rfl rfl (M.2.2.1.2.1 _ (List.mem_of_getElem? (i := 4) rfl)) ⟨by decide, by decide, rfl⟩ ⟨Nat.le_of_ble_eq_true rfl, Nat.le_of_ble_eq_true rfl⟩) (gh_preV (As := []) M G (gh_rec M G haa2 rfl)) rfl rfl hl.1.1 rfl (lv_room (Nat.le_of_ble_eq_true rfl)) dX1_addContent_4 ⟨(Nat.le_of_ble_eq_true rfl), (Nat.le_of_ble_eq_true rfl)⟩) (gh_out M hex (by exact Nat.le_of_ble_eq_true rfl) (by exact Nat.le_of_ble_eq_true rfl)) (fun r3 h4 H locs hw G => ?_)
  refine lv_bipush (v := (12 : Int32)) hx hb dX1_addContent_9 (by decide) ?_
  refine lv_icmp_ge (tgt := 18) hx hb dX1_addContent_11 (by decide) (fun hc => ?_) (fun hc => ?_)
  · replace hw := hw.1 hc
    refine lv_iconst (v := (0 : Int32)) hx hb dX1_addContent_18 (by decide) ?_
    exact wk_X1_addContent_19 M hr hex  v0 (0 : Int32) _ _ _ _ G (gh_sub hl [0] rfl) hw
  · replace hw := hw.2 hc
    refine lv_iconst (v := (1 : Int32)) hx hb dX1_addContent_14 (by decide) ?_
    refine lv_goto (tgt := 19) hx hb dX1_addContent_15 (by decide) ?_
    exact wk_X1_addContent_19 M hr hex  v0 (1 : Int32) _ _ _ _ G (gh_sub hl [0] rfl) hw
/-! BinderyDeskLaw.addContent (LBinderyDesk;[J)I -/
def rm_X0_addContent : Room := { frames := 9, cells := 3, slots := 89, locals := 231 }
def wb_X0_addContent_11 (κ : Nat → Nat)  (Q : Int32 → gh_H → Prop) (X : String → gh_H → Prop) (t0 : Option Nat) (h : gh_H) : Prop := (Q (1 : Int32) h)
def wp_X0_addContent (κ : Nat → Nat) (v0 : Option Nat) (v1 : Option Nat) (Q : Int32 → gh_H → Prop) (X : String → gh_H → Prop) (h : gh_H) : Prop := (gh_RC h v0 0 (fun a1 => (wp_X1_addContent κ a1 (fun r2 h3 => (gh_SJ h3 v1 (0 : Int32) (r2.toInt64) (fun h4 => (Q (0 : Int32) h4)))) (fun E h9 => (E = "java/lang/IllegalStateException" ∧ ∀ q9 : Nat, wb_X0_addContent_11 κ Q X (some q9) h9)) h)))
set_option maxHeartbeats 4000000 in
theorem wk_X0_addContent_11 {D : gh_D} {p : Program} {l : Launch} {e : Env} {s : State} {m : MethodId} {args : Array Value} {below : List Frame} {meth : Method} {c : Code} {h0 : gh_H} (M : gh_M D p l s m args meth c RX0 cX0_addContent 3 (gh_A h0 s.heap.size)) (hr : meth.sig.returnType = (some .int)) (htab : c.exceptionTable.toList = tableOf [(0, 8, 11, 13)])   {Q : Int32 → gh_H → Prop} {X : String → gh_H → Prop}   (t0 : Option Nat) (H : Heap) (locs : List Loc) (ls : Array Slot) (h : gh_H) (G : gh_Inv D h0 (gh_A h0 s.heap.size) s.heap s H locs h) (hl : gh_L ls 3 []) (hw : wb_X0_addContent_11 D.2.2 Q X t0 h) : W p l e rm_X0_addContent s m args below meth c H locs 3 89 (vx_MQ below (gh_Qi Q D h0 s.heap.size) (gh_X X D h0 s.heap.size) args s 3 89 (gh_A h0 s.heap.size)) (F0 m 11 ls [va_rf t0]) := by
  unfold wb_X0_addContent_11 at hw
  have hx := M.1.1
  have hb := M.1.2.1
  refine gh_astore_n (lv' := [(2, 1, va_rf t0)]) hx hb dX0_addContent_11 rfl hl (by decide) rfl (fun ls hl => ?_)
  refine lv_iconst (v := (1 : Int32)) hx hb dX0_addContent_12 (by decide) ?_
  exact gh_iret M G hr rfl hw (by exact Nat.le_of_ble_eq_true rfl) (by exact Nat.le_of_ble_eq_true rfl) dX0_addContent_13
set_option maxHeartbeats 4000000 in
theorem met_X0_addContent (l : Launch) (D : gh_D) (v0 : Option Nat) (v1 : Option Nat) (Q : Int32 → gh_H → Prop) (X : String → gh_H → Prop) (h : gh_H) (sz : Nat) (hw : wp_X0_addContent D.2.2 v0 v1 Q X h) (hst : l.stackTraces = false) : vx_Met l yX0_addContent (wsW_ yX0_addContent cX0_addContent 3 (some .int) [(0, 8, 11, 13)]) rm_X0_addContent (gh_Pc D h sz [va_rf v0, va_rf v1]) (gh_Qi Q D h sz) (gh_X X D h sz) 3 89 (gh_A h sz) := by
  refine vx_ofWH (by decide) rfl (fun p e s m args below meth c s₁ B hml hP => ?_)
  have htab := vx_table (x := yX0_addContent) B (atoms_spec (ws := wsW_ yX0_addContent cX0_addContent 3 (some .int) [(0, 8, 11, 13)]) B.pre _ List.mem_cons_self)
  obtain ⟨rfl, rfl, hK, hT, hE, G⟩ := gh_start hP
  have M : gh_M D p l s m _ meth c RX0 cX0_addContent 3 (gh_A h s.heap.size) := ⟨⟨B.exec, B.bytes, hml, findClass_of_methodNamed B.named, fun w hw => atoms_spec (ws := wsW_ yX0_addContent cX0_addContent 3 (some .int) [(0, 8, 11, 13)]) B.pre w (List.mem_cons_of_mem _ hw)⟩, hK, hT, hE, B.notSynchronized, hst⟩
  have hr := B.returns
  have hx := M.1.1
  have hb := M.1.2.1
  refine gh_enter (vs := [(1, va_rf v0), (1, va_rf v1)]) (gh_w1 (gh_cat _) (gh_w1 (gh_cat _) gh_wn)) (Nat.le_of_ble_eq_true rfl) (fun ls hl => ?_)
  replace hl : gh_L ls 3 [(0, 1, va_rf v0), (1, 1, va_rf v1)] := hl
  unfold wp_X0_addContent at hw
  refine gh_aload_n hx hb dX0_addContent_0 rfl (gh_at hl 1 rfl) ?_
  refine lv_iconst (v := (0 : Int32)) hx hb dX0_addContent_1 (by decide) ?_
  refine gh_aload_n hx hb dX0_addContent_2 rfl (gh_at hl 0 rfl) ?_
  obtain ⟨a1, lba1, fsa1, rfl, haa1, hw⟩ := hw
  refine gh_ki G (vx_runV M.1 (met_X1_addContent l D _ _ _ _ _ hw M.2.2.2.2.2) (cwV 0 (gh_Mts M) (lw_V q262 q263 q264 q41 q265) rfl rfl rfl ⟨rfl, by decide, by decide, rfl⟩ ⟨Nat.le_of_ble_eq_true rfl, Nat.le_of_ble_eq_true rfl⟩) (gh_preV (As := []) M G (gh_rec M G haa1 rfl)) rfl rfl hl.1.1 rfl (lv_room (Nat.le_trans (gh_r1 rfl (gh_r1 (gh_cat _) gh_r0)) (Nat.le_of_ble_eq_true rfl : 2 ≤ 8))) dX0_addContent_3 ⟨(Nat.le_of_ble_eq_true rfl), (Nat.le_of_ble_eq_true rfl)⟩) (fun E ce q9 h9 H locs hX G hce hcv hcl => ?_) (fun r2 h3 H locs hw G => ?_)
  · obtain ⟨rfl, hX⟩ := hX
    · replace hw := hX q9
      refine vx_catch (name := "java/lang/IllegalStateException") M.1.2.2.2.1 (tableOf []) ⟨0, 8, 11, 13⟩ (tableOf []) (htab.trans rfl) (fun _ h => absurd h List.not_mem_nil) (by decide) (by decide) (gh_Mts M _ q261) (va_Nw.use rfl (M.2.2.1.1 _ (List.mem_of_getElem? (i := 4) rfl))) hce hcv hcl ?_
      exact wk_X0_addContent_11 M hr htab  (some q9) _ _ _ _ G (gh_sub hl [] rfl) hw
  · refine lv_i2l (v := (r2.toInt64)) hx hb dX0_addContent_6 rfl ?_
    refine gh_jas M G hw dX0_addContent_7 (fun h4 H locs hw G => ?_)
    refine lv_goto (tgt := 14) hx hb dX0_addContent_8 (by decide) ?_
    refine lv_iconst (v := (0 : Int32)) hx hb dX0_addContent_14 (by decide) ?_
    exact gh_iret M G hr rfl hw (by exact Nat.le_of_ble_eq_true rfl) (by exact Nat.le_of_ble_eq_true rfl) dX0_addContent_15
/-! BinderyDeskModel.fails (I)I -/
theorem fl_X3_53 : gh_FL RX3 53 [(1, 0)] := by
  intro args s hts tb q hq
  simp only [List.mem_cons, List.not_mem_nil, or_false] at hq
  subst hq
  exact ⟨_, "BinderyDeskModel", rfl, by decide, Or.inl (hts _ q1569), (fun x h => h)⟩
theorem fp_X3_53 : gh_FP RX3 53 [(1, 0)] (.int) false := by
  refine ⟨fl_X3_53, fun q hq => ?_⟩
  simp only [List.mem_cons, List.not_mem_nil, or_false] at hq
  subst hq
  exact ⟨_, rfl, rfl, by decide +kernel, fun h => by cases h⟩
def rm_X3_fails : Room := { frames := 1, cells := 0, slots := 0, locals := 40 }
def wp_X3_fails (κ : Nat → Nat) (v0 : Nat) (v1 : Int32) (Q : Int32 → gh_H → Prop) (X : String → gh_H → Prop) (h : gh_H) : Prop := (gh_PV h (some v0) [(1, 0)] (.int v1) (fun h1 => (Q (0 : Int32) h1)))
set_option maxHeartbeats 4000000 in
theorem met_X3_fails (l : Launch) (D : gh_D) (v0 : Nat) (v1 : Int32) (Q : Int32 → gh_H → Prop) (X : String → gh_H → Prop) (h : gh_H) (sz : Nat) (hw : wp_X3_fails D.2.2 v0 v1 Q X h) (hst : l.stackTraces = false) : vx_Met l yX3_fails (ws_ yX3_fails cX3_fails 2 (some .int)) rm_X3_fails (gh_Pc D h sz [.ref v0, .int v1]) (gh_Qi Q D h sz) (gh_X X D h sz) 0 0 (gh_A h sz) := by
  refine vx_ofW (by decide) rfl (fun p e s m args below meth c s₁ B hml hex hP => ?_)
  obtain ⟨rfl, rfl, hK, hT, hE, G⟩ := gh_start hP
  have M : gh_M D p l s m _ meth c RX3 cX3_fails 2 (gh_A h s.heap.size) := ⟨⟨B.exec, B.bytes, hml, findClass_of_methodNamed B.named, fun w hw => atoms_spec (ws := ws_ yX3_fails cX3_fails 2 (some .int)) B.pre w (List.mem_cons_of_mem _ hw)⟩, hK, hT, hE, B.notSynchronized, hst⟩
  have hr := B.returns
  have hx := M.1.1
  have hb := M.1.2.1
  refine gh_enter (vs := [(1, .ref v0), (1, .int v1)]) (gh_w1 rfl (gh_w1 rfl gh_wn)) (Nat.le_of_ble_eq_true rfl) (fun ls hl => ?_)
  replace hl : gh_L ls 2 [(0, 1, va_rf (some v0)), (1, 1, .int v1)] := hl
  unfold wp_X3_fails at hw
  refine gh_aload_n hx hb dX3_fails_0 rfl (gh_at hl 0 rfl) ?_
  refine lv_iload_n hx hb dX3_fails_1 rfl (gh_at hl 1 rfl) ?_
  refine gh_put M G hw fp_X3_53 rfl rfl dX3_fails_2 (fun h1 H locs hw G => ?_)
  refine lv_iconst (v := (0 : Int32)) hx hb dX3_fails_5 (by decide) ?_
  exact gh_iret M G hr rfl hw (by exact Nat.le_of_ble_eq_true rfl) (by exact Nat.le_of_ble_eq_true rfl) dX3_fails_6
/-! BinderyDeskModel.addContent ()I -/
theorem fl_X3_57 : gh_FL RX3 57 [(1, 1)] := by
  intro args s hts tb q hq
  simp only [List.mem_cons, List.not_mem_nil, or_false] at hq
  subst hq
  exact ⟨_, "BinderyDeskModel", rfl, by decide, Or.inl (hts _ q1570), (fun x h => h)⟩
theorem fp_X3_57 : gh_FP RX3 57 [(1, 1)] (.int) false := by
  refine ⟨fl_X3_57, fun q hq => ?_⟩
  simp only [List.mem_cons, List.not_mem_nil, or_false] at hq
  subst hq
  exact ⟨_, rfl, rfl, by decide +kernel, fun h => by cases h⟩
def rm_X3_addContent : Room := { frames := 2, cells := 0, slots := 0, locals := 61 }
def wp_X3_addContent (κ : Nat → Nat) (v0 : Nat) (Q : Int32 → gh_H → Prop) (X : String → gh_H → Prop) (h : gh_H) : Prop := (gh_GI h (some v0) [(1, 1)] (fun x1 => ((x1 = (12 : Int32) → (gh_RC h (some v0) 1 (fun _ => (wp_X3_fails κ v0 (1 : Int32) (fun r7 h8 => (Q r7 h8)) X h)))) ∧ (¬ x1 = (12 : Int32) → (gh_PV h (some v0) [(1, 0)] (.int (0 : Int32)) (fun h2 => (gh_GI h2 (some v0) [(1, 1)] (fun x3 => (gh_PV h2 (some v0) [(1, 1)] (.int (x3 + (1 : Int32))) (fun h4 => (gh_GI h4 (some v0) [(1, 1)] (fun x5 => (Q (x5 - (1 : Int32)) h4)))))))))))))
set_option maxHeartbeats 4000000 in
theorem met_X3_addContent (l : Launch) (D : gh_D) (v0 : Nat) (Q : Int32 → gh_H → Prop) (X : String → gh_H → Prop) (h : gh_H) (sz : Nat) (hw : wp_X3_addContent D.2.2 v0 Q X h) (hst : l.stackTraces = false) : vx_Met l yX3_addContent (ws_ yX3_addContent cX3_addContent 1 (some .int)) rm_X3_addContent (gh_Pc D h sz [.ref v0]) (gh_Qi Q D h sz) (gh_X X D h sz) 0 0 (gh_A h sz) := by
  refine vx_ofW (by decide) rfl (fun p e s m args below meth c s₁ B hml hex hP => ?_)
  obtain ⟨rfl, rfl, hK, hT, hE, G⟩ := gh_start hP
  have M : gh_M D p l s m _ meth c RX3 cX3_addContent 1 (gh_A h s.heap.size) := ⟨⟨B.exec, B.bytes, hml, findClass_of_methodNamed B.named, fun w hw => atoms_spec (ws := ws_ yX3_addContent cX3_addContent 1 (some .int)) B.pre w (List.mem_cons_of_mem _ hw)⟩, hK, hT, hE, B.notSynchronized, hst⟩
  have hr := B.returns
  have hx := M.1.1
  have hb := M.1.2.1
  refine gh_enter (vs := [(1, .ref v0)]) (gh_w1 rfl gh_wn) (Nat.le_of_ble_eq_true rfl) (fun ls hl => ?_)
  replace hl : gh_L ls 1 [(0, 1, va_rf (some v0))] := hl
  unfold wp_X3_addContent at hw
  refine gh_aload_n hx hb dX3_addContent_0 rfl (gh_at hl 0 rfl) ?_
  refine gh_getI M G hw fl_X3_57 dX3_addContent_1 (fun x1 hw => ?_)
  refine lv_bipush (v := (12 : Int32)) hx hb dX3_addContent_4 (by decide) ?_
  refine lv_icmp_ne (tgt := 15) hx hb dX3_addContent_6 (by decide) (fun hc => ?_) (fun hc => ?_)
  · replace hw := hw.2 hc
    refine gh_aload_n hx hb dX3_addContent_15 rfl (gh_at hl 0 rfl) ?_
    refine lv_iconst (v := (0 : Int32)) hx hb dX3_addContent_16 (by decide) ?_
    refine gh_put M G hw fp_X3_53 rfl rfl dX3_addContent_17 (fun h2 H locs hw G => ?_)
    refine gh_aload_n hx hb dX3_addContent_20 rfl (gh_at hl 0 rfl) ?_
    refine lv_dup hx hb dX3_addContent_21 (gh_cat _) ?_
    refine gh_getI M G hw fl_X3_57 dX3_addContent_22 (fun x3 hw => ?_)
    refine lv_iconst (v := (1 : Int32)) hx hb dX3_addContent_25 (by decide) ?_
    refine lv_iadd hx hb dX3_addContent_26 ?_
    refine gh_put M G hw fp_X3_57 rfl rfl dX3_addContent_27 (fun h4 H locs hw G => ?_)
    refine gh_aload_n hx hb dX3_addContent_30 rfl (gh_at hl 0 rfl) ?_
    refine gh_getI M G hw fl_X3_57 dX3_addContent_31 (fun x5 hw => ?_)
    refine lv_iconst (v := (1 : Int32)) hx hb dX3_addContent_34 (by decide) ?_
    refine lv_isub hx hb dX3_addContent_35 ?_
    exact gh_iret M G hr rfl hw (by exact Nat.le_of_ble_eq_true rfl) (by exact Nat.le_of_ble_eq_true rfl) dX3_addContent_36
  · replace hw := hw.1 hc
    refine gh_aload_n hx hb dX3_addContent_9 rfl (gh_at hl 0 rfl) ?_
    refine lv_iconst (v := (1 : Int32)) hx hb dX3_addContent_10 (by decide) ?_
    obtain ⟨a6, lba6, fsa6, hra6, haa6, hw⟩ := hw
    rw [← Option.some.inj hra6] at haa6
    refine gh_ki G (vx_runV M.1 (met_X3_fails l D _ _ _ _ _ _ hw M.2.2.2.2.2) (cwV 1 (gh_Mts M) (lw_V q1657 q1659 qs21 q50 q1660) rfl rfl rfl ⟨rfl, by decide, by decide, rfl⟩ ⟨Nat.le_of_ble_eq_true rfl, Nat.le_of_ble_eq_true rfl⟩) (gh_preV (As := [.int (1 : Int32)]) M G (gh_rec M G haa6 rfl)) rfl rfl hl.1.1 rfl (lv_room (Nat.le_of_ble_eq_true rfl)) dX3_addContent_11 ⟨(Nat.le_of_ble_eq_true rfl), (Nat.le_of_ble_eq_true rfl)⟩) (gh_out M hex (by exact Nat.le_of_ble_eq_true rfl) (by exact Nat.le_of_ble_eq_true rfl)) (fun r7 h8 H locs hw G => ?_)
    exact gh_iret M G hr rfl hw (by exact Nat.le_of_ble_eq_true rfl) (by exact Nat.le_of_ble_eq_true rfl) dX3_addContent_14
/-! BinderyDeskModel.thrown ()I -/
def rm_X3_thrown : Room := { frames := 1, cells := 0, slots := 0, locals := 40 }
def wp_X3_thrown (κ : Nat → Nat) (v0 : Nat) (Q : Int32 → gh_H → Prop) (X : String → gh_H → Prop) (h : gh_H) : Prop := (gh_GI h (some v0) [(1, 0)] (fun x1 => (Q x1 h)))
set_option maxHeartbeats 4000000 in
theorem met_X3_thrown (l : Launch) (D : gh_D) (v0 : Nat) (Q : Int32 → gh_H → Prop) (X : String → gh_H → Prop) (h : gh_H) (sz : Nat) (hw : wp_X3_thrown D.2.2 v0 Q X h) (hst : l.stackTraces = false) : vx_Met l yX3_thrown (ws_ yX3_thrown cX3_thrown 1 (some .int)) rm_X3_thrown (gh_Pc D h sz [.ref v0]) (gh_Qi Q D h sz) (gh_X X D h sz) 0 0 (gh_A h sz) := by
  refine vx_ofW (by decide) rfl (fun p e s m args below meth c s₁ B hml hex hP => ?_)
  obtain ⟨rfl, rfl, hK, hT, hE, G⟩ := gh_start hP
  have M : gh_M D p l s m _ meth c RX3 cX3_thrown 1 (gh_A h s.heap.size) := ⟨⟨B.exec, B.bytes, hml, findClass_of_methodNamed B.named, fun w hw => atoms_spec (ws := ws_ yX3_thrown cX3_thrown 1 (some .int)) B.pre w (List.mem_cons_of_mem _ hw)⟩, hK, hT, hE, B.notSynchronized, hst⟩
  have hr := B.returns
  have hx := M.1.1
  have hb := M.1.2.1
  refine gh_enter (vs := [(1, .ref v0)]) (gh_w1 rfl gh_wn) (Nat.le_of_ble_eq_true rfl) (fun ls hl => ?_)
  replace hl : gh_L ls 1 [(0, 1, va_rf (some v0))] := hl
  unfold wp_X3_thrown at hw
  refine gh_aload_n hx hb dX3_thrown_0 rfl (gh_at hl 0 rfl) ?_
  refine gh_getI M G hw fl_X3_53 dX3_thrown_1 (fun x1 hw => ?_)
  exact gh_iret M G hr rfl hw (by exact Nat.le_of_ble_eq_true rfl) (by exact Nat.le_of_ble_eq_true rfl) dX3_thrown_4
/-! BinderyDesk.requireIndex (II)V -/
theorem at_X1_5 {args : Array Value} {s : State} (hts : ∀ w ∈ lw_all, w.before args s = true) (tb : gh_Tb s) : ∀ w ∈ (vx_at0 RX1 5 "java/lang/IndexOutOfBoundsException" ["java/lang/RuntimeException", "java/lang/Exception"]), w.before args s = true := by
  refine vx_hat (B := [Cond.declares ({ cls := "java/lang/RuntimeException", name := "<init>", desc := "()V" } : MethodName), Cond.declares ({ cls := "java/lang/Exception", name := "<init>", desc := "()V" } : MethodName), Cond.declares ({ cls := "java/lang/Throwable", name := "<init>", desc := "()V" } : MethodName), Cond.castable "java/lang/IndexOutOfBoundsException" "java/lang/IndexOutOfBoundsException"]) (fun w hw => hts w (lw_in _ [51, 291, 300, 309, 312, 314, 292, 293, 91, 92, 294, 299, 310, 327, 281, 328, 283, 329, 285, 295, 297, 287, 493, 494, 495, 319, 319, 320, 321, 322, 322, 323, 324, 292, 492, 484, 486, 305, 487, 488, 489, 490, 290, 289, 491] (by decide +kernel) (by decide +kernel) w hw)) (by decide +kernel) ?_
  exact vx_c (va_Nw.use rfl (tb.1 _ (List.mem_of_getElem? (i := 116) rfl))) (vx_c (va_Nw.use rfl (tb.1 _ (List.mem_of_getElem? (i := 114) rfl))) (vx_c (va_Nw.use rfl (tb.1 _ (List.mem_of_getElem? (i := 111) rfl))) (vx_c (va_Nw.use rfl (tb.1 _ (List.mem_of_getElem? (i := 8) rfl))) (vx_n))))
theorem at_X1_5_g : ∀ w ∈ Cond.classLink RX1 3 "java/lang/IndexOutOfBoundsException" :: Cond.initialized "java/lang/IndexOutOfBoundsException" :: (vx_at0 RX1 5 "java/lang/IndexOutOfBoundsException" ["java/lang/RuntimeException", "java/lang/Exception"]), vx_ot w = true := by decide +kernel
def rm_X1_requireIndex : Room := { frames := 6, cells := 1, slots := 6, locals := 100 }
def wb_X1_requireIndex_9 (κ : Nat → Nat)  (Q : gh_H → Prop) (X : String → gh_H → Prop)  (h : gh_H) : Prop := (X "java/lang/IndexOutOfBoundsException" h)
def wp_X1_requireIndex (κ : Nat → Nat) (v0 : Int32) (v1 : Int32) (Q : gh_H → Prop) (X : String → gh_H → Prop) (h : gh_H) : Prop := ((v0 < 0 → wb_X1_requireIndex_9 κ Q X h) ∧ (¬ v0 < 0 → ((v0 < v1 → (Q h)) ∧ (¬ v0 < v1 → wb_X1_requireIndex_9 κ Q X h))))
set_option maxHeartbeats 4000000 in
theorem wk_X1_requireIndex_9 {D : gh_D} {p : Program} {l : Launch} {e : Env} {s : State} {m : MethodId} {args : Array Value} {below : List Frame} {meth : Method} {c : Code} {h0 : gh_H} (M : gh_M D p l s m args meth c RX1 cX1_requireIndex 2 (gh_A h0 s.heap.size)) (hr : meth.sig.returnType = none) (hex : ∀ x ∈ c.exceptionTable.toList, False)   {Q : gh_H → Prop} {X : String → gh_H → Prop}    (H : Heap) (locs : List Loc) (ls : Array Slot) (h : gh_H) (G : gh_Inv D h0 (gh_A h0 s.heap.size) s.heap s H locs h) (hl : gh_L ls 2 []) (hw : wb_X1_requireIndex_9 D.2.2 Q X h) : W p l e rm_X1_requireIndex s m args below meth c H locs 0 0 (vx_MQ below (gh_Qv Q D h0 s.heap.size) (gh_X X D h0 s.heap.size) args s 1 6 (gh_A h0 s.heap.size)) (F0 m 9 ls []) := by
  unfold wb_X1_requireIndex_9 at hw
  have hx := M.1.1
  have hb := M.1.2.1
  exact gh_throw (names := ["java/lang/RuntimeException", "java/lang/Exception"]) M G hex hw (by decide +kernel) (by decide +kernel) q483 q60 (at_X1_5 (gh_Mts M) M.2.2.1) at_X1_5_g hl.1.1 dX1_requireIndex_9 dX1_requireIndex_12 dX1_requireIndex_13 dX1_requireIndex_16 (Nat.le_of_ble_eq_true rfl) (Nat.le_trans (Nat.add_le_add_right gh_r0 _) (Nat.le_of_ble_eq_true rfl)) (Nat.le_of_ble_eq_true rfl) (Nat.le_of_ble_eq_true rfl) (Nat.le_of_ble_eq_true rfl) (Nat.le_of_ble_eq_true rfl)
set_option maxHeartbeats 4000000 in
theorem met_X1_requireIndex (l : Launch) (D : gh_D) (v0 : Int32) (v1 : Int32) (Q : gh_H → Prop) (X : String → gh_H → Prop) (h : gh_H) (sz : Nat) (hw : wp_X1_requireIndex D.2.2 v0 v1 Q X h) (hst : l.stackTraces = false) : vx_Met l yX1_requireIndex (ws_ yX1_requireIndex cX1_requireIndex 2 none) rm_X1_requireIndex (gh_Pc D h sz [.int v0, .int v1]) (gh_Qv Q D h sz) (gh_X X D h sz) 1 6 (gh_A h sz) := by
  refine vx_ofW (by decide) rfl (fun p e s m args below meth c s₁ B hml hex hP => ?_)
  obtain ⟨rfl, rfl, hK, hT, hE, G⟩ := gh_start hP
  have M : gh_M D p l s m _ meth c RX1 cX1_requireIndex 2 (gh_A h s.heap.size) := ⟨⟨B.exec, B.bytes, hml, findClass_of_methodNamed B.named, fun w hw => atoms_spec (ws := ws_ yX1_requireIndex cX1_requireIndex 2 none) B.pre w (List.mem_cons_of_mem _ hw)⟩, hK, hT, hE, B.notSynchronized, hst⟩
  have hr := B.returns
  have hx := M.1.1
  have hb := M.1.2.1
  refine gh_enter (vs := [(1, .int v0), (1, .int v1)]) (gh_w1 rfl (gh_w1 rfl gh_wn)) (Nat.le_of_ble_eq_true rfl) (fun ls hl => ?_)
  replace hl : gh_L ls 2 [(0, 1, .int v0), (1, 1, .int v1)] := hl
  unfold wp_X1_requireIndex at hw
  refine lv_iload_n hx hb dX1_requireIndex_0 rfl (gh_at hl 0 rfl) ?_
  refine lv_if_lt (tgt := 9) hx hb dX1_requireIndex_1 (by decide) (fun hc => ?_) (fun hc => ?_)
  · replace hw := hw.1 hc
    exact wk_X1_requireIndex_9 M hr hex   _ _ _ _ G (gh_sub hl [] rfl) hw
  · replace hw := hw.2 hc
    refine lv_iload_n hx hb dX1_requireIndex_4 rfl (gh_at hl 0 rfl) ?_
    refine lv_iload_n hx hb dX1_requireIndex_5 rfl (gh_at hl 1 rfl) ?_
    refine lv_icmp_lt (tgt := 17) hx hb dX1_requireIndex_6 (by decide) (fun hc => ?_) (fun hc => ?_)
    · replace hw := hw.1 hc
      exact gh_vret M G hr hw (by exact Nat.le_of_ble_eq_true rfl) (by exact Nat.le_of_ble_eq_true rfl) dX1_requireIndex_17
    · replace hw := hw.2 hc
      exact wk_X1_requireIndex_9 M hr hex   _ _ _ _ G (gh_sub hl [] rfl) hw
/-! jdk/internal/util/Preconditions.checkIndex (IILjava/util/function/BiFunction;)I -/
def rm_J18_checkIndex : Room := { frames := 1, cells := 0, slots := 0, locals := 40 }
def wb_J18_checkIndex_9 (κ : Nat → Nat)  (Q : Int32 → gh_H → Prop) (X : String → gh_H → Prop) (v0 : Int32) (v1 : Int32) (v2 : Option Nat) (h : gh_H) : Prop := False
def wp_J18_checkIndex (κ : Nat → Nat) (v0 : Int32) (v1 : Int32) (v2 : Option Nat) (Q : Int32 → gh_H → Prop) (X : String → gh_H → Prop) (h : gh_H) : Prop := ((v0 < 0 → wb_J18_checkIndex_9 κ Q X v0 v1 v2 h) ∧ (¬ v0 < 0 → ((v0 < v1 → (Q v0 h)) ∧ (¬ v0 < v1 → wb_J18_checkIndex_9 κ Q X v0 v1 v2 h))))
set_option maxHeartbeats 4000000 in
theorem wk_J18_checkIndex_9 {D : gh_D} {p : Program} {l : Launch} {e : Env} {s : State} {m : MethodId} {args : Array Value} {below : List Frame} {meth : Method} {c : Code} {h0 : gh_H} (M : gh_M D p l s m args meth c RJ18 cJ18_checkIndex 3 (gh_A h0 s.heap.size)) (hr : meth.sig.returnType = (some .int)) (hex : ∀ x ∈ c.exceptionTable.toList, False)   {Q : Int32 → gh_H → Prop} {X : String → gh_H → Prop}   (v0 : Int32) (v1 : Int32) (v2 : Option Nat) (H : Heap) (locs : List Loc) (ls : Array Slot) (h : gh_H) (G : gh_Inv D h0 (gh_A h0 s.heap.size) s.heap s H locs h) (hl : gh_L ls 3 [(0, 1, .int v0), (1, 1, .int v1), (2, 1, va_rf v2)]) (hw : wb_J18_checkIndex_9 D.2.2 Q X v0 v1 v2 h) : W p l e rm_J18_checkIndex s m args below meth c H locs 0 0 (vx_MQ below (gh_Qi Q D h0 s.heap.size) (gh_X X D h0 s.heap.size) args s 0 0 (gh_A h0 s.heap.size)) (F0 m 9 ls []) := by
  unfold wb_J18_checkIndex_9 at hw
  have hx := M.1.1
  have hb := M.1.2.1
  refine gh_aload_n hx hb dJ18_checkIndex_9 rfl (gh_at hl 2 rfl) ?_
  refine lv_iload_n hx hb dJ18_checkIndex_10 rfl (gh_at hl 0 rfl) ?_
  refine lv_iload_n hx hb dJ18_checkIndex_11 rfl (gh_at hl 1 rfl) ?_
  exact hw.elim
set_option maxHeartbeats 4000000 in
theorem met_J18_checkIndex (l : Launch) (D : gh_D) (v0 : Int32) (v1 : Int32) (v2 : Option Nat) (Q : Int32 → gh_H → Prop) (X : String → gh_H → Prop) (h : gh_H) (sz : Nat) (hw : wp_J18_checkIndex D.2.2 v0 v1 v2 Q X h) (hst : l.stackTraces = false) : vx_Met l yJ18_checkIndex (ws_ yJ18_checkIndex cJ18_checkIndex 3 (some .int)) rm_J18_checkIndex (gh_Pc D h sz [.int v0, .int v1, va_rf v2]) (gh_Qi Q D h sz) (gh_X X D h sz) 0 0 (gh_A h sz) := by
  refine vx_ofW (by decide) rfl (fun p e s m args below meth c s₁ B hml hex hP => ?_)
  obtain ⟨rfl, rfl, hK, hT, hE, G⟩ := gh_start hP
  have M : gh_M D p l s m _ meth c RJ18 cJ18_checkIndex 3 (gh_A h s.heap.size) := ⟨⟨B.exec, B.bytes, hml, findClass_of_methodNamed B.named, fun w hw => atoms_spec (ws := ws_ yJ18_checkIndex cJ18_checkIndex 3 (some .int)) B.pre w (List.mem_cons_of_mem _ hw)⟩, hK, hT, hE, B.notSynchronized, hst⟩
  have hr := B.returns
  have hx := M.1.1
  have hb := M.1.2.1
  refine gh_enter (vs := [(1, .int v0), (1, .int v1), (1, va_rf v2)]) (gh_w1 rfl (gh_w1 rfl (gh_w1 (gh_cat _) gh_wn))) (Nat.le_of_ble_eq_true rfl) (fun ls hl => ?_)
  replace hl : gh_L ls 3 [(0, 1, .int v0), (1, 1, .int v1), (2, 1, va_rf v2)] := hl
  unfold wp_J18_checkIndex at hw
  refine lv_iload_n hx hb dJ18_checkIndex_0 rfl (gh_at hl 0 rfl) ?_
  refine lv_if_lt (tgt := 9) hx hb dJ18_checkIndex_1 (by decide) (fun hc => ?_) (fun hc => ?_)
  · replace hw := hw.1 hc
    exact wk_J18_checkIndex_9 M hr hex  v0 v1 v2 _ _ _ _ G (gh_sub hl [0, 1, 2] rfl) hw
  · replace hw := hw.2 hc
    refine lv_iload_n hx hb dJ18_checkIndex_4 rfl (gh_at hl 0 rfl) ?_
    refine lv_iload_n hx hb dJ18_checkIndex_5 rfl (gh_at hl 1 rfl) ?_
    refine lv_icmp_lt (tgt := 16) hx hb dJ18_checkIndex_6 (by decide) (fun hc => ?_) (fun hc => ?_)
    · replace hw := hw.1 hc
      refine lv_iload_n hx hb dJ18_checkIndex_16 rfl (gh_at hl 0 rfl) ?_
      exact gh_iret M G hr rfl hw (by exact Nat.le_of_ble_eq_true rfl) (by exact Nat.le_of_ble_eq_true rfl) dJ18_checkIndex_17
    · replace hw := hw.2 hc
      exact wk_J18_checkIndex_9 M hr hex  v0 v1 v2 _ _ _ _ G (gh_sub hl [0, 1, 2] rfl) hw
/-! java/util/Objects.checkIndex (II)I -/
def rm_J17_checkIndex : Room := { frames := 2, cells := 0, slots := 0, locals := 62 }
def wp_J17_checkIndex (κ : Nat → Nat) (v0 : Int32) (v1 : Int32) (Q : Int32 → gh_H → Prop) (X : String → gh_H → Prop) (h : gh_H) : Prop := (wp_J18_checkIndex κ v0 v1 none (fun r1 h2 => (Q r1 h2)) X h)
set_option maxHeartbeats 4000000 in
theorem met_J17_checkIndex (l : Launch) (D : gh_D) (v0 : Int32) (v1 : Int32) (Q : Int32 → gh_H → Prop) (X : String → gh_H → Prop) (h : gh_H) (sz : Nat) (hw : wp_J17_checkIndex D.2.2 v0 v1 Q X h) (hst : l.stackTraces = false) : vx_Met l yJ17_checkIndex (ws_ yJ17_checkIndex cJ17_checkIndex 2 (some .int)) rm_J17_checkIndex (gh_Pc D h sz [.int v0, .int v1]) (gh_Qi Q D h sz) (gh_X X D h sz) 0 0 (gh_A h sz) := by
  refine vx_ofW (by decide) rfl (fun p e s m args below meth c s₁ B hml hex hP => ?_)
  obtain ⟨rfl, rfl, hK, hT, hE, G⟩ := gh_start hP
  have M : gh_M D p l s m _ meth c RJ17 cJ17_checkIndex 2 (gh_A h s.heap.size) := ⟨⟨B.exec, B.bytes, hml, findClass_of_methodNamed B.named, fun w hw => atoms_spec (ws := ws_ yJ17_checkIndex cJ17_checkIndex 2 (some .int)) B.pre w (List.mem_cons_of_mem _ hw)⟩, hK, hT, hE, B.notSynchronized, hst⟩
  have hr := B.returns
  have hx := M.1.1
  have hb := M.1.2.1
  refine gh_enter (vs := [(1, .int v0), (1, .int v1)]) (gh_w1 rfl (gh_w1 rfl gh_wn)) (Nat.le_of_ble_eq_true rfl) (fun ls hl => ?_)
  replace hl : gh_L ls 2 [(0, 1, .int v0), (1, 1, .int v1)] := hl
  unfold wp_J17_checkIndex at hw
  refine lv_iload_n hx hb dJ17_checkIndex_0 rfl (gh_at hl 0 rfl) ?_
  refine lv_iload_n hx hb dJ17_checkIndex_1 rfl (gh_at hl 1 rfl) ?_
  refine gh_null hx hb dJ17_checkIndex_2 ?_
  refine gh_ki G (vx_runS M.1 (met_J18_checkIndex l D _ _ _ _ _ _ _ hw M.2.2.2.2.2) (va_cwS 3 (gh_Mts M) (lw_S q510 q511 q64 q512) rfl rfl rfl ⟨by decide, by decide, rfl⟩ ⟨Nat.le_of_ble_eq_true rfl, Nat.le_of_ble_eq_true rfl⟩) (gh_pre M G (As := [.int v0, .int v1, va_rf none])) rfl rfl hl.1.1 rfl (lv_room (Nat.le_of_ble_eq_true rfl)) dJ17_checkIndex_3 ⟨(Nat.le_of_ble_eq_true rfl), (Nat.le_of_ble_eq_true rfl)⟩) (gh_out M hex (by exact Nat.le_of_ble_eq_true rfl) (by exact Nat.le_of_ble_eq_true rfl)) (fun r1 h2 H locs hw G => ?_)
  exact gh_iret M G hr rfl hw (by exact Nat.le_of_ble_eq_true rfl) (by exact Nat.le_of_ble_eq_true rfl) dJ17_checkIndex_6
/-! java/util/ArrayList.elementData (I)Ljava/lang/Object; -/
def rm_J2_elementData : Room := { frames := 1, cells := 0, slots := 0, locals := 40 }
def wp_J2_elementData (κ : Nat → Nat) (v0 : Nat) (v1 : Int32) (Q : Option Nat → gh_H → Prop) (X : String → gh_H → Prop) (h : gh_H) : Prop := (gh_GR h (some v0) [(8, 1)] (fun x1 => (gh_LR h x1 v1 (fun x2 => (Q x2 h)))))
set_option maxHeartbeats 4000000 in
theorem met_J2_elementData (l : Launch) (D : gh_D) (v0 : Nat) (v1 : Int32) (Q : Option Nat → gh_H → Prop) (X : String → gh_H → Prop) (h : gh_H) (sz : Nat) (hw : wp_J2_elementData D.2.2 v0 v1 Q X h) (hst : l.stackTraces = false) : vx_Met l yJ2_elementData (ws_ yJ2_elementData cJ2_elementData 2 (some (.object "java/lang/Object"))) rm_J2_elementData (gh_Pc D h sz [.ref v0, .int v1]) (gh_Qq Q D h sz) (gh_X X D h sz) 0 0 (gh_A h sz) := by
  refine vx_ofW (by decide) rfl (fun p e s m args below meth c s₁ B hml hex hP => ?_)
  obtain ⟨rfl, rfl, hK, hT, hE, G⟩ := gh_start hP
  have M : gh_M D p l s m _ meth c RJ2 cJ2_elementData 2 (gh_A h s.heap.size) := ⟨⟨B.exec, B.bytes, hml, findClass_of_methodNamed B.named, fun w hw => atoms_spec (ws := ws_ yJ2_elementData cJ2_elementData 2 (some (.object "java/lang/Object"))) B.pre w (List.mem_cons_of_mem _ hw)⟩, hK, hT, hE, B.notSynchronized, hst⟩
  have hr := B.returns
  have hx := M.1.1
  have hb := M.1.2.1
  refine gh_enter (vs := [(1, .ref v0), (1, .int v1)]) (gh_w1 rfl (gh_w1 rfl gh_wn)) (Nat.le_of_ble_eq_true rfl) (fun ls hl => ?_)
  replace hl : gh_L ls 2 [(0, 1, va_rf (some v0)), (1, 1, .int v1)] := hl
  unfold wp_J2_elementData at hw
  refine gh_aload_n hx hb dJ2_elementData_0 rfl (gh_at hl 0 rfl) ?_
  refine gh_getR M G hw fl_J2_9 dJ2_elementData_1 (fun x1 hw => ?_)
  refine lv_iload_n hx hb dJ2_elementData_4 rfl (gh_at hl 1 rfl) ?_
  refine gh_ral M G hw dJ2_elementData_5 (fun x2 hw => ?_)
  exact gh_aret M G hr (Or.inl ⟨_, rfl⟩) hw (by exact Nat.le_of_ble_eq_true rfl) (by exact Nat.le_of_ble_eq_true rfl) dJ2_elementData_6
/-! java/util/ArrayList.get (I)Ljava/lang/Object; -/
def rm_J2_get : Room := { frames := 3, cells := 0, slots := 0, locals := 83 }
def wp_J2_get (κ : Nat → Nat) (v0 : Nat) (v1 : Int32) (Q : Option Nat → gh_H → Prop) (X : String → gh_H → Prop) (h : gh_H) : Prop := (gh_GI h (some v0) [(8, 2)] (fun x1 => (wp_J17_checkIndex κ v1 x1 (fun r2 h3 => (gh_RC h3 (some v0) 8 (fun _ => (wp_J2_elementData κ v0 v1 (fun r5 h6 => (Q r5 h6)) X h3)))) X h)))
set_option maxHeartbeats 4000000 in
theorem met_J2_get (l : Launch) (D : gh_D) (v0 : Nat) (v1 : Int32) (Q : Option Nat → gh_H → Prop) (X : String → gh_H → Prop) (h : gh_H) (sz : Nat) (hw : wp_J2_get D.2.2 v0 v1 Q X h) (hst : l.stackTraces = false) : vx_Met l yJ2_get (ws_ yJ2_get cJ2_get 2 (some (.object "java/lang/Object"))) rm_J2_get (gh_Pc D h sz [.ref v0, .int v1]) (gh_Qq Q D h sz) (gh_X X D h sz) 0 0 (gh_A h sz) := by
  refine vx_ofW (by decide) rfl (fun p e s m args below meth c s₁ B hml hex hP => ?_)
  obtain ⟨rfl, rfl, hK, hT, hE, G⟩ := gh_start hP
  have M : gh_M D p l s m _ meth c RJ2 cJ2_get 2 (gh_A h s.heap.size) := ⟨⟨B.exec, B.bytes, hml, findClass_of_methodNamed B.named, fun w hw => atoms_spec (ws := ws_ yJ2_get cJ2_get 2 (some (.object "java/lang/Object"))) B.pre w (List.mem_cons_of_mem _ hw)⟩, hK, hT, hE, B.notSynchronized, hst⟩
  have hr := B.returns
  have hx := M.1.1
  have hb := M.1.2.1
  refine gh_enter (vs := [(1, .ref v0), (1, .int v1)]) (gh_w1 rfl (gh_w1 rfl gh_wn)) (Nat.le_of_ble_eq_true rfl) (fun ls hl => ?_)
  replace hl : gh_L ls 2 [(0, 1, va_rf (some v0)), (1, 1, .int v1)] := hl
  unfold wp_J2_get at hw
  refine lv_iload_n hx hb dJ2_get_0 rfl (gh_at hl 1 rfl) ?_
  refine gh_aload_n hx hb dJ2_get_1 rfl (gh_at hl 0 rfl) ?_
  refine gh_getI M G hw fl_J2_48 dJ2_get_2 (fun x1 hw => ?_)
  refine gh_ki G (vx_runS M.1 (met_J17_checkIndex l D _ _ _ _ _ _ hw M.2.2.2.2.2) (va_cwS 2 (gh_Mts M) (lw_S q507 q508 q63 q509) rfl rfl rfl ⟨by decide, by decide, rfl⟩ ⟨Nat.le_of_ble_eq_true rfl, Nat.le_of_ble_eq_true rfl⟩) (gh_pre M G (As := [.int v1, .int x1])) rfl rfl hl.1.1 rfl (lv_room (Nat.le_of_ble_eq_true rfl)) dJ2_get_5 ⟨(Nat.le_of_ble_eq_true rfl), (Nat.le_of_ble_eq_true rfl)⟩) (gh_out M hex (by exact Nat.le_of_ble_eq_true rfl) (by exact Nat.le_of_ble_eq_true rfl)) (fun r2 h3 H locs hw G => ?_)
  refine lv_pop hx hb dJ2_get_8 rfl ?_
  refine gh_aload_n hx hb dJ2_get_9 rfl (gh_at hl 0 rfl) ?_
  refine lv_iload_n hx hb dJ2_get_10 rfl (gh_at hl 1 rfl) ?_
  obtain ⟨a4, lba4, fsa4, hra4, haa4, hw⟩ := hw
  rw [← Option.some.inj hra4] at haa4
  refine gh_kq G (vx_runV M.1 (met_J2_elementData l D _ _ _ _ _ _ hw M.2.2.2.2.2) (cwV 1 (gh_Mts M) (lw_V q513 q514 q515 q44 q516) rfl rfl rfl ⟨rfl, by decide, by decide, rfl⟩ ⟨Nat.le_of_ble_eq_true rfl, Nat.le_of_ble_eq_true rfl⟩) (gh_preV (As := [.int v1]) M G (gh_rec M G haa4 rfl)) rfl rfl hl.1.1 rfl (lv_room (Nat.le_of_ble_eq_true rfl)) dJ2_get_11 ⟨(Nat.le_of_ble_eq_true rfl), (Nat.le_of_ble_eq_true rfl)⟩) (gh_out M hex (by exact Nat.le_of_ble_eq_true rfl) (by exact Nat.le_of_ble_eq_true rfl)) (fun r5 h6 H locs hw G => ?_)
  exact gh_aret M G hr (Or.inl ⟨_, rfl⟩) hw (by exact Nat.le_of_ble_eq_true rfl) (by exact Nat.le_of_ble_eq_true rfl) dJ2_get_14
/-! BinderyDesk.contentNumbered (I)LBinderyDesk$Content; -/
def rm_X1_contentNumbered : Room := { frames := 7, cells := 1, slots := 6, locals := 121 }
def wp_X1_contentNumbered (κ : Nat → Nat) (v0 : Nat) (v1 : Int32) (Q : Option Nat → gh_H → Prop) (X : String → gh_H → Prop) (h : gh_H) : Prop := (gh_GR h (some v0) [(0, 0)] (fun x1 => (gh_RC h x1 8 (fun a2 => (wp_J2_size κ a2 (fun r3 h4 => (wp_X1_requireIndex κ v1 r3 (fun h5 => (gh_GR h5 (some v0) [(0, 0)] (fun x6 => (gh_RC h5 x6 8 (fun a7 => (wp_J2_get κ a7 v1 (fun r8 h9 => (gh_CK h9 r8 [4] (Q r8 h9))) X h5)))))) X h4)) X h)))))
set_option maxHeartbeats 4000000 in
theorem met_X1_contentNumbered (l : Launch) (D : gh_D) (v0 : Nat) (v1 : Int32) (Q : Option Nat → gh_H → Prop) (X : String → gh_H → Prop) (h : gh_H) (sz : Nat) (hw : wp_X1_contentNumbered D.2.2 v0 v1 Q X h) (hst : l.stackTraces = false) : vx_Met l yX1_contentNumbered (ws_ yX1_contentNumbered cX1_contentNumbered 2 (some (.object "BinderyDesk$Content"))) rm_X1_contentNumbered (gh_Pc D h sz [.ref v0, .int v1]) (gh_Qq Q D h sz) (gh_X X D h sz) 1 6 (gh_A h sz) := by
  refine vx_ofW (by decide) rfl (fun p e s m args below meth c s₁ B hml hex hP => ?_)
  obtain ⟨rfl, rfl, hK, hT, hE, G⟩ := gh_start hP
  have M : gh_M D p l s m _ meth c RX1 cX1_contentNumbered 2 (gh_A h s.heap.size) := ⟨⟨B.exec, B.bytes, hml, findClass_of_methodNamed B.named, fun w hw => atoms_spec (ws := ws_ yX1_contentNumbered cX1_contentNumbered 2 (some (.object "BinderyDesk$Content"))) B.pre w (List.mem_cons_of_mem _ hw)⟩, hK, hT, hE, B.notSynchronized, hst⟩
  have hr := B.returns
  have hx := M.1.1
  have hb := M.1.2.1
  refine gh_enter (vs := [(1, .ref v0), (1, .int v1)]) (gh_w1 rfl (gh_w1 rfl gh_wn)) (Nat.le_of_ble_eq_true rfl) (fun ls hl => ?_)
  replace hl : gh_L ls 2 [(0, 1, va_rf (some v0)), (1, 1, .int v1)] := hl
  unfold wp_X1_contentNumbered at hw
  refine lv_iload_n hx hb dX1_contentNumbered_0 rfl (gh_at hl 1 rfl) ?_
  refine gh_aload_n hx hb dX1_contentNumbered_1 rfl (gh_at hl 0 rfl) ?_
  refine gh_getR M G hw fl_X1_27 dX1_contentNumbered_2 (fun x1 hw => ?_)
  obtain ⟨a2, lba2, fsa2, rfl, haa2, hw⟩ := hw
  refine gh_kFi G (vx_runF (C := "java/util/ArrayList") (M.2.1.1.1 8 _ rfl).2 M.1 (met_J2_size l D _ _ _ _ _ hw M.2.2.2.2.2) (va_cwF 0 (gh_Mts M) (gh_gF q239 q243 q245 q44 q247) rfl rfl rfl (M.2.2.1.2.1 _ (List.mem_of_getElem? (i := 4) rfl)) ⟨by decide, by decide, rfl⟩ ⟨Nat.le_of_ble_eq_true rfl, Nat.le_of_ble_eq_true rfl⟩) (gh_preV (As := []) M G (gh_rec M G haa2 rfl)) rfl rfl hl.1.1 rfl (lv_room (Nat.le_of_ble_eq_true rfl)) dX1_contentNumbered_5 ⟨(Nat.le_of_ble_eq_true rfl), (Nat.le_of_ble_eq_true rfl)⟩) (gh_out M hex (by exact Nat.le_of_ble_eq_true rfl) (by exact Nat.le_of_ble_eq_true rfl)) (fun r3 h4 H locs hw G => ?_)
  refine gh_kv G (vx_runS M.1 (met_X1_requireIndex l D _ _ _ _ _ _ hw M.2.2.2.2.2) (va_cwS 2 (gh_Mts M) (lw_S q480 q481 q41 q482) rfl rfl rfl ⟨by decide, by decide, rfl⟩ ⟨Nat.le_of_ble_eq_true rfl, Nat.le_of_ble_eq_true rfl⟩) (gh_pre M G (As := [.int v1, .int r3])) rfl rfl hl.1.1 rfl (lv_room (Nat.le_of_ble_eq_true rfl)) dX1_contentNumbered_10 ⟨(Nat.le_of_ble_eq_true rfl), (Nat.le_of_ble_eq_true rfl)⟩) (gh_out M hex (by exact Nat.le_of_ble_eq_true rfl) (by exact Nat.le_of_ble_eq_true rfl)) (fun h5 H locs hw G => ?_)
  refine gh_aload_n hx hb dX1_contentNumbered_13 rfl (gh_at hl 0 rfl) ?_
  refine gh_getR M G hw fl_X1_27 dX1_contentNumbered_14 (fun x6 hw => ?_)
  refine lv_iload_n hx hb dX1_contentNumbered_17 rfl (gh_at hl 1 rfl) ?_
  obtain ⟨a7, lba7, fsa7, rfl, haa7, hw⟩ := hw
  refine gh_kFq G (vx_runF (C := "java/util/ArrayList") (M.2.1.1.1 8 _ rfl).2 M.1 (met_J2_get l D _ _ _ _ _ _ hw M.2.2.2.2.2) (va_cwF 1 (gh_Mts M) (gh_gF q499 q502 q504 q44 q506) rfl rfl rfl (M.2.2.1.2.1 _ (List.mem_of_getElem? (i := 6) rfl)) ⟨by decide, by decide, rfl⟩ ⟨Nat.le_of_ble_eq_true rfl, Nat.le_of_ble_eq_true rfl⟩) (gh_preV (As := [.int v1]) M G (gh_rec M G haa7 rfl)) rfl rfl hl.1.1 rfl (lv_room (Nat.le_of_ble_eq_true rfl)) dX1_contentNumbered_18 ⟨(Nat.le_of_ble_eq_true rfl), (Nat.le_of_ble_eq_true rfl)⟩) (gh_out M hex (by exact Nat.le_of_ble_eq_true rfl) (by exact Nat.le_of_ble_eq_true rfl)) (fun r8 h9 H locs hw G => ?_)
  refine gh_cast (cis := [4]) M G hw q338 (List.forall_mem_cons.mpr ⟨⟨_, rfl, Or.inl ⟨rfl, rfl⟩⟩, fun _ h => absurd h List.not_mem_nil⟩) dX1_contentNumbered_23 (fun hw => ?_)
  exact gh_aret M G hr (Or.inl ⟨_, rfl⟩) hw (by exact Nat.le_of_ble_eq_true rfl) (by exact Nat.le_of_ble_eq_true rfl) dX1_contentNumbered_26
/-! BinderyDesk.approve (I)Z -/
theorem fl_X1_111 : gh_FL RX1 111 [(4, 2)] := by
  intro args s hts tb q hq
  simp only [List.mem_cons, List.not_mem_nil, or_false] at hq
  subst hq
  exact ⟨_, "BinderyDesk$Content", rfl, by decide, Or.inr ⟨"BinderyDesk", va_Nw.use rfl (tb.1 _ (List.mem_of_getElem? (i := 120) rfl))⟩, (fun x h => h)⟩
theorem fp_X1_111 : gh_FP RX1 111 [(4, 2)] (.boolean) false := by
  refine ⟨fl_X1_111, fun q hq => ?_⟩
  simp only [List.mem_cons, List.not_mem_nil, or_false] at hq
  subst hq
  exact ⟨_, rfl, rfl, by decide +kernel, fun h => by cases h⟩
def rm_X1_approve : Room := { frames := 8, cells := 1, slots := 6, locals := 142 }
def wp_X1_approve (κ : Nat → Nat) (v0 : Nat) (v1 : Int32) (Q : Int32 → gh_H → Prop) (X : String → gh_H → Prop) (h : gh_H) : Prop := (gh_RC h (some v0) 0 (fun _ => (wp_X1_contentNumbered κ v0 v1 (fun r2 h3 => (gh_GI h3 r2 [(4, 2)] (fun x4 => ((narrow .boolean (.int (1 : Int32)) = .int (1 : Int32) ∧ fits .boolean (.int (1 : Int32)) = true) ∧ (gh_PV h3 r2 [(4, 2)] (.int (1 : Int32)) (fun h5 => (narrow .boolean (.int x4) = .int x4 ∧ Q x4 h5))))))) X h)))
set_option maxHeartbeats 4000000 in
theorem met_X1_approve (l : Launch) (D : gh_D) (v0 : Nat) (v1 : Int32) (Q : Int32 → gh_H → Prop) (X : String → gh_H → Prop) (h : gh_H) (sz : Nat) (hw : wp_X1_approve D.2.2 v0 v1 Q X h) (hst : l.stackTraces = false) : vx_Met l yX1_approve (ws_ yX1_approve cX1_approve 4 (some .boolean)) rm_X1_approve (gh_Pc D h sz [.ref v0, .int v1]) (gh_Qi Q D h sz) (gh_X X D h sz) 1 6 (gh_A h sz) := by
  refine vx_ofW (by decide) rfl (fun p e s m args below meth c s₁ B hml hex hP => ?_)
  obtain ⟨rfl, rfl, hK, hT, hE, G⟩ := gh_start hP
  have M : gh_M D p l s m _ meth c RX1 cX1_approve 4 (gh_A h s.heap.size) := ⟨⟨B.exec, B.bytes, hml, findClass_of_methodNamed B.named, fun w hw => atoms_spec (ws := ws_ yX1_approve cX1_approve 4 (some .boolean)) B.pre w (List.mem_cons_of_mem _ hw)⟩, hK, hT, hE, B.notSynchronized, hst⟩
  have hr := B.returns
  have hx := M.1.1
  have hb := M.1.2.1
  refine gh_enter (vs := [(1, .ref v0), (1, .int v1)]) (gh_w1 rfl (gh_w1 rfl gh_wn)) (Nat.le_of_ble_eq_true rfl) (fun ls hl => ?_)
  replace hl : gh_L ls 4 [(0, 1, va_rf (some v0)), (1, 1, .int v1)] := hl
  unfold wp_X1_approve at hw
  refine gh_aload_n hx hb dX1_approve_0 rfl (gh_at hl 0 rfl) ?_
  refine lv_iload_n hx hb dX1_approve_1 rfl (gh_at hl 1 rfl) ?_
  obtain ⟨a1, lba1, fsa1, hra1, haa1, hw⟩ := hw
  rw [← Option.some.inj hra1] at haa1
  refine gh_kq G (vx_runV M.1 (met_X1_contentNumbered l D _ _ _ _ _ _ hw M.2.2.2.2.2) (cwV 1 (gh_Mts M) (lw_V q476 q478 qs4 q41 q479) rfl rfl rfl ⟨rfl, by decide, by decide, rfl⟩ ⟨Nat.le_of_ble_eq_true rfl, Nat.le_of_ble_eq_true rfl⟩) (gh_preV (As := [.int v1]) M G (gh_rec M G haa1 rfl)) rfl rfl hl.1.1 rfl (lv_room (Nat.le_of_ble_eq_true rfl)) dX1_approve_2 ⟨(Nat.le_of_ble_eq_true rfl), (Nat.le_of_ble_eq_true rfl)⟩) (gh_out M hex (by exact Nat.le_of_ble_eq_true rfl) (by exact Nat.le_of_ble_eq_true rfl)) (fun r2 h3 H locs hw G => ?_)
  refine gh_astore_n (lv' := [(2, 1, va_rf r2), (0, 1, va_rf (some v0)), (1, 1, .int v1)]) hx hb dX1_approve_5 rfl hl (by decide) rfl (fun ls hl => ?_)
  refine gh_aload_n hx hb dX1_approve_6 rfl (gh_at hl 0 rfl) ?_
  refine gh_getI M G hw fl_X1_111 dX1_approve_7 (fun x4 hw => ?_)
  refine gh_istore_n (lv' := [(3, 1, .int x4), (2, 1, va_rf r2), (0, 1, va_rf (some v0)), (1, 1, .int v1)]) hx hb dX1_approve_10 rfl hl (by decide) rfl (fun ls hl => ?_)
  refine gh_aload_n hx hb dX1_approve_11 rfl (gh_at hl 1 rfl) ?_
  refine lv_iconst (v := (1 : Int32)) hx hb dX1_approve_12 (by decide) ?_
  obtain ⟨hn, hw⟩ := hw
  refine gh_put M G hw fp_X1_111 hn.1 hn.2 dX1_approve_13 (fun h5 H locs hw G => ?_)
  refine lv_iload_n hx hb dX1_approve_16 rfl (gh_at hl 0 rfl) ?_
  exact gh_iret M G hr hw.1 hw.2 (by exact Nat.le_of_ble_eq_true rfl) (by exact Nat.le_of_ble_eq_true rfl) dX1_approve_17
/-! BinderyDeskLaw.approve (LBinderyDesk;I[J)I -/
def rm_X0_approve : Room := { frames := 9, cells := 1, slots := 6, locals := 165 }
def wb_X0_approve_15 (κ : Nat → Nat)  (Q : Int32 → gh_H → Prop) (X : String → gh_H → Prop) (t0 : Option Nat) (t1 : Int32) (t2 : Int64) (h : gh_H) : Prop := (gh_SJ h t0 t1 t2 (fun h1 => (Q (0 : Int32) h1)))
def wb_X0_approve_19 (κ : Nat → Nat)  (Q : Int32 → gh_H → Prop) (X : String → gh_H → Prop) (t0 : Option Nat) (h : gh_H) : Prop := (Q (1 : Int32) h)
def wp_X0_approve (κ : Nat → Nat) (v0 : Option Nat) (v1 : Int32) (v2 : Option Nat) (Q : Int32 → gh_H → Prop) (X : String → gh_H → Prop) (h : gh_H) : Prop := (gh_RC h v0 0 (fun a1 => (wp_X1_approve κ a1 v1 (fun r2 h3 => ((r2 = 0 → wb_X0_approve_15 κ Q X v2 (0 : Int32) (0 : Int64) h3) ∧ (¬ r2 = 0 → wb_X0_approve_15 κ Q X v2 (0 : Int32) (1 : Int64) h3))) (fun E h9 => (E = "java/lang/IndexOutOfBoundsException" ∧ ∀ q9 : Nat, wb_X0_approve_19 κ Q X (some q9) h9)) h)))
set_option maxHeartbeats 4000000 in
theorem wk_X0_approve_15 {D : gh_D} {p : Program} {l : Launch} {e : Env} {s : State} {m : MethodId} {args : Array Value} {below : List Frame} {meth : Method} {c : Code} {h0 : gh_H} (M : gh_M D p l s m args meth c RX0 cX0_approve 4 (gh_A h0 s.heap.size)) (hr : meth.sig.returnType = (some .int)) (htab : c.exceptionTable.toList = tableOf [(0, 16, 19, 19)])   {Q : Int32 → gh_H → Prop} {X : String → gh_H → Prop}   (t0 : Option Nat) (t1 : Int32) (t2 : Int64) (H : Heap) (locs : List Loc) (ls : Array Slot) (h : gh_H) (G : gh_Inv D h0 (gh_A h0 s.heap.size) s.heap s H locs h) (hl : gh_L ls 4 []) (hw : wb_X0_approve_15 D.2.2 Q X t0 t1 t2 h) : W p l e rm_X0_approve s m args below meth c H locs 1 6 (vx_MQ below (gh_Qi Q D h0 s.heap.size) (gh_X X D h0 s.heap.size) args s 1 6 (gh_A h0 s.heap.size)) (F0 m 15 ls [.long t2, .int t1, va_rf t0]) := by
  unfold wb_X0_approve_15 at hw
  have hx := M.1.1
  have hb := M.1.2.1
  refine gh_jas M G hw dX0_approve_15 (fun h1 H locs hw G => ?_)
  refine lv_goto (tgt := 22) hx hb dX0_approve_16 (by decide) ?_
  refine lv_iconst (v := (0 : Int32)) hx hb dX0_approve_22 (by decide) ?_
  exact gh_iret M G hr rfl hw (by exact Nat.le_of_ble_eq_true rfl) (by exact Nat.le_of_ble_eq_true rfl) dX0_approve_23
set_option maxHeartbeats 4000000 in
theorem wk_X0_approve_19 {D : gh_D} {p : Program} {l : Launch} {e : Env} {s : State} {m : MethodId} {args : Array Value} {below : List Frame} {meth : Method} {c : Code} {h0 : gh_H} (M : gh_M D p l s m args meth c RX0 cX0_approve 4 (gh_A h0 s.heap.size)) (hr : meth.sig.returnType = (some .int)) (htab : c.exceptionTable.toList = tableOf [(0, 16, 19, 19)])   {Q : Int32 → gh_H → Prop} {X : String → gh_H → Prop}   (t0 : Option Nat) (H : Heap) (locs : List Loc) (ls : Array Slot) (h : gh_H) (G : gh_Inv D h0 (gh_A h0 s.heap.size) s.heap s H locs h) (hl : gh_L ls 4 []) (hw : wb_X0_approve_19 D.2.2 Q X t0 h) : W p l e rm_X0_approve s m args below meth c H locs 1 6 (vx_MQ below (gh_Qi Q D h0 s.heap.size) (gh_X X D h0 s.heap.size) args s 1 6 (gh_A h0 s.heap.size)) (F0 m 19 ls [va_rf t0]) := by
  unfold wb_X0_approve_19 at hw
  have hx := M.1.1
  have hb := M.1.2.1
  refine gh_astore_n (lv' := [(3, 1, va_rf t0)]) hx hb dX0_approve_19 rfl hl (by decide) rfl (fun ls hl => ?_)
  refine lv_iconst (v := (1 : Int32)) hx hb dX0_approve_20 (by decide) ?_
  exact gh_iret M G hr rfl hw (by exact Nat.le_of_ble_eq_true rfl) (by exact Nat.le_of_ble_eq_true rfl) dX0_approve_21
set_option maxHeartbeats 4000000 in
theorem met_X0_approve (l : Launch) (D : gh_D) (v0 : Option Nat) (v1 : Int32) (v2 : Option Nat) (Q : Int32 → gh_H → Prop) (X : String → gh_H → Prop) (h : gh_H) (sz : Nat) (hw : wp_X0_approve D.2.2 v0 v1 v2 Q X h) (hst : l.stackTraces = false) : vx_Met l yX0_approve (wsW_ yX0_approve cX0_approve 4 (some .int) [(0, 16, 19, 19)]) rm_X0_approve (gh_Pc D h sz [va_rf v0, .int v1, va_rf v2]) (gh_Qi Q D h sz) (gh_X X D h sz) 1 6 (gh_A h sz) := by
  refine vx_ofWH (by decide) rfl (fun p e s m args below meth c s₁ B hml hP => ?_)
  have htab := vx_table (x := yX0_approve) B (atoms_spec (ws := wsW_ yX0_approve cX0_approve 4 (some .int) [(0, 16, 19, 19)]) B.pre _ List.mem_cons_self)
  obtain ⟨rfl, rfl, hK, hT, hE, G⟩ := gh_start hP
  have M : gh_M D p l s m _ meth c RX0 cX0_approve 4 (gh_A h s.heap.size) := ⟨⟨B.exec, B.bytes, hml, findClass_of_methodNamed B.named, fun w hw => atoms_spec (ws := wsW_ yX0_approve cX0_approve 4 (some .int) [(0, 16, 19, 19)]) B.pre w (List.mem_cons_of_mem _ hw)⟩, hK, hT, hE, B.notSynchronized, hst⟩
  have hr := B.returns
  have hx := M.1.1
  have hb := M.1.2.1
  refine gh_enter (vs := [(1, va_rf v0), (1, .int v1), (1, va_rf v2)]) (gh_w1 (gh_cat _) (gh_w1 rfl (gh_w1 (gh_cat _) gh_wn))) (Nat.le_of_ble_eq_true rfl) (fun ls hl => ?_)
  replace hl : gh_L ls 4 [(0, 1, va_rf v0), (1, 1, .int v1), (2, 1, va_rf v2)] := hl
  unfold wp_X0_approve at hw
  refine gh_aload_n hx hb dX0_approve_0 rfl (gh_at hl 2 rfl) ?_
  refine lv_iconst (v := (0 : Int32)) hx hb dX0_approve_1 (by decide) ?_
  refine gh_aload_n hx hb dX0_approve_2 rfl (gh_at hl 0 rfl) ?_
  refine lv_iload_n hx hb dX0_approve_3 rfl (gh_at hl 1 rfl) ?_
  obtain ⟨a1, lba1, fsa1, rfl, haa1, hw⟩ := hw
  refine gh_ki G (vx_runV M.1 (met_X1_approve l D _ _ _ _ _ _ hw M.2.2.2.2.2) (cwV 1 (gh_Mts M) (lw_V q472 q473 q474 q41 q475) rfl rfl rfl ⟨rfl, by decide, by decide, rfl⟩ ⟨Nat.le_of_ble_eq_true rfl, Nat.le_of_ble_eq_true rfl⟩) (gh_preV (As := [.int v1]) M G (gh_rec M G haa1 rfl)) rfl rfl hl.1.1 rfl (lv_room (Nat.le_trans (gh_r1 rfl (gh_r1 (gh_cat _) gh_r0)) (Nat.le_of_ble_eq_true rfl : 2 ≤ 8))) dX0_approve_4 ⟨(Nat.le_of_ble_eq_true rfl), (Nat.le_of_ble_eq_true rfl)⟩) (fun E ce q9 h9 H locs hX G hce hcv hcl => ?_) (fun r2 h3 H locs hw G => ?_)
  · obtain ⟨rfl, hX⟩ := hX
    · replace hw := hX q9
      refine vx_catch (name := "java/lang/IndexOutOfBoundsException") M.1.2.2.2.1 (tableOf []) ⟨0, 16, 19, 19⟩ (tableOf []) (htab.trans rfl) (fun _ h => absurd h List.not_mem_nil) (by decide) (by decide) (gh_Mts M _ q439) (va_Nw.use rfl (M.2.2.1.1 _ (List.mem_of_getElem? (i := 8) rfl))) hce hcv hcl ?_
      exact wk_X0_approve_19 M hr htab  (some q9) _ _ _ _ G (gh_sub hl [] rfl) hw
  · refine lv_if_eq (tgt := 14) hx hb dX0_approve_7 (by decide) (fun hc => ?_) (fun hc => ?_)
    · replace hw := hw.1 hc
      refine lv_lconst (v := (0 : Int64)) hx hb dX0_approve_14 (by decide) ?_
      exact wk_X0_approve_15 M hr htab  v2 (0 : Int32) (0 : Int64) _ _ _ _ G (gh_sub hl [] rfl) hw
    · replace hw := hw.2 hc
      refine lv_lconst (v := (1 : Int64)) hx hb dX0_approve_10 (by decide) ?_
      refine lv_goto (tgt := 15) hx hb dX0_approve_11 (by decide) ?_
      exact wk_X0_approve_15 M hr htab  v2 (0 : Int32) (1 : Int64) _ _ _ _ G (gh_sub hl [] rfl) hw
/-! BinderyDeskModel.in (III)Z -/
def rm_X3_in : Room := { frames := 1, cells := 0, slots := 0, locals := 40 }
def wb_X3_in_15 (κ : Nat → Nat)  (Q : Int32 → gh_H → Prop) (X : String → gh_H → Prop) (t0 : Int32) (h : gh_H) : Prop := (narrow .boolean (.int t0) = .int t0 ∧ Q t0 h)
def wb_X3_in_14 (κ : Nat → Nat)  (Q : Int32 → gh_H → Prop) (X : String → gh_H → Prop)  (h : gh_H) : Prop := wb_X3_in_15 κ Q X (0 : Int32) h
def wp_X3_in (κ : Nat → Nat) (v0 : Int32) (v1 : Int32) (v2 : Int32) (Q : Int32 → gh_H → Prop) (X : String → gh_H → Prop) (h : gh_H) : Prop := ((v0 < v1 → wb_X3_in_14 κ Q X h) ∧ (¬ v0 < v1 → ((v2 < v0 → wb_X3_in_14 κ Q X h) ∧ (¬ v2 < v0 → wb_X3_in_15 κ Q X (1 : Int32) h))))
set_option maxHeartbeats 4000000 in
theorem wk_X3_in_15 {D : gh_D} {p : Program} {l : Launch} {e : Env} {s : State} {m : MethodId} {args : Array Value} {below : List Frame} {meth : Method} {c : Code} {h0 : gh_H} (M : gh_M D p l s m args meth c RX3 cX3_in 3 (gh_A h0 s.heap.size)) (hr : meth.sig.returnType = (some .boolean)) (hex : ∀ x ∈ c.exceptionTable.toList, False)   {Q : Int32 → gh_H → Prop} {X : String → gh_H → Prop}   (t0 : Int32) (H : Heap) (locs : List Loc) (ls : Array Slot) (h : gh_H) (G : gh_Inv D h0 (gh_A h0 s.heap.size) s.heap s H locs h) (hl : gh_L ls 3 []) (hw : wb_X3_in_15 D.2.2 Q X t0 h) : W p l e rm_X3_in s m args below meth c H locs 0 0 (vx_MQ below (gh_Qi Q D h0 s.heap.size) (gh_X X D h0 s.heap.size) args s 0 0 (gh_A h0 s.heap.size)) (F0 m 15 ls [.int t0]) := by
  unfold wb_X3_in_15 at hw
  have hx := M.1.1
  have hb := M.1.2.1
  exact gh_iret M G hr hw.1 hw.2 (by exact Nat.le_of_ble_eq_true rfl) (by exact Nat.le_of_ble_eq_true rfl) dX3_in_15
set_option maxHeartbeats 4000000 in
theorem wk_X3_in_14 {D : gh_D} {p : Program} {l : Launch} {e : Env} {s : State} {m : MethodId} {args : Array Value} {below : List Frame} {meth : Method} {c : Code} {h0 : gh_H} (M : gh_M D p l s m args meth c RX3 cX3_in 3 (gh_A h0 s.heap.size)) (hr : meth.sig.returnType = (some .boolean)) (hex : ∀ x ∈ c.exceptionTable.toList, False)   {Q : Int32 → gh_H → Prop} {X : String → gh_H → Prop}    (H : Heap) (locs : List Loc) (ls : Array Slot) (h : gh_H) (G : gh_Inv D h0 (gh_A h0 s.heap.size) s.heap s H locs h) (hl : gh_L ls 3 []) (hw : wb_X3_in_14 D.2.2 Q X h) : W p l e rm_X3_in s m args below meth c H locs 0 0 (vx_MQ below (gh_Qi Q D h0 s.heap.size) (gh_X X D h0 s.heap.size) args s 0 0 (gh_A h0 s.heap.size)) (F0 m 14 ls []) := by
  unfold wb_X3_in_14 at hw
  have hx := M.1.1
  have hb := M.1.2.1
  refine lv_iconst (v := (0 : Int32)) hx hb dX3_in_14 (by decide) ?_
  exact wk_X3_in_15 M hr hex  (0 : Int32) _ _ _ _ G (gh_sub hl [] rfl) hw
set_option maxHeartbeats 4000000 in
theorem met_X3_in (l : Launch) (D : gh_D) (v0 : Int32) (v1 : Int32) (v2 : Int32) (Q : Int32 → gh_H → Prop) (X : String → gh_H → Prop) (h : gh_H) (sz : Nat) (hw : wp_X3_in D.2.2 v0 v1 v2 Q X h) (hst : l.stackTraces = false) : vx_Met l yX3_in (ws_ yX3_in cX3_in 3 (some .boolean)) rm_X3_in (gh_Pc D h sz [.int v0, .int v1, .int v2]) (gh_Qi Q D h sz) (gh_X X D h sz) 0 0 (gh_A h sz) := by
  refine vx_ofW (by decide) rfl (fun p e s m args below meth c s₁ B hml hex hP => ?_)
  obtain ⟨rfl, rfl, hK, hT, hE, G⟩ := gh_start hP
  have M : gh_M D p l s m _ meth c RX3 cX3_in 3 (gh_A h s.heap.size) := ⟨⟨B.exec, B.bytes, hml, findClass_of_methodNamed B.named, fun w hw => atoms_spec (ws := ws_ yX3_in cX3_in 3 (some .boolean)) B.pre w (List.mem_cons_of_mem _ hw)⟩, hK, hT, hE, B.notSynchronized, hst⟩
  have hr := B.returns
  have hx := M.1.1
  have hb := M.1.2.1
  refine gh_enter (vs := [(1, .int v0), (1, .int v1), (1, .int v2)]) (gh_w1 rfl (gh_w1 rfl (gh_w1 rfl gh_wn))) (Nat.le_of_ble_eq_true rfl) (fun ls hl => ?_)
  replace hl : gh_L ls 3 [(0, 1, .int v0), (1, 1, .int v1), (2, 1, .int v2)] := hl
  unfold wp_X3_in at hw
  refine lv_iload_n hx hb dX3_in_0 rfl (gh_at hl 0 rfl) ?_
  refine lv_iload_n hx hb dX3_in_1 rfl (gh_at hl 1 rfl) ?_
  refine lv_icmp_lt (tgt := 14) hx hb dX3_in_2 (by decide) (fun hc => ?_) (fun hc => ?_)
  · replace hw := hw.1 hc
    exact wk_X3_in_14 M hr hex   _ _ _ _ G (gh_sub hl [] rfl) hw
  · replace hw := hw.2 hc
    refine lv_iload_n hx hb dX3_in_5 rfl (gh_at hl 0 rfl) ?_
    refine lv_iload_n hx hb dX3_in_6 rfl (gh_at hl 2 rfl) ?_
    refine lv_icmp_gt (tgt := 14) hx hb dX3_in_7 (by decide) (fun hc => ?_) (fun hc => ?_)
    · replace hw := hw.1 hc
      exact wk_X3_in_14 M hr hex   _ _ _ _ G (gh_sub hl [] rfl) hw
    · replace hw := hw.2 hc
      refine lv_iconst (v := (1 : Int32)) hx hb dX3_in_10 (by decide) ?_
      refine lv_goto (tgt := 15) hx hb dX3_in_11 (by decide) ?_
      exact wk_X3_in_15 M hr hex  (1 : Int32) _ _ _ _ G (gh_sub hl [] rfl) hw
