/-! PLAIN LAW, part MI: addJob -/
set_option maxRecDepth 100000
section
variable {κ bd ca : Nat → Nat} {s : Nat → Nat} {h : gh_H} {X : String → gh_H → Prop}
theorem dj_of {v : Int32} {Q : Option Nat → gh_H → Prop} (hv : h (κ 4) = some (0, .inl (6, 3, gu_r (fun i => some (bd i))))) (B : BD bd h) (k1 : ∀ b, okB b → v = nI b → ∀ h', Only (fun _ => False) h h' → Q (some (bd (bx b))) h') (k0 : (∀ b, okB b → v ≠ nI b) → ∀ h', Only (fun _ => False) h h' → X "java/lang/IllegalArgumentException" h') : wp_X6_of κ v Q X h := by
  unfold wp_X6_of wp_X6_values
  refine ⟨κ 4, 0, 3, _, rfl, hv, Nat.le_refl 3, 65, by decide, fun q hq => ⟨q, 65, _, rfl, gu_self _ _ _, by decide, gs_LN (gu_self _ _ _) ?_⟩⟩
  have o : Only (fun _ => False) h (gh_up h q (65, .inl (6, 3, gu_r (fun i => some (bd i))))) := Only.new hq
  have eq := gu_self h q (65, .inl (6, 3, gu_r (fun i => some (bd i))))
  have B2 : BD bd (gh_up h q (65, .inl (6, 3, gu_r (fun i => some (bd i))))) := B.keep o (fun w => w)
  have step : ∀ (r i b : Nat), i < 3 → okB b → bx b = i → (v ≠ nI b → wl_X6_of_9 κ Q X r v (some q) (nI 3) (nI (i + 1)) (gh_up h q (65, .inl (6, 3, gu_r (fun i => some (bd i)))))) → wl_X6_of_9 κ Q X (r + 1) v (some q) (nI 3) (nI i) (gh_up h q (65, .inl (6, 3, gu_r (fun i => some (bd i))))) := by
    intro r i b hi hb hbx kk
    show wb_X6_of_9 κ (wl_X6_of_9 κ Q X r) Q X v (some q) (nI 3) (nI i) _
    unfold wb_X6_of_9
    refine ⟨fun z => absurd z (nI_ge hi (by decide)), fun _ => gs_LR eq (by decide) hi (by decide) ?_⟩
    have sg : ∀ K : Int32 → Prop, K (nI b) → gh_GI (gh_up h q (65, .inl (6, 3, gu_r (fun i => some (bd i))))) (some (bd i)) [(16, 0), (17, 0), (18, 0)] K := by
      intro K hK
      subst hbx
      rcases hb with rfl | rfl | rfl
      · exact gs_GIm (ci := 16) (k := 0) B2.1 (by decide) rfl hK
      · exact gs_GIm (ci := 17) (k := 0) B2.2.1 (by decide) rfl hK
      · exact gs_GIm (ci := 18) (k := 0) B2.2.2 (by decide) rfl hK
    refine sg _ ⟨fun z => ?_, fun z => ?_⟩
    · have := k1 b hb z.symm _ o
      rw [hbx] at this
      exact this
    · rw [nI_1]
      exact kk (fun w => z w.symm)
  refine ⟨4, step 3 0 115 (by decide) (Or.inl rfl) rfl (fun n1 => step 2 1 112 (by decide) (Or.inr (Or.inl rfl)) rfl (fun n2 => step 1 2 119 (by decide) (Or.inr (Or.inr rfl)) rfl (fun n3 => ?_)))⟩
  show wb_X6_of_9 κ (wl_X6_of_9 κ Q X 0) Q X v (some q) (nI 3) (nI 3) _
  unfold wb_X6_of_9
  refine ⟨fun _ => k0 (fun b hb => ?_) _ o, fun z => absurd (nI_le (Nat.le_refl 3) (by decide)) z⟩
  rcases hb with rfl | rfl | rfl
  · exact n1
  · exact n2
  · exact n3
theorem jb_init {q bb pr j : Nat} {x y z : Value} {Q : gh_H → Prop} (N : CN0 κ h) (e : h q = some (100 + 100 * j, .inr (7, [x, y, z]))) (k : ∀ (h' : gh_H) (ag ai : Nat) (pa : Nat → Nat), Only (Jo j) h h' → h' q = some (100 + 100 * j, .inr (7, [va_rf (some bb), va_rf (some ag), va_rf (some ai)])) → GL κ (101 + 100 * j) ag [] h' → GL κ (103 + 100 * j) ai ((List.range 8).map pa) h' → (∀ n, n < 8 → h' (pa n) = some (105 + 100 * j + n, .inr (3, [.long (lN 0), va_rf (some pr)]))) → Q h') : wp_X7_init κ q (some bb) (some pr) Q X h := by
  have z0 : 100 + 100 * j ≠ 0 := by omega
  unfold wp_X7_init
  refine gs_NO (101 + 100 * j) (by omega) (fun ag hag => ls_new (z := .int 0) (gu_self _ _ _) (by omega) ?_)
  rw [gu_idem]
  have o1 : Only (Jo j) h (gh_up h ag (101 + 100 * j, .inr (8, [.int 0, va_rf (some (κ 0)), .int 0]))) := Only.new hag
  have g1 : GL κ (101 + 100 * j) ag [] (gh_up h ag (101 + 100 * j, .inr (8, [.int 0, va_rf (some (κ 0)), .int 0]))) := GL.nil (gu_self _ _ _)
  have e1 : gh_up h ag (101 + 100 * j, .inr (8, [.int 0, va_rf (some (κ 0)), .int 0])) q = some (100 + 100 * j, .inr (7, [x, y, z])) := gu_new hag e
  generalize gh_up h ag (101 + 100 * j, .inr (8, [.int 0, va_rf (some (κ 0)), .int 0])) = h1 at o1 g1 e1
  refine gs_PV e1 z0 (Nat.le_of_ble_eq_true rfl) ?_
  have o2 : Only (fun t => t = 100 + 100 * j) h1 (gh_up h1 q (100 + 100 * j, .inr (7, [x, va_rf (some ag), z]))) := Only.up e1 rfl
  have e2 : gh_up h1 q (100 + 100 * j, .inr (7, [x, va_rf (some ag), z])) q = some (100 + 100 * j, .inr (7, [x, va_rf (some ag), z])) := gu_self _ _ _
  show gh_NO (gh_up h1 q (100 + 100 * j, .inr (7, [x, va_rf (some ag), z]))) 8 _ _
  generalize gh_up h1 q (100 + 100 * j, .inr (7, [x, va_rf (some ag), z])) = h2 at o2 e2
  refine gs_NO (103 + 100 * j) (by omega) (fun ai hai => ls_new (z := .int 0) (gu_self _ _ _) (by omega) ?_)
  rw [gu_idem]
  have o3 : Only (fun _ => False) h2 (gh_up h2 ai (103 + 100 * j, .inr (8, [.int 0, va_rf (some (κ 0)), .int 0]))) := Only.new hai
  have g3 : GL κ (103 + 100 * j) ai [] (gh_up h2 ai (103 + 100 * j, .inr (8, [.int 0, va_rf (some (κ 0)), .int 0]))) := GL.nil (gu_self _ _ _)
  have e3 : gh_up h2 ai (103 + 100 * j, .inr (8, [.int 0, va_rf (some (κ 0)), .int 0])) q = some (100 + 100 * j, .inr (7, [x, va_rf (some ag), z])) := gu_new hai e2
  generalize gh_up h2 ai (103 + 100 * j, .inr (8, [.int 0, va_rf (some (κ 0)), .int 0])) = h3 at o3 g3 e3
  refine gs_PV e3 z0 (Nat.le_of_ble_eq_true rfl) (gs_PV (gu_self _ _ _) z0 (Nat.le_of_ble_eq_true rfl) ?_)
  rw [gu_idem]
  have o4 : Only (fun t => t = 100 + 100 * j) h3 (gh_up h3 q (100 + 100 * j, .inr (7, [va_rf (some bb), va_rf (some ag), va_rf (some ai)]))) := Only.up e3 rfl
  have e4 : gh_up h3 q (100 + 100 * j, .inr (7, [va_rf (some bb), va_rf (some ag), va_rf (some ai)])) q = some (100 + 100 * j, .inr (7, [va_rf (some bb), va_rf (some ag), va_rf (some ai)])) := gu_self _ _ _
  show ∃ n, wl_X7_init_33 κ Q X n 0 q (some pr) (nI 0) (gh_up h3 q (100 + 100 * j, .inr (7, [va_rf (some bb), va_rf (some ag), va_rf (some ai)])))
  generalize gh_up h3 q (100 + 100 * j, .inr (7, [va_rf (some bb), va_rf (some ag), va_rf (some ai)])) = h4 at o4 e4
  have oo : Only (Jo j) h h4 := ((o1.trans (o2.mono (fun t ht => by unfold Jo; omega))).trans (o3.mono (fun t ht => ht.elim))).trans (o4.mono (fun t ht => by unfold Jo; omega))
  have g14 : GL κ (101 + 100 * j) ag [] h4 := ((g1.keep o2 (by omega) (by omega)).keep o3 (fun w => w) (fun w => w)).keep o4 (by omega) (by omega)
  have g34 : GL κ (103 + 100 * j) ai [] h4 := g3.keep o4 (by omega) (by omega)
  have key : ∀ (r n : Nat) (pa : Nat → Nat) (h5 : gh_H), n + r = 8 → Only (Jo j) h h5 → h5 q = some (100 + 100 * j, .inr (7, [va_rf (some bb), va_rf (some ag), va_rf (some ai)])) → GL κ (101 + 100 * j) ag [] h5 → GL κ (103 + 100 * j) ai ((List.range n).map pa) h5 → (∀ i, i < n → h5 (pa i) = some (105 + 100 * j + i, .inr (3, [.long (lN 0), va_rf (some pr)]))) → wl_X7_init_33 κ Q X (r + 1) n q (some pr) (nI n) h5 := by
    intro r
    induction r with
    | zero =>
      intro n pa h5 hn o5 e5 g5 l5 p5
      have hn8 : n = 8 := by omega
      subst hn8
      show 8 ≤ 8 ∧ wb_X7_init_33 κ _ 8 Q X q (some pr) (nI 8) h5
      refine ⟨Nat.le_refl 8, ?_⟩
      unfold wb_X7_init_33
      exact ⟨fun _ => k h5 ag ai pa o5 e5 g5 l5 p5, fun w => absurd (nI_le (Nat.le_refl 8) (by decide)) w⟩
    | succ r ih =>
      intro n pa h5 hn o5 e5 g5 l5 p5
      show n ≤ 8 ∧ wb_X7_init_33 κ (wl_X7_init_33 κ Q X (r + 1)) n Q X q (some pr) (nI n) h5
      refine ⟨by omega, ?_⟩
      unfold wb_X7_init_33 wp_X9_init wp_X8_init wp_X2_init
      refine ⟨fun w => absurd w (nI_ge (show n < 8 by omega) (by decide)), fun _ => gs_GR e5 rfl (gs_NO (105 + 100 * j + n) (by omega) (fun q2 hq2 => gs_PV (gu_self _ _ _) (by omega) (Nat.le_of_ble_eq_true rfl) ?_))⟩
      rw [gu_idem]
      obtain ⟨h6, eh6⟩ : ∃ h6, h6 = gh_up h5 q2 (105 + 100 * j + n, .inr (3, [Value.long 0, va_rf none].set 1 (va_rf (some pr)))) := ⟨_, rfl⟩
      rw [← eh6]
      have o6 : Only (fun _ => False) h5 h6 := by
        rw [eh6]
        exact Only.new hq2
      have e6 : h6 q2 = some (105 + 100 * j + n, .inr (3, [.long (lN 0), va_rf (some pr)])) := by
        rw [eh6]
        exact gu_self _ _ _
      have l6 := l5.keep o6 (fun w => w) (fun w => w)
      obtain ⟨mc6, l6m⟩ := id l6
      obtain ⟨al6, hal6, -⟩ := id l6m
      have N6 : CN0 κ h6 := (N.keep o5 (by unfold Jo; omega)).keep o6 (fun w => w)
      have p6 : ∀ i, i < n → h6 (pa i) = some (105 + 100 * j + i, .inr (3, [.long (lN 0), va_rf (some pr)])) := fun i hi => o6 _ _ _ (p5 i hi) (fun w => w)
      refine gs_RC hal6 (ls_add N6 l6 (by omega) (by rw [rg_len]; omega) (fun y hy => ?_) (OB.of e6 (by decide)) (fun h7 o7 L7 => ?_))
      · obtain ⟨i, hi, rfl⟩ := List.mem_map.mp hy
        exact OB.of (p6 i (List.mem_range.mp hi)) (by decide)
      rw [nI_1]
      refine ih (n + 1) (fun i => if i = n then q2 else pa i) h7 (by omega) ((o5.trans (o6.mono (fun t ht => ht.elim))).trans (o7.mono (fun t ht => by unfold Jo; omega))) (o7 _ _ _ (o6 _ _ _ e5 (fun w => w)) (by omega)) ((g5.keep o6 (fun w => w) (fun w => w)).keep o7 (by omega) (by omega)) ?_ (fun i hi => ?_)
      · rw [rg_succ]
        have e1 : (List.range n).map (fun i => if i = n then q2 else pa i) = (List.range n).map pa := List.map_congr_left (fun i hi => if_neg (by have := List.mem_range.mp hi; omega))
        rw [e1]
        show GL κ (103 + 100 * j) ai ((List.range n).map pa ++ [if n = n then q2 else pa n]) h7
        rw [if_pos rfl]
        exact L7
      · show h7 (if i = n then q2 else pa i) = _
        by_cases w : i = n
        · rw [if_pos w, w]
          exact o7 _ _ _ e6 (by omega)
        · rw [if_neg w]
          exact o7 _ _ _ (p6 i (by omega)) (by omega)
  exact ⟨_, key 8 0 (fun _ => 0) h4 (by decide) oo e4 g14 g34 (fun i hi => absurd hi (Nat.not_lt_zero _))⟩
end
/-- a job more: the state behind it -/
def jbS (s : Nat → Nat) (b : Nat) : Nat → Nat := sU (sU s (120 + s 2) b) 2 (s 2 + 1)
theorem jbS_ne {s : Nat → Nat} {b i : Nat} (h1 : i ≠ 120 + s 2) (h2 : i ≠ 2) : jbS s b i = s i := by
  unfold jbS
  rw [sU_ne h2, sU_ne h1]
theorem jbS_b {s : Nat → Nat} {b : Nat} : jbS s b (120 + s 2) = b := by
  unfold jbS
  rw [sU_ne (by omega), sU_self]
section
variable {κ bd ca ja la A : Nat → Nat} {T : Nat → gh_H → Prop} {d : Nat} {s : Nat → Nat} {ev : List Nat} {h h' : gh_H} {X : String → gh_H → Prop}
theorem DP.job {q b : Nat} (P : DP κ bd ca ja la A T d s ev h) (hT : TK T) (I : IV s) (J : IW s) (h24 : s 2 < 4) (o : Only (fun t => Jo (s 2) t ∨ t = 4 ∨ t = 5) h h') (G : GL κ 4 (A 1) ((List.range (s 2)).map ja ++ [q]) h') (Jb : JP κ bd ca (A 5) (jbS s b) (s 2) q h') : DP κ bd ca (fun i => if i = s 2 then q else ja i) la A T d (jbS s b) ev h' := by
  have h1 := I.1
  have h2 := I.2.1
  obtain ⟨p1, p2, p3, p4, p5, ⟨xs, p6, p6b⟩, p7, p8, p9, p10, ⟨f, p11, p12⟩, p13⟩ := P
  have lw : ∀ i, i < 100 → i ≠ 2 → jbS s b i = s i := fun i hi h2 => jbS_ne (by omega) h2
  have e2 : jbS s b 2 = s 2 + 1 := sU_self _ _ _
  unfold DP DKf pbV
  rw [lw 1 (by decide) (by decide), e2, lw 3 (by decide) (by decide), lw 5 (by decide) (by decide), lw 6 (by decide) (by decide), lw 7 (by decide) (by decide), lw 8 (by decide) (by decide), lw 9 (by decide) (by decide), lw 10 (by decide) (by decide), lw 11 (by decide) (by decide)]
  refine ⟨o _ _ _ p1 (by unfold Jo; omega), p2.keep o (by unfold Jo; omega) (by unfold Jo; omega), fun c hc => ?_, ?_, fun i hi => ?_, ⟨xs, p6.keep o (by unfold Jo; omega) (by unfold Jo; omega), p6b.keep o (by unfold Jo; omega)⟩, p7.keep o (by unfold Jo; omega) (by unfold Jo; omega), fun k hk => ?_, o _ _ _ p9 (by unfold Jo; omega), o _ _ _ p10 (by unfold Jo; omega), ⟨f, o _ _ _ p11 (by unfold Jo; omega), p12⟩, hT _ _ _ _ o (by unfold Jo; omega) (fun t a b => by unfold Jo; omega) p13⟩
  · rw [lw 1 (by decide) (by decide)] at hc
    rw [jbS_ne (i := 100 + c) (by omega) (by omega), jbS_ne (i := 340 + c) (by omega) (by omega)]
    exact o _ _ _ (p3 c hc) (by unfold Jo; omega)
  · rw [rg_succ]
    have e1 : (List.range (s 2)).map (fun i => if i = s 2 then q else ja i) = (List.range (s 2)).map ja := List.map_congr_left (fun i hi => if_neg (by have := List.mem_range.mp hi; omega))
    rw [e1]
    show GL κ 4 (A 1) ((List.range (s 2)).map ja ++ [if s 2 = s 2 then q else ja (s 2)]) h'
    rw [if_pos rfl]
    exact G
  · show JP κ bd ca (A 5) (jbS s b) i (if i = s 2 then q else ja i) h'
    by_cases e : i = s 2
    · rw [if_pos e, e]
      exact Jb
    · rw [if_neg e]
      have hi2 : i < s 2 := by omega
      exact JP_cg3 (fun t ht => jbS_ne (by omega) (by omega)) (I.2.2.1 i (by omega)).2 ((p5 i hi2).keep o (fun t a b => by unfold Jo; omega))
  · have hk3 : k < s 3 := hk
    exact LOT_cg (fun i hi => jbS_ne (by omega) (by omega)) I J hk3 ((p8 k hk3).keep o (fun t a => by unfold Jo; omega))
theorem dk_addJob {x : Int32} {Q : Int32 → gh_H → Prop} (P : DP κ bd ca ja la A T d s ev h) (N : CN0 κ h) (B : BD bd h) (hv : h (κ 4) = some (0, .inl (6, 3, gu_r (fun i => some (bd i))))) (hT : TK T) (I : IV s) (J : IW s) (Y : IY s)
    (k1 : ∀ b, okB b → x = nI b → s 2 < 4 → ∀ h' ja', Only De h h' → DP κ bd ca ja' la A T d (jbS s b) ev h' → Q (nI (s 2)) h')
    (k2 : ∀ b, okB b → x = nI b → ¬ s 2 < 4 → ∀ h', Only (fun _ => False) h h' → X "java/lang/IllegalStateException" h') (k0 : (∀ b, okB b → x ≠ nI b) → ∀ h', Only (fun _ => False) h h' → X "java/lang/IllegalArgumentException" h') : wp_X1_addJob κ d x Q X h := by
  have i1 := I.1
  have i2 := I.2.1
  unfold wp_X1_addJob
  refine dj_of hv B (fun b hb hx h1 o1 => ?_) k0
  have P1 := P.keep hT I o1 (fun w => w) (fun t _ _ w => w)
  obtain ⟨mc, p4⟩ := id P1.2.2.2.1
  obtain ⟨al, hal, -⟩ := id p4
  refine gs_GR P1.1 rfl (gs_RC hal (ls_size p4.lr ?_))
  rw [rg_len]
  refine ⟨fun z => ?_, fun z => ?_⟩
  · unfold wb_X1_addJob_23 wp_X1_requireState
    have := (nI_leI (a := 4) (by decide) (n31 (by omega))).mp z
    exact ⟨fun _ => k2 b hb hx (by omega) h1 o1, fun w => absurd rfl w⟩
  have hlt : s 2 < 4 := by
    have : ¬ 4 ≤ s 2 := fun w => z (nI_le w (n31 (by omega)))
    omega
  have q1 := k1 b hb hx hlt
  unfold wb_X1_addJob_23 wp_X1_requireState
  refine ⟨(fun w => by cases w), fun _ => gs_GR P1.1 rfl (gs_NO (100 + 100 * s 2) (by omega) (fun q hq => ?_))⟩
  have o2 : Only (fun _ => False) h1 (gh_up h1 q (100 + 100 * s 2, .inr (7, [va_rf none, va_rf none, va_rf none]))) := Only.new hq
  have e2 : gh_up h1 q (100 + 100 * s 2, .inr (7, [va_rf none, va_rf none, va_rf none])) q = some (100 + 100 * s 2, .inr (7, [va_rf none, va_rf none, va_rf none])) := gu_self _ _ _
  generalize gh_up h1 q (100 + 100 * s 2, .inr (7, [va_rf none, va_rf none, va_rf none])) = h2 at o2 e2
  have P2 := P1.keep hT I o2 (fun w => w) (fun t _ _ w => w)
  have N2 : CN0 κ h2 := (N.keep o1 (fun w => w)).keep o2 (fun w => w)
  refine gs_GR P2.1 rfl (jb_init N2 e2 (fun h3 ag ai pa o3 e3 g1 g2 pp => ?_))
  have hy := Y.2.1 (s 2) (Nat.le_refl _) hlt
  have hns : nSh s (s 2) = 0 := nSh_n (fun w => by have := w.1; omega)
  have L4 : GL κ 4 (A 1) ((List.range (s 2)).map ja) h3 := P2.2.2.2.1.keep o3 (by unfold Jo; omega) (by unfold Jo; omega)
  obtain ⟨mc4, L4m⟩ := id L4
  obtain ⟨al4, hal4, -⟩ := id L4m
  have N3 : CN0 κ h3 := N2.keep o3 (by unfold Jo; omega)
  refine gs_RC hal4 (ls_add N3 L4 (by decide) (by rw [rg_len]; omega) (fun y hy => ?_) (OB.of e3 (by decide)) (fun h4 o4 L5 => ?_))
  · obtain ⟨i, hi, rfl⟩ := List.mem_map.mp hy
    have hi2 := List.mem_range.mp hi
    obtain ⟨bg, bi, pb, f1, -⟩ := P2.2.2.2.2.1 i hi2
    exact OB.of (o3 _ _ _ f1 (by unfold Jo; omega)) (by decide)
  have o34 : Only (fun t => Jo (s 2) t ∨ t = 4 ∨ t = 5) h2 h4 := (o3.mono (fun t ht => Or.inl ht)).trans (o4.mono (fun t ht => Or.inr (by omega)))
  have Jn : JP κ bd ca (A 5) (jbS s b) (s 2) q h4 := by
    refine ⟨ag, ai, pa, ?_, ?_, g2.keep o4 (by omega) (by omega), fun n hn => ?_⟩
    · rw [jbS_b]
      exact o4 _ _ _ e3 (by omega)
    · have ej : jpg ca (jbS s b) (s 2) = [] := by
        unfold jpg
        rw [jbS_ne (by omega) (by omega), hy]
        rfl
      rw [ej]
      exact g1.keep o4 (by omega) (by omega)
    · rw [jbS_ne (by omega) (by omega), Y.2.2 (s 2) n hlt hn (by omega)]
      exact o4 _ _ _ (pp n hn) (by omega)
  have P4 := P2.job (b := b) hT I J hlt o34 L5 Jn
  obtain ⟨mc5, L5m⟩ := id L5
  obtain ⟨al5, hal5, -⟩ := id L5m
  refine gs_GR (o34 _ _ _ P2.1 (by unfold Jo; omega)) rfl (gs_RC hal5 (ls_size L5m.lr ?_))
  rw [List.length_append, rg_len]
  have e9 : nI (s 2 + [q].length) - 1 = nI (s 2) := nI_pred _
  rw [e9]
  exact q1 h4 _ (((o1.trans o2).mono (fun t ht => ht.elim)).trans (o34.mono (fun t ht => by unfold Jo at ht; unfold De; omega))) P4
end
section
variable {κ : Nat → Nat} {m : Nat} {a s : Nat → Nat} {h : gh_H} {X : String → gh_H → Prop}
theorem mp_addJob {x : Int32} {Q : Int32 → gh_H → Prop} (P : MP m a s h) (I : IV s) (k1 : ∀ b, okB b → x = nI b → s 2 < 4 → ∀ h', Only Mo h h' → MP m a (jbS (sU s 0 0) b) h' → Q (nI (s 2)) h')
    (k2 : ∀ b, okB b → x = nI b → ¬ s 2 < 4 → ∀ h', Only Mo h h' → MP m a (sU s 0 2) h' → Q 0 h') (k0 : (∀ b, okB b → x ≠ nI b) → ∀ h', Only Mo h h' → MP m a (sU s 0 1) h' → Q 0 h') : wp_X3_addJob κ m x Q X h := by
  have i2 := I.2.1
  have e0 : ∀ i, i ≠ 0 → sU s 0 0 i = s i := fun i hi => sU_ne hi
  have main : ∀ b, okB b → x = nI b → wb_X3_addJob_24 κ Q X m x h := by
    intro b hb hx
    unfold wb_X3_addJob_24
    refine gs_GI P.1 rfl ⟨fun z => gs_RC P.1 (mp_fails (v := 2) P (k2 b hb hx ?_)), fun z => ?_⟩
    · have := (nI_eq (b := 4) (n31 (show s 2 ≤ 2000000 by omega)) (by decide)).mp z
      omega
    · have hlt : s 2 < 4 := by
        have : s 2 ≠ 4 := fun w => z (by rw [w]; rfl)
        omega
      refine mp_PV (k := 0) (v := 0) P (by decide) (fun h1 o1 P1 => gs_GR P1.1 rfl (gs_GI P1.1 rfl ?_))
      rw [hx, e0 2 (by decide)]
      refine mp_SI (k := 1) P1 (by decide) rfl (show s 2 < 4 by omega) (fun h2 o2 P2 => gs_GI P2.1 rfl ?_)
      have e2 : sU (sU s 0 0) (mB 1 + s 2) b 2 = s 2 := by rw [sU_ne (by show 2 ≠ 120 + s 2; omega), e0 2 (by decide)]
      rw [e2, nI_1]
      refine mp_PV (k := 2) P2 (by decide) (fun h3 o3 P3 => gs_GI P3.1 rfl ?_)
      rw [sU_self, show nI (s 2 + 1) - 1 = nI (s 2) from nI_pred _]
      have P4 : MP m a (jbS (sU s 0 0) b) h3 := by
        unfold jbS
        rw [e0 2 (by decide)]
        exact P3
      exact k1 b hb hx hlt h3 ((o1.trans o2).trans o3) P4
  unfold wp_X3_addJob
  refine ⟨fun z => main 115 (Or.inl rfl) z, fun n1 => ⟨fun z => main 112 (Or.inr (Or.inl rfl)) z, fun n2 => ⟨fun z => main 119 (Or.inr (Or.inr rfl)) z, fun n3 => gs_RC P.1 (mp_fails (v := 1) P (k0 (fun b hb => ?_)))⟩⟩⟩
  rcases hb with rfl | rfl | rfl
  · exact n1
  · exact n2
  · exact n3
end
section
variable {κ bd : Nat → Nat} {sc : Nat × Nat × (Nat → Int32)} {T : (Nat → Nat) → Nat → gh_H → Prop} {d m vO vD t : Nat} {h : gh_H} {K : gh_H → Prop}
theorem okB_eq {x : Int32} {b c : Nat} (hb : okB b) (hc : okB c) (h1 : x = nI b) (h2 : x = nI c) : c = b := by
  rw [h1] at h2
  have h3 : b < 2 ^ 31 := by unfold okB at hb; omega
  have h4 : c < 2 ^ 31 := by unfold okB at hc; omega
  exact ((nI_eq h3 h4).mp h2).symm
theorem o_addJob {x : Int32} {G : Int32 → gh_H → Prop} (hG : ∀ r3 h4, KC κ bd sc h4 → gh_RC h4 (some m) 1 (fun a5 => wp_X3_addJob κ a5 x (fun r6 h7 => TLw κ vO K r3 a5 r6 h7) (fun _ _ => False) h4) → G r3 h4) (hT : TKs T) (L : LI κ bd sc T d m vO vD t h) (k : ∀ h', LI κ bd sc T d m vO vD (t + 1) h' → K h') :
    wp_X0_addJob κ (some d) x (some vO) G (fun _ _ => False) h := by
  obtain ⟨a, s, ca, ja, la, A, ev, P, M, I, J, Y, E, B, C, O⟩ := L
  have i1 := I.1
  have i2 := I.2.1
  have j3 := J.1
  have j4 := J.2.1
  unfold wp_X0_addJob
  refine gs_RC P.1 (dk_addJob P C.1 C.2.1 C.2.2.1 (hT.1 s) I J Y (fun b hb hx hlt h1 ja' o1 P1 => ?_) (fun b hb hx hlt h1 o1 => Or.inr ⟨rfl, fun _ => ?_⟩) (fun hx h1 o1 => Or.inl ⟨rfl, fun _ => ?_⟩))
  · have f : ∀ s' : Nat → Nat, (∀ i, i ≠ 0 → s' i = jbS s b i) → IV s' ∧ IW s' ∧ IY s' ∧ IE s' ev ∧ IB s' ev (t + 1) := by
      intro s' f
      have f2 : ∀ i, i ≠ 0 → i ≠ 120 + s 2 → i ≠ 2 → s' i = s i := fun i h0 h1 h2 => by rw [f i h0, jbS_ne h1 h2]
      have fb : s' (120 + s 2) = b := by rw [f _ (by omega), jbS_b]
      have fj : s' 2 = s 2 + 1 := by rw [f 2 (by decide)]; exact sU_self _ _ _
      have b119 : b ≤ 119 := by unfold okB at hb; omega
      have b120 : ∀ j, j < 4 → s' (120 + j) ≤ 119 := fun j hj => by
        by_cases w : j = s 2
        · rw [w, fb]; exact b119
        · rw [f2 _ (by omega) (by omega) (by omega)]; exact (I.2.2.1 j hj).1
      refine ⟨?_, ?_, ?_, ?_, ?_⟩
      · unfold IV
        rw [f2 1 (by decide) (by omega) (by decide), fj, f2 10 (by decide) (by omega) (by decide), f2 11 (by decide) (by omega) (by decide)]
        refine ⟨I.1, by omega, fun j hj => ⟨b120 j hj, ?_⟩, fun j hj => ?_, fun j i hj hi => ?_, fun q hq => ?_, fun i hi => ?_, I.2.2.2.2.2.2.2.1, I.2.2.2.2.2.2.2.2⟩
        · rw [f2 _ (by omega) (by omega) (by omega)]
          exact (I.2.2.1 j hj).2
        · by_cases w : j = s 2
          · rw [w, fb]
            exact hb
          · rw [f2 _ (by omega) (by omega) (by omega)]
            exact I.2.2.2.1 j (by omega)
        · rw [f2 _ (by omega) (by omega) (by omega)] at hi
          rw [f2 _ (by omega) (by omega) (by omega)]
          exact I.2.2.2.2.1 j i hj hi
        · rw [f2 (100 + q) (by omega) (by omega) (by omega), f2 (340 + q) (by omega) (by omega) (by omega)]
          exact I.2.2.2.2.2.1 q hq
        · rw [f2 _ (by omega) (by omega) (by omega)]
          exact I.2.2.2.2.2.2.1 i hi
      · unfold IW
        rw [fj, f2 3 (by decide) (by omega) (by decide), f2 4 (by decide) (by omega) (by decide), f2 5 (by decide) (by omega) (by decide), f2 6 (by decide) (by omega) (by decide), f2 7 (by decide) (by omega) (by decide), f2 8 (by decide) (by omega) (by decide), f2 9 (by decide) (by omega) (by decide)]
        refine ⟨J.1, J.2.1, fun q hq => ?_, J.2.2.2.1, J.2.2.2.2.1, J.2.2.2.2.2.1, J.2.2.2.2.2.2.1, J.2.2.2.2.2.2.2.1, fun l hl => ?_⟩
        · rw [f2 _ (by omega) (by omega) (by omega)]
          exact J.2.2.1 q hq
        · have l3 := J.2.2.2.2.2.2.2.2 l hl
          rw [f2 (500 + l) (by omega) (by omega) (by omega), f2 (600 + l) (by omega) (by omega) (by omega), f2 (700 + l) (by omega) (by omega) (by omega), f2 (130 + s (500 + l)) (by omega) (by omega) (by omega)]
          exact ⟨by omega, l3.2.1, l3.2.2.1, l3.2.2.2.1, fun i hi => by rw [f2 _ (by omega) (by omega) (by omega)]; exact l3.2.2.2.2 i hi⟩
      · refine ⟨fun q h1 h2 => ?_, fun j h1 h2 => ?_, fun j n h1 h2 h3 => ?_⟩
        · rw [f2 1 (by decide) (by omega) (by decide)] at h1
          rw [f2 (100 + q) (by omega) (by omega) (by omega), f2 (340 + q) (by omega) (by omega) (by omega)]
          exact Y.1 q h1 h2
        · rw [fj] at h1
          rw [f2 _ (by omega) (by omega) (by omega)]
          exact Y.2.1 j (by omega) h2
        · rw [f2 _ (by omega) (by omega) (by omega)]
          by_cases w : j = s 2
          · have hy := Y.2.1 (s 2) (Nat.le_refl _) hlt
            have hns : nSh s (s 2) = 0 := nSh_n (fun w => by have := w.1; omega)
            rw [w]
            exact Y.2.2 (s 2) n hlt h2 (by omega)
          · have en : nSh s' j = nSh s j := by
              unfold nSh cnt
              rw [f2 (130 + j) (by omega) (by omega) (by omega), f2 (120 + j) (by omega) (by omega) (by omega)]
            rw [en] at h3
            exact Y.2.2 j n h1 h2 h3
      · refine ⟨fun y hy => ?_, fun q hq => ?_, fun l hl => ?_⟩
        · rw [f2 1 (by decide) (by omega) (by decide), f2 3 (by decide) (by omega) (by decide)]
          exact E.1 y hy
        · rw [f2 1 (by decide) (by omega) (by decide)] at hq
          rw [f2 _ (by omega) (by omega) (by omega)]
          exact E.2.1 q hq
        · rw [f2 3 (by decide) (by omega) (by decide)] at hl
          obtain ⟨pre, suf, h1, h2, h3⟩ := E.2.2 l hl
          refine ⟨pre, suf, h1, h2, fun i hi => ?_⟩
          rw [f2 (700 + l) (by omega) (by omega) (by omega)] at hi
          have : lCt s' l i = lCt s l i := by
            unfold lCt
            rw [f2 (500 + l) (by omega) (by omega) (by omega), f2 _ (by omega) (by omega) (by omega)]
          rw [f2 _ (by omega) (by omega) (by omega), this]
          exact h3 i hi
      · unfold IB
        rw [f2 3 (by decide) (by omega) (by decide), f2 4 (by decide) (by omega) (by decide), f2 5 (by decide) (by omega) (by decide), f2 6 (by decide) (by omega) (by decide), f2 10 (by decide) (by omega) (by decide), f2 11 (by decide) (by omega) (by decide)]
        exact B.succ
    have pm : ∀ i, i ≠ 0 → jbS (sU s 0 0) b i = jbS s b i := fun i hi => by
      unfold jbS
      rw [sU_ne (show 2 ≠ 0 by decide)]
      unfold sU
      split
      · rfl
      · split
        · rfl
        · first | rfl | rw [if_neg hi]
    have V1 := f (jbS s b) (fun i _ => rfl)
    have V2 := f _ pm
    refine o_do (hG := hG 0) (WM := fun a5 Q h4 => wp_X3_addJob κ a5 x Q (fun _ _ => False) h4) hT P1 (M.de o1) V1.1 V1.2.1 (fun i h0 _ _ _ => pm i h0) ?_ (fun i h1 h2 => ?_) ?_ V2.1 V2.2.1 V2.2.2.1 V2.2.2.2.1 V2.2.2.2.2 (C.de o1) (O.de o1) (fun h2 Q M2 kk => mp_addJob M2 I (fun b' hb' hx' _ h3 o3 M3 => ?_) (fun b' hb' hx' w => absurd hlt w) (fun z => absurd hx (z b hb))) k
    · rw [pm 4 (by decide), jbS_ne (by omega) (by decide)]
    · rw [pm i (by omega), jbS_ne (by omega) (by omega)]
    · rw [jbS_ne (by rw [sU_ne (by decide)]; omega) (by decide), sU_self]
    · rw [okB_eq hb hb' hx hx'] at M3
      exact kk h3 o3 M3
  · have oD : Only De h h1 := o1.mono (fun t w => w.elim)
    have P1 := P.keep (hT.1 s) I o1 (fun w => w) (fun t _ _ w => w)
    exact o_bad (c := 2) (hG := hG (nI 2)) (WM := fun a5 Q h4 => wp_X3_addJob κ a5 x Q (fun _ _ => False) h4) hT P1 (M.de oD) I J Y E B (C.de oD) (O.de oD) (by decide) (by decide) (fun Q kk => mp_addJob (M.de oD) I (fun b' hb' hx' w => absurd w hlt) (fun b' hb' hx' w => kk) (fun z => absurd hx (z b hb))) k
  · have oD : Only De h h1 := o1.mono (fun t w => w.elim)
    have P1 := P.keep (hT.1 s) I o1 (fun w => w) (fun t _ _ w => w)
    exact o_bad (c := 1) (hG := hG (nI 1)) (WM := fun a5 Q h4 => wp_X3_addJob κ a5 x Q (fun _ _ => False) h4) hT P1 (M.de oD) I J Y E B (C.de oD) (O.de oD) (by decide) (by decide) (fun Q kk => mp_addJob (M.de oD) I (fun b' hb' hx' w => absurd hx' (hx b' hb')) (fun b' hb' hx' w => absurd hx' (hx b' hb')) (fun _ => kk)) k
end
