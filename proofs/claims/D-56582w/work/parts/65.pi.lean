/-! PLAIN LAW, part I: new contents -/
set_option maxRecDepth 100000
/-- what isn't there yet is nought -/
def IY (s : Nat → Nat) : Prop := (∀ c, s 1 ≤ c → c < 12 → s (100 + c) = 0 ∧ s (340 + c) = 0) ∧ (∀ j, s 2 ≤ j → j < 4 → s (130 + j) = 0) ∧ (∀ j n, j < 4 → n < 8 → nSh s j ≤ n → s (300 + (8 * j + n)) = 0)
theorem lb_ne {h : gh_H} {a b la lb : Nat} {x y : gh_C} (ha : h a = some (la, x)) (hb : h b = some (lb, y)) (hn : la ≠ lb) : a ≠ b := fun z => by
  rw [z, hb] at ha
  exact hn (congrArg Prod.fst (Option.some.inj ha)).symm
theorem OB.of {h : gh_H} {a lb ci : Nat} {fs : List Value} (e : h a = some (lb, .inr (ci, fs))) (hc : ci ∈ gh_os) : OB h a := ⟨lb, ci, fs, e, hc⟩
section
variable {κ bd ca ja la A : Nat → Nat} {T : Nat → gh_H → Prop} {d : Nat} {s : Nat → Nat} {ev : List Nat} {h : gh_H} {X : String → gh_H → Prop}
theorem CP.ob (C : CP ca s h) : ∀ y ∈ (List.range (s 1)).map ca, OB h y := by
  intro y hy
  obtain ⟨c, hc, rfl⟩ := List.mem_map.mp hy
  exact OB.of (C c (List.mem_range.mp hc)) (by decide)
theorem dk_addContent {Q : Int32 → gh_H → Prop} (P : DP κ bd ca ja la A T d s ev h) (N : CN0 κ h) (hT : TK T) (I : IV s) (J : IW s) (Y : IY s) (E : IE s ev) (k1 : s 1 < 12 → ∀ ca' h', Only De h h' → DP κ bd ca' ja la A T d (sU s 1 (s 1 + 1)) ev h' → Q (nI (s 1)) h') (k0 : s 1 = 12 → X "java/lang/IllegalStateException" h) : wp_X1_addContent κ d Q X h := by
  have hs := I.1
  have hs2 := I.2.1
  obtain ⟨mc, p2⟩ := id P.2.1
  have L := p2.lr
  obtain ⟨al, hal, -⟩ := id L
  have p1 := P.1
  unfold wp_X1_addContent
  refine gs_GR p1 rfl (gs_RC hal (ls_size L ?_))
  rw [rg_len]
  refine ⟨fun z => ?_, fun z => ?_⟩
  · unfold wb_X1_addContent_19 wp_X1_requireState
    have := (nI_leI (a := 12) (by decide) (n31 (by omega))).mp z
    exact ⟨fun _ => k0 (by omega), fun w => absurd rfl w⟩
  have hlt : s 1 < 12 := by
    rcases Nat.lt_or_ge (s 1) 12 with w | w
    · exact w
    · exact absurd (nI_le w (n31 (by omega))) z
  unfold wb_X1_addContent_19 wp_X1_requireState
  refine ⟨(fun w => by cases w), fun _ => gs_GR p1 rfl (gs_NO (70 + s 1) (by omega) (fun q hq => ?_))⟩
  have o1 : Only (fun _ => False) h (gh_up h q (70 + s 1, .inr (4, [.int 0, .int 0, .int 0]))) := Only.new hq
  refine gs_GR (o1 _ _ _ p1 (fun w => w)) rfl (gs_RC (o1 _ _ _ hal (fun w => w)) (ls_size (L.keep o1 (fun w => w) (fun w => w)) ?_))
  rw [rg_len]
  unfold wp_X4_init
  refine gs_PV (gu_self _ _ _) (by omega) (Nat.le_of_ble_eq_true rfl) ?_
  rw [gu_idem]
  have o2 : Only (fun _ => False) h (gh_up h q (70 + s 1, .inr (4, [.int (nI (s 1)), .int 0, .int 0]))) := Only.new hq
  have eq2 := gu_self h q (70 + s 1, .inr (4, [.int (nI (s 1)), .int 0, .int 0]))
  refine gs_RC (o2 _ _ _ hal (fun w => w)) (ls_add (N.keep o2 (fun w => w)) (P.2.1.keep o2 (fun w => w) (fun w => w)) (by decide) (by rw [rg_len]; omega) (fun y hy => (P.2.2.1.ob y hy).new hq) (OB.of eq2 (by decide)) (fun h3 o3 L3 => ?_))
  have o : Only (fun t => t = 2 ∨ t = 2 + 1) h h3 := (o2.mono (fun t z => z.elim)).trans o3
  have P1 := P.cag (ca' := fun c => if c = s 1 then q else ca c) I J E (fun c hc => if_neg (by omega))
  have el : (List.range (s 1)).map ca ++ [q] = (List.range (s 1 + 1)).map (fun c => if c = s 1 then q else ca c) := by
    rw [rg_succ, if_pos rfl]
    congr 1
    exact List.map_congr_left (fun i hi => (if_neg (by have := List.mem_range.mp hi; omega)).symm)
  rw [el] at L3
  obtain ⟨mc3, L3'⟩ := id L3
  obtain ⟨al3, hal3, -⟩ := id L3'
  refine gs_GR (o _ _ _ p1 (by omega)) rfl (gs_RC hal3 (ls_size L3'.lr ?_))
  rw [rg_len, show nI (s 1 + 1) - 1 = nI (s 1) from nI_pred _]
  refine k1 hlt (fun c => if c = s 1 then q else ca c) h3 (o.mono (fun t ht => by unfold De; omega)) ?_
  obtain ⟨q1, q2, q3, q4, q5, ⟨xs, q6, q6b⟩, q7, q8, q9, q10, ⟨f, q11, q12⟩, q13⟩ := P1
  have e : ∀ i, i ≠ 1 → sU s 1 (s 1 + 1) i = s i := fun i hi => sU_ne hi
  unfold DP DKf pbV
  rw [e 2 (by decide), e 3 (by decide), e 5 (by decide), e 6 (by decide), e 7 (by decide), e 8 (by decide), e 9 (by decide), e 10 (by decide), e 11 (by decide), sU_self]
  refine ⟨o _ _ _ q1 (by omega), L3, fun c hc => ?_, q4.keep o (by omega) (by omega), fun j hj => JP_cg (fun i hi => e i (by omega)) (by omega) (I.2.2.1 j (by omega)).2 ((q5 j hj).keep o (fun t a b => by omega)), ⟨xs, q6.keep o (by omega) (by omega), q6b.keep o (by omega)⟩, q7.keep o (by omega) (by omega), fun k hk => LOT_cg (fun i hi => e i (by omega)) I J hk ((q8 k hk).keep o (fun t a => by omega)), o _ _ _ q9 (by omega), o _ _ _ q10 (by omega), ⟨f, o _ _ _ q11 (by omega), q12⟩, hT _ _ _ _ o (by omega) (fun t a b => by omega) q13⟩
  rw [sU_self] at hc
  rw [e _ (by omega), e _ (by omega)]
  by_cases w : c = s 1
  · subst w
    have := Y.1 (s 1) (Nat.le_refl _) hlt
    show h3 (if s 1 = s 1 then q else ca (s 1)) = _
    rw [if_pos rfl, this.1, this.2]
    exact o3 _ _ _ eq2 (by omega)
  · exact o _ _ _ (q3 c (by omega)) (by omega)
end
