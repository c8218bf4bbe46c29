/-! PLAIN LAW, part LH: lots, waste -/
set_option maxRecDepth 100000
section
variable {κ bd : Nat → Nat} {sc : Nat × Nat × (Nat → Int32)} {T : (Nat → Nat) → Nat → gh_H → Prop} {d m vO vD t : Nat} {h : gh_H} {K : gh_H → Prop}
/-- the model has set thrown to 0 -/
theorem o_zero {a s ca ja la A : Nat → Nat} {ev : List Nat} (hT : TKs T) (P : DP κ bd ca ja la A (T s) d s ev h) (M : MP m a s h) (I : IV s) (J : IW s) (Y : IY s) (E : IE s ev) (B : IB s ev t) (C : KC κ bd sc h) (O : OT vO vD h) {W : gh_H → Prop} (k : ∀ h', MP m a (sU s 0 0) h' → LI κ bd sc T d m vO vD (t + 1) h' → W h') : gh_PV h (some m) [(1, 0)] (.int (0 : Int32)) W :=
  mp_PV (k := 0) (v := 0) M (by decide) (fun h3 o3 M3 => k h3 M3 (LI.same hT (P.mo (hT.1 s) I o3) M3 I J Y E B (C.keep o3 (by unfold Mo; omega)) (O.keep o3 (by unfold Mo; omega) (by unfold Mo; omega))))
theorem o_lots (hT : TKs T) (L : LI κ bd sc T d m vO vD t h) (k : ∀ h', LI κ bd sc T d m vO vD (t + 1) h' → K h') : gh_RC h (some d) 0 (fun a225 => wp_X1_lots κ a225 (fun r226 h227 => gh_RC h227 (some m) 1 (fun a228 => wp_X3_lots κ a228 (fun r229 h230 => ((r226 = r229 → K h230) ∧ (¬ r226 = r229 → (0 : Int32) = 1))) (fun _ _ => False) h227)) (fun _ _ => False) h) := by
  obtain ⟨a, s, ca, ja, la, A, ev, P, M, I, J, Y, E, B, C, O⟩ := L
  refine gs_RC P.1 ?_
  unfold wp_X1_lots
  obtain ⟨mc, p7⟩ := id P.2.2.2.2.2.2.1
  obtain ⟨al, hal, -⟩ := id p7
  refine gs_GR P.1 rfl (gs_RC hal (ls_size p7.lr (gs_RC M.1 ?_)))
  unfold wp_X3_lots
  refine o_zero hT P M I J Y E B C O (fun h3 M3 L3 => gs_GI M3.1 rfl ?_)
  rw [rg_len, sU_ne (show 3 ≠ 0 by decide)]
  exact ⟨fun _ => k h3 L3, fun z => absurd rfl z⟩
theorem o_waste (hT : TKs T) (L : LI κ bd sc T d m vO vD t h) (k : ∀ h', LI κ bd sc T d m vO vD (t + 1) h' → K h') : gh_RC h (some d) 0 (fun a279 => wp_X1_waste κ a279 (fun r280 h281 => gh_RC h281 (some m) 1 (fun a282 => wp_X3_waste κ a282 (fun r283 h284 => (((lg_cmp r280 r283) = 0 → K h284) ∧ (¬ (lg_cmp r280 r283) = 0 → (0 : Int32) = 1))) (fun _ _ => False) h281)) (fun _ _ => False) h) := by
  obtain ⟨a, s, ca, ja, la, A, ev, P, M, I, J, Y, E, B, C, O⟩ := L
  refine gs_RC P.1 ?_
  unfold wp_X1_waste wp_X2_count
  have ew := P.2.2.2.2.2.2.2.2.2.1
  refine gs_GR P.1 rfl (gs_RC ew ⟨_, 11, 2, 0, _, lN (s 10), rfl, ew, by decide, rfl, gs_RC M.1 ?_⟩)
  unfold wp_X3_waste
  refine o_zero hT P M I J Y E B C O (fun h3 M3 L3 => gs_GJ M3.1 rfl ?_)
  rw [sU_ne (show 10 ≠ 0 by decide)]
  show (lg_cmp (lN (s 10)) (lN (s 10)) = 0 → K h3) ∧ (¬ lg_cmp (lN (s 10)) (lN (s 10)) = 0 → (0 : Int32) = 1)
  rw [lg_same]
  exact ⟨fun _ => k h3 L3, fun z => absurd rfl z⟩
end
