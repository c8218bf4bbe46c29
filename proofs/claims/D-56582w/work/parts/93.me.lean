/-! PLAIN LAW, part ME: the shares; the plates' number -/
set_option maxRecDepth 100000
/-- the numbers of the plates made -/
def PF (s : Nat → Nat) (d : Nat) : Prop := d < 1441200 ∧ ∃ k, k < s 4 ∧ k < 1100 ∧ s (1000 + k) = mu d
/-- the plates' set -/
def TT (κ : Nat → Nat) (s : Nat → Nat) (a : Nat) (h : gh_H) : Prop := TR κ 13 a (PF s) (s 4) h
theorem TT_ks {κ : Nat → Nat} : TKs (TT κ) := by
  refine ⟨fun s a h h' S o n0 n P => TR.keep P o n0 (fun l h1 h2 => n l h1 (by omega)) (n 17 (by decide) (by decide)), fun s s' a h e1 e2 P => ?_⟩
  unfold TT at *
  rw [e1]
  refine TR.ext P (fun d => ?_)
  unfold PF
  rw [e1]
  constructor
  · rintro ⟨h1, k, h2, h3, h4⟩
    exact ⟨h1, k, h2, h3, by rw [e2 _ (by omega) (by omega)]; exact h4⟩
  · rintro ⟨h1, k, h2, h3, h4⟩
    exact ⟨h1, k, h2, h3, by rw [← e2 (1000 + k) (by omega) (by omega)]; exact h4⟩
theorem lg_zero {n : Nat} (h : n < 2 ^ 31) : lg_cmp (lN n) 0 = 0 ↔ n = 0 := by
  constructor
  · intro e
    rcases Nat.eq_zero_or_pos n with w | w
    · exact w
    · exfalso
      have h1 : (0 : Int64) < lN n := by
        rw [Int64.lt_iff_toInt_lt, lN_toInt h]
        show (0 : Int) < _
        omega
      unfold lg_cmp at e
      have h2 : ¬ lN n < 0 := by
        rw [Int64.lt_iff_toInt_lt] at h1 ⊢
        omega
      simp [h1, h2] at e
  · intro e
    subst e
    exact lg_same _
section
variable {κ bd : Nat → Nat} {sc : Nat × Nat × (Nat → Int32)} {d m vO vD t : Nat} {h : gh_H} {K : gh_H → Prop}
theorem o_plates (L : LI κ bd sc (TT κ) d m vO vD t h) (k : ∀ h', LI κ bd sc (TT κ) d m vO vD (t + 1) h' → K h') : gh_RC h (some d) 0 (fun a225 => wp_X1_plates κ a225 (fun r226 h227 => gh_RC h227 (some m) 1 (fun a228 => wp_X3_plates κ a228 (fun r229 h230 => ((r226 = r229 → K h230) ∧ (¬ r226 = r229 → (0 : Int32) = 1))) (fun _ _ => False) h227)) (fun _ _ => False) h) := by
  obtain ⟨a, s, ca, ja, la, A, ev, P, M, I, J, Y, E, B, C, O⟩ := L
  refine gs_RC P.1 ?_
  unfold wp_X1_plates
  have PT : TR κ 13 (A 4) (PF s) (s 4) h := P.2.2.2.2.2.2.2.2.2.2.2
  obtain ⟨fs, ec⟩ := PT.cell
  refine gs_GR P.1 rfl (gs_RC ec (tr_size PT (gs_RC M.1 ?_)))
  unfold wp_X3_plates
  refine o_zero TT_ks P M I J Y E B C O (fun h3 M3 L3 => gs_GI M3.1 rfl ?_)
  rw [sU_ne (show 4 ≠ 0 by decide)]
  exact ⟨fun _ => k h3 L3, fun z => absurd rfl z⟩
/-- the end of a call with a share -/
abbrev TLf (κ : Nat → Nat) (vD : Nat) (R : UInt32 → gh_H → Prop) (K : gh_H → Prop) (r3 : Int32) (a5 : Nat) (r6 : UInt32) (h7 : gh_H) : Prop := gh_RC h7 (some a5) 1 (fun _ => wp_X3_thrown κ a5 (fun r9 h10 => ((r9 = r3 → ((r3 = 0 → (gh_LD h10 (some vD) (0 : Int32) (fun x11 => (vf_n64 (FP.f2d r6) ∧ (((Op.cmpValue (FP.dcmp x11 (FP.f2d r6)) .l) = 0 → K h10) ∧ (¬ (Op.cmpValue (FP.dcmp x11 (FP.f2d r6)) .l) = 0 → R r6 h10)))))) ∧ (¬ r3 = 0 → K h10))) ∧ (¬ r9 = r3 → (0 : Int32) = 1))) (fun _ _ => False) h7)
abbrev TLd (κ : Nat → Nat) (vD : Nat) (R : UInt64 → gh_H → Prop) (K : gh_H → Prop) (r3 : Int32) (a5 : Nat) (r6 : UInt64) (h7 : gh_H) : Prop := gh_RC h7 (some a5) 1 (fun _ => wp_X3_thrown κ a5 (fun r9 h10 => ((r9 = r3 → ((r3 = 0 → (gh_LD h10 (some vD) (0 : Int32) (fun x11 => (((Op.cmpValue (FP.dcmp x11 r6) .l) = 0 → K h10) ∧ (¬ (Op.cmpValue (FP.dcmp x11 r6) .l) = 0 → R r6 h10))))) ∧ (¬ r3 = 0 → K h10))) ∧ (¬ r9 = r3 → (0 : Int32) = 1))) (fun _ _ => False) h7)
/-- what is put in outD -/
theorem ot_putD {x : UInt64} {W : gh_H → Prop} (O : OT vO vD h) (k : ∀ h', Only (fun t => t = 51) h h' → OT vO vD h' → (∃ f : Nat → UInt64, h' vD = some (51, .inl (2, 1, .inr (.inr (.inr (.inl f))))) ∧ f 0 = x) → W h') : gh_SD h (some vD) (0 : Int32) x W := by
  obtain ⟨⟨f, h1⟩, g, h2⟩ := O
  have hne : vO ≠ vD := lb_ne h1 h2 (by decide)
  refine ⟨vD, 51, 1, g, rfl, h2, by decide, vp_in_nI (n := 0) (by decide) (by decide), ?_⟩
  have e : (0 : Int32).toNatClampNeg = 0 := rfl
  rw [e]
  exact k _ (Only.up h2 rfl) ⟨⟨f, by rw [gu_ne hne]; exact h1⟩, _, gu_self _ _ _⟩ ⟨_, gu_self _ _ _, by simp [vf_upd]⟩
theorem o_wasteShare {T : (Nat → Nat) → Nat → gh_H → Prop} {R : UInt32 → gh_H → Prop} {G : Int32 → gh_H → Prop} (hG : ∀ r3 h4, KC κ bd sc h4 → gh_RC h4 (some m) 1 (fun a5 => wp_X3_wasteShare κ a5 (fun r6 h7 => TLf κ vD R K r3 a5 r6 h7) (fun _ _ => False) h4) → G r3 h4) (hT : TKs T) (L : LI κ bd sc T d m vO vD t h) (k : ∀ h', LI κ bd sc T d m vO vD (t + 1) h' → K h') :
    wp_X0_wasteShare κ (some d) (some vD) G (fun _ _ => False) h := by
  obtain ⟨a, s, ca, ja, la, A, ev, P, M, I, J, Y, E, B, C, O⟩ := L
  have i10 := I.2.2.2.2.2.2.2.1
  have i11 := I.2.2.2.2.2.2.2.2
  have ep := P.2.2.2.2.2.2.2.2.1
  have ew := P.2.2.2.2.2.2.2.2.2.1
  unfold wp_X0_wasteShare wp_X1_wasteShare wp_X2_count
  refine gs_RC P.1 (gs_GR P.1 rfl (gs_RC ep ⟨_, 10, 2, 0, _, lN (s 11), rfl, ep, by decide, rfl, ⟨fun z => ⟨rfl, fun _ => ?_⟩, fun z => ?_⟩⟩))
  · have z0 := (lg_zero (n31 (by omega))).mp z
    unfold wb_X0_wasteShare_11
    refine hG 1 h C (gs_RC M.1 ?_)
    unfold wp_X3_wasteShare wb_X3_wasteShare_15 wb_X3_wasteShare_42
    refine gs_GJ M.1 rfl ⟨fun _ => mp_PV (k := 0) (v := 1) M (by decide) (fun h3 o3 M3 => gs_GJ M3.1 rfl ?_), fun w => absurd (by rw [z0]; exact lg_same _) w⟩
    rw [sU_ne (show 11 ≠ 0 by decide)]
    refine ⟨fun _ => ?_, fun w => absurd z w⟩
    unfold TLf wp_X3_thrown
    refine gs_RC M3.1 (gs_GI M3.1 rfl ⟨fun _ => ⟨fun z => absurd z (by decide), fun _ => ?_⟩, fun z => absurd rfl z⟩)
    exact k h3 (LI.same hT (P.mo (hT.1 s) I o3) M3 I J Y E B (C.mo o3) (O.mo o3))
  · have z0 : s 11 ≠ 0 := fun w => z ((lg_zero (n31 (by omega))).mpr w)
    have fp := fp_share (w := s 10) (p := s 11) (by omega) (by omega) (by omega)
    refine gs_GR P.1 rfl (gs_RC ew ⟨_, 11, 2, 0, _, lN (s 10), rfl, ew, by decide, rfl, gs_GR P.1 rfl (gs_RC ep ⟨_, 10, 2, 0, _, lN (s 11), rfl, ep, by decide, rfl, fp.1, fp.2.1, ?_⟩)⟩)
    refine ot_putD O (fun h2 o2 O2 hv => hG 0 h2 (C.keep o2 (by decide)) (gs_RC (o2 _ _ _ M.1 (by decide)) ?_))
    have P2 := P.keep (hT.1 s) I o2 (by decide) (fun t ht _ => by unfold De at ht; omega)
    have M2 := M.keep o2 (fun t ht => by unfold Mo at ht; omega)
    unfold wp_X3_wasteShare wb_X3_wasteShare_15 wb_X3_wasteShare_42
    refine gs_GJ M2.1 rfl ⟨fun w => absurd w z, fun _ => mp_PV (k := 0) (v := 0) M2 (by decide) (fun h3 o3 M3 => gs_GJ M3.1 rfl ?_)⟩
    rw [sU_ne (show 11 ≠ 0 by decide)]
    refine ⟨fun w => absurd w z, fun _ => gs_GJ M3.1 rfl (gs_GJ M3.1 rfl ?_)⟩
    rw [sU_ne (show 11 ≠ 0 by decide), sU_ne (show 10 ≠ 0 by decide)]
    refine ⟨fp.1, ?_⟩
    unfold TLf wp_X3_thrown
    refine gs_RC M3.1 (gs_GI M3.1 rfl ⟨fun _ => ⟨fun _ => ?_, fun z => absurd rfl z⟩, fun z => absurd rfl z⟩)
    obtain ⟨f, e1, e2⟩ := hv
    refine ⟨vD, 51, 1, f, rfl, o3 _ _ _ e1 (by unfold Mo; omega), vp_in_nI (n := 0) (by decide) (by decide), fp.2.1, ?_⟩
    have e0 : (0 : Int32).toNatClampNeg = 0 := rfl
    rw [e0, e2]
    exact ⟨fun _ => k h3 (LI.same hT (P2.mo (hT.1 s) I o3) M3 I J Y E B ((C.keep o2 (by decide)).mo o3) (O2.mo o3)), fun w => absurd fp.2.2 w⟩
theorem o_mean {T : (Nat → Nat) → Nat → gh_H → Prop} {R : UInt64 → gh_H → Prop} {G : Int32 → gh_H → Prop} (hG : ∀ r3 h4, KC κ bd sc h4 → gh_RC h4 (some m) 1 (fun a5 => wp_X3_meanMakeready κ a5 (fun r6 h7 => TLd κ vD R K r3 a5 r6 h7) (fun _ _ => False) h4) → G r3 h4) (hT : TKs T) (L : LI κ bd sc T d m vO vD t h) (k : ∀ h', LI κ bd sc T d m vO vD (t + 1) h' → K h') :
    wp_X0_meanMakeready κ (some d) (some vD) G (fun _ _ => False) h := by
  obtain ⟨a, s, ca, ja, la, A, ev, P, M, I, J, Y, E, B, C, O⟩ := L
  have j5 := J.2.2.2.1
  have j6 := J.2.2.2.2.1
  have zz : nI (s 5) = 0 ↔ s 5 = 0 := nI_eq (b := 0) (n31 (by omega)) (by decide)
  unfold wp_X0_meanMakeready wp_X1_meanMakeready
  refine gs_RC P.1 (gs_GI P.1 rfl ⟨fun z => ⟨rfl, fun _ => ?_⟩, fun z => ?_⟩)
  · have z0 := zz.mp z
    unfold wb_X0_meanMakeready_10
    refine hG 1 h C (gs_RC M.1 ?_)
    unfold wp_X3_meanMakeready wb_X3_meanMakeready_13 wb_X3_meanMakeready_38
    refine gs_GI M.1 rfl ⟨fun _ => mp_PV (k := 0) (v := 1) M (by decide) (fun h3 o3 M3 => gs_GI M3.1 rfl ?_), fun w => absurd z w⟩
    rw [sU_ne (show 5 ≠ 0 by decide)]
    refine ⟨fun _ => ?_, fun w => absurd z w⟩
    unfold TLd wp_X3_thrown
    refine gs_RC M3.1 (gs_GI M3.1 rfl ⟨fun _ => ⟨fun z => absurd z (by decide), fun _ => ?_⟩, fun z => absurd rfl z⟩)
    exact k h3 (LI.same hT (P.mo (hT.1 s) I o3) M3 I J Y E B (C.mo o3) (O.mo o3))
  · have z0 : s 5 ≠ 0 := fun w => z (zz.mpr w)
    have fp := fp_mean (w := s 6) (p := s 5) (by omega) (by omega) (by omega)
    refine gs_GJ P.1 rfl (gs_GI P.1 rfl ?_)
    rw [fp.1]
    refine ⟨fp.2.1, ?_⟩
    refine ot_putD O (fun h2 o2 O2 hv => hG 0 h2 (C.keep o2 (by decide)) (gs_RC (o2 _ _ _ M.1 (by decide)) ?_))
    have P2 := P.keep (hT.1 s) I o2 (by decide) (fun t ht _ => by unfold De at ht; omega)
    have M2 := M.keep o2 (fun t ht => by unfold Mo at ht; omega)
    unfold wp_X3_meanMakeready wb_X3_meanMakeready_13 wb_X3_meanMakeready_38
    refine gs_GI M2.1 rfl ⟨fun w => absurd w z, fun _ => mp_PV (k := 0) (v := 0) M2 (by decide) (fun h3 o3 M3 => gs_GI M3.1 rfl ?_)⟩
    rw [sU_ne (show 5 ≠ 0 by decide)]
    refine ⟨fun w => absurd w z, fun _ => gs_GI M3.1 rfl (gs_GI M3.1 rfl ?_)⟩
    rw [sU_ne (show 5 ≠ 0 by decide), sU_ne (show 6 ≠ 0 by decide)]
    refine ⟨fp.2.1, ?_⟩
    unfold TLd wp_X3_thrown
    refine gs_RC M3.1 (gs_GI M3.1 rfl ⟨fun _ => ⟨fun _ => ?_, fun z => absurd rfl z⟩, fun z => absurd rfl z⟩)
    obtain ⟨f, e1, e2⟩ := hv
    refine ⟨vD, 51, 1, f, rfl, o3 _ _ _ e1 (by unfold Mo; omega), vp_in_nI (n := 0) (by decide) (by decide), ?_⟩
    have e0 : (0 : Int32).toNatClampNeg = 0 := rfl
    rw [e0, e2]
    exact ⟨fun _ => k h3 (LI.same hT (P2.mo (hT.1 s) I o3) M3 I J Y E B ((C.keep o2 (by decide)).mo o3) (O2.mo o3)), fun w => absurd fp.2.2 w⟩
end
