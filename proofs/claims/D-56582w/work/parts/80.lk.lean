/-! PLAIN LAW, part LK: approve on both sides -/
set_option maxRecDepth 100000
/-- the end of a call with a truth value -/
abbrev TLb (κ : Nat → Nat) (vO : Nat) (K : gh_H → Prop) (r3 : Int32) (a5 : Nat) (r6 : Int32) (h7 : gh_H) : Prop := gh_RC h7 (some a5) 1 (fun _ => wp_X3_thrown κ a5 (fun r9 h10 => ((r9 = r3 → ((r3 = 0 → gh_LJ h10 (some vO) (0 : Int32) (fun x11 => (r6 = 0 → ((lg_cmp x11 (0 : Int64)) = 0 → K h10) ∧ (¬ (lg_cmp x11 (0 : Int64)) = 0 → (0 : Int32) = 1)) ∧ (¬ r6 = 0 → ((lg_cmp x11 (1 : Int64)) = 0 → K h10) ∧ (¬ (lg_cmp x11 (1 : Int64)) = 0 → (0 : Int32) = 1)))) ∧ (¬ r3 = 0 → K h10))) ∧ (¬ r9 = r3 → (0 : Int32) = 1))) (fun _ _ => False) h7)
theorem inv_ap {s s' : Nat → Nat} {ev : List Nat} {t : Nat} (I : IV s) (J : IW s) (Y : IY s) (E : IE s ev) (B : IB s ev t) (f : ∀ i, i ≠ 0 → ¬ (340 ≤ i ∧ i < 352) → s' i = s i) (f1 : ∀ c, c < 12 → s' (340 + c) ≤ 1) (f0 : ∀ c, s 1 ≤ c → c < 12 → s' (340 + c) = 0) : IV s' ∧ IW s' ∧ IY s' ∧ IE s' ev ∧ IB s' ev t := by
  refine ⟨?_, ?_, ?_, ?_, ?_⟩
  · unfold IV
    rw [f 1 (by decide) (by decide), f 2 (by decide) (by decide), f 10 (by decide) (by decide), f 11 (by decide) (by decide)]
    refine ⟨I.1, I.2.1, fun j hj => ?_, fun j hj => ?_, fun j i hj hi => ?_, fun c hc => ?_, fun i hi => ?_, I.2.2.2.2.2.2.2.1, I.2.2.2.2.2.2.2.2⟩
    · rw [f _ (by omega) (by omega), f _ (by omega) (by omega)]
      exact I.2.2.1 j hj
    · have := I.2.1
      rw [f _ (by omega) (by omega)]
      exact I.2.2.2.1 j hj
    · rw [f _ (by omega) (by omega)] at hi
      have := (I.2.2.1 j hj).2
      rw [f _ (by omega) (by omega)]
      exact I.2.2.2.2.1 j i hj hi
    · rw [f _ (by omega) (by omega)]
      exact ⟨(I.2.2.2.2.2.1 c hc).1, f1 c hc⟩
    · rw [f _ (by omega) (by omega)]
      exact I.2.2.2.2.2.2.1 i hi
  · unfold IW
    rw [f 2 (by decide) (by decide), f 3 (by decide) (by decide), f 4 (by decide) (by decide), f 5 (by decide) (by decide), f 6 (by decide) (by decide), f 7 (by decide) (by decide), f 8 (by decide) (by decide), f 9 (by decide) (by decide)]
    refine ⟨J.1, J.2.1, fun k hk => ?_, J.2.2.2.1, J.2.2.2.2.1, J.2.2.2.2.2.1, J.2.2.2.2.2.2.1, J.2.2.2.2.2.2.2.1, fun l hl => ?_⟩
    · rw [f _ (by omega) (by omega)]
      exact J.2.2.1 k hk
    · have := J.2.2.2.2.2.2.2.2 l hl
      have h2 := I.2.1
      rw [f (500 + l) (by omega) (by omega), f (600 + l) (by omega) (by omega), f (700 + l) (by omega) (by omega), f (130 + s (500 + l)) (by omega) (by omega)]
      exact ⟨this.1, this.2.1, this.2.2.1, this.2.2.2.1, fun k hk => by rw [f _ (by omega) (by omega)]; exact this.2.2.2.2 k hk⟩
  · refine ⟨fun c h1 h2 => ?_, fun j h1 h2 => ?_, fun j n h1 h2 h3 => ?_⟩
    · rw [f 1 (by decide) (by decide)] at h1
      rw [f _ (by omega) (by omega)]
      exact ⟨(Y.1 c (by omega) h2).1, f0 c h1 h2⟩
    · rw [f 2 (by decide) (by decide)] at h1
      rw [f _ (by omega) (by omega)]
      exact Y.2.1 j h1 h2
    · have : nSh s' j = nSh s j := by
        unfold nSh cnt
        rw [f _ (by omega) (by omega), f _ (by omega) (by omega)]
      rw [this] at h3
      rw [f _ (by omega) (by omega)]
      exact Y.2.2 j n h1 h2 h3
  · refine ⟨fun x hx => ?_, fun c hc => ?_, fun k hk => ?_⟩
    · rw [f 1 (by decide) (by decide), f 3 (by decide) (by decide)]
      exact E.1 x hx
    · rw [f 1 (by decide) (by decide)] at hc
      have := I.1
      rw [f _ (by omega) (by omega)]
      exact E.2.1 c hc
    · rw [f 3 (by decide) (by decide)] at hk
      obtain ⟨pre, suf, h1, h2, h3⟩ := E.2.2 k hk
      refine ⟨pre, suf, h1, h2, fun i hi => ?_⟩
      rw [f _ (by omega) (by omega)] at hi
      have l3 := J.2.2.2.2.2.2.2.2 k hk
      have l2 := I.2.1
      have l4 := ltp16 I J hk
      have : lCt s' k i = lCt s k i := by
        unfold lCt
        rw [f (500 + k) (by omega) (by omega), f _ (by omega) (by omega)]
      rw [f _ (by omega) (by omega), this]
      exact h3 i hi
  · unfold IB
    rw [f 3 (by decide) (by decide), f 4 (by decide) (by decide), f 5 (by decide) (by decide), f 6 (by decide) (by decide), f 10 (by decide) (by decide), f 11 (by decide) (by decide)]
    exact B
section
variable {κ bd : Nat → Nat} {sc : Nat × Nat × (Nat → Int32)} {T : (Nat → Nat) → Nat → gh_H → Prop} {d m vO vD t : Nat} {h : gh_H} {K : gh_H → Prop}
theorem lw_tailb {c vO b : Nat} {a s : Nat → Nat} {h : gh_H} {K : gh_H → Prop} (P : MP m a s h) (hc : s 0 = c) (h31 : c < 2 ^ 31) (hb : b ≤ 1) (ho : c = 0 → ∃ f : Nat → Int64, h vO = some (50, .inl (1, 1, .inr (.inl f))) ∧ f 0 = lN b) (k : K h) : TLb κ vO K (nI c) m (nI b) h := by
  unfold TLb wp_X3_thrown
  refine gs_RC P.1 (gs_GI P.1 rfl ⟨fun _ => ⟨fun z => ?_, fun _ => k⟩, fun z => absurd (by rw [hc]) z⟩)
  obtain ⟨f, h1, h2⟩ := ho ((nI_eq (b := 0) h31 (by decide)).mp z)
  refine ⟨vO, 50, 1, f, rfl, h1, vp_in_nI (n := 0) (by decide) (by decide), ?_⟩
  have e : (0 : Int32).toNatClampNeg = 0 := rfl
  rw [e]
  show (nI b = 0 → (lg_cmp (f 0) (0 : Int64) = 0 → K h) ∧ (¬ lg_cmp (f 0) (0 : Int64) = 0 → (0 : Int32) = 1)) ∧ (¬ nI b = 0 → (lg_cmp (f 0) (1 : Int64) = 0 → K h) ∧ (¬ lg_cmp (f 0) (1 : Int64) = 0 → (0 : Int32) = 1))
  rw [h2]
  rcases (show b = 0 ∨ b = 1 by omega) with rfl | rfl
  · refine ⟨fun _ => ⟨fun _ => k, fun w => absurd (lg_same _) w⟩, fun z => absurd rfl z⟩
  · refine ⟨(fun z => by cases z), fun _ => ⟨fun _ => k, fun w => absurd (lg_same _) w⟩⟩
theorem o_approve {x : Int32} {G : Int32 → gh_H → Prop} (hG : ∀ r3 h4, KC κ bd sc h4 → gh_RC h4 (some m) 1 (fun a5 => wp_X3_approve κ a5 x (fun r6 h7 => TLb κ vO K r3 a5 r6 h7) (fun _ _ => False) h4) → G r3 h4) (hT : TKs T) (L : LI κ bd sc T d m vO vD t h) (k : ∀ h', LI κ bd sc T d m vO vD (t + 1) h' → K h') :
    wp_X0_approve κ (some d) x (some vO) G (fun _ _ => False) h := by
  obtain ⟨a, s, ca, ja, la, A, ev, P, M, I, J, Y, E, B, C, O⟩ := L
  have h1 := I.1
  unfold wp_X0_approve
  refine gs_RC P.1 (dk_approve P (hT.1 s) I J (fun c hc hx h1 o1 P1 => ?_) (fun hx => ⟨rfl, fun _ => ?_⟩))
  · have hap := (I.2.2.2.2.2.1 c (by omega)).2
    have V1 := inv_ap (s' := sU s (340 + c) 1) I J Y E B.succ (fun i h0 hi => sU_ne (by omega)) (fun c' hc' => by
      by_cases w : c' = c
      · rw [w, sU_self]; omega
      · rw [sU_ne (by omega)]; exact (I.2.2.2.2.2.1 c' hc').2) (fun c' h1 h2 => by rw [sU_ne (by omega)]; exact (Y.1 c' h1 h2).2)
    have V2 := inv_ap (s' := sU (sU s 0 0) (340 + c) 1) I J Y E B.succ (fun i h0 hi => by rw [sU_ne (by omega), sU_ne h0]) (fun c' hc' => by
      by_cases w : c' = c
      · rw [w, sU_self]; omega
      · rw [sU_ne (by omega), sU_ne (by omega)]; exact (I.2.2.2.2.2.1 c' hc').2) (fun c' h1 h2 => by rw [sU_ne (by omega), sU_ne (by omega)]; exact (Y.1 c' h1 h2).2)
    have hq : sD (sU s (340 + c) 1) (sU (sU s 0 0) (340 + c) 1) := fun i h0 _ _ _ => by
      by_cases w : i = 340 + c
      · rw [w, sU_self, sU_self]
      · rw [sU_ne w, sU_ne w, sU_ne h0]
    have put : wb_X0_approve_15 κ G (fun _ _ => False) (some vO) (0 : Int32) (lN (s (340 + c))) h1 := by
      unfold wb_X0_approve_15
      refine ot_put (O.de o1) (fun h2 o2 O2 hv => hG 0 h2 ((C.de o1).keep o2 (by decide)) (gs_RC (o2 _ _ _ (M.de o1).1 (by decide)) ?_))
      have P2 := P1.keep (hT.1 s) V1.1 o2 (by decide) (fun t ht _ => by unfold De at ht; omega)
      have M2 := (M.de o1).keep o2 (fun t ht => by unfold Mo at ht; omega)
      refine mp_approve M2 I (fun c' hc' hx' h3 o3 M3 => ?_) (fun z => (ix_out (by omega) hc hx z).elim)
      have ec := ix_eq (by omega) hc hc' hx hx'
      subst ec
      refine lw_tailb (c := 0) M3 (by rw [sU_ne (by omega), sU_self]) (by decide) hap (fun _ => ?_) ?_
      · obtain ⟨f, e1, e2⟩ := hv
        exact ⟨f, o3 _ _ _ e1 (by unfold Mo; omega), e2⟩
      · have P3 := (P2.mo (hT.1 s) V1.1 o3).T (T2 := T (sU (sU s 0 0) (340 + c') 1)) (fun z => hT.2 s _ _ _ (by rw [sU_ne (by omega), sU_ne (by decide)]) (fun i a1 a2 => by rw [sU_ne (by omega), sU_ne (by omega)]) z)
        exact k h3 ⟨a, _, ca, ja, la, A, ev, P3.sD V1.1 V1.2.1 hq, M3, V2.1, V2.2.1, V2.2.2.1, V2.2.2.2.1, V2.2.2.2.2, ((C.de o1).keep o2 (by decide)).mo o3, O2.mo o3⟩
    rcases (show s (340 + c) = 0 ∨ s (340 + c) = 1 by omega) with e | e
    · rw [e] at put ⊢
      exact ⟨fun _ => put, fun z => absurd rfl z⟩
    · rw [e] at put ⊢
      exact ⟨(fun z => by cases z), fun _ => put⟩
  · unfold wb_X0_approve_19
    refine hG 1 h C (gs_RC M.1 (mp_approve M I (fun c hc hx' => (ix_out (by omega) hc hx' hx).elim) (fun _ h3 o3 M3 => ?_)))
    refine lw_tailb (c := 1) (b := 0) M3 (sU_self _ _ _) (by decide) (by decide) (fun z => by omega) ?_
    exact k h3 (LI.same hT (P.mo (hT.1 s) I o3) M3 I J Y E B (C.keep o3 (by unfold Mo; omega)) (O.keep o3 (by unfold Mo; omega) (by unfold Mo; omega)))
end
