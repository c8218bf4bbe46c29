/-! PLAIN LAW, part LC: more calls that only look -/
set_option maxRecDepth 100000
/-- the end of a call in the law's body -/
abbrev TLw (κ : Nat → Nat) (vO : Nat) (K : gh_H → Prop) (r3 : Int32) (a5 : Nat) (r6 : Int32) (h7 : gh_H) : Prop := gh_RC h7 (some a5) 1 (fun _ => wp_X3_thrown κ a5 (fun r9 h10 => ((r9 = r3 → ((r3 = 0 → gh_LJ h10 (some vO) (0 : Int32) (fun x11 => ((lg_cmp x11 r6.toInt64) = 0 → K h10) ∧ (¬ (lg_cmp x11 r6.toInt64) = 0 → (0 : Int32) = 1))) ∧ (¬ r3 = 0 → K h10))) ∧ (¬ r9 = r3 → (0 : Int32) = 1))) (fun _ _ => False) h7)
section
variable {κ bd : Nat → Nat} {sc : Nat × Nat × (Nat → Int32)} {T : (Nat → Nat) → Nat → gh_H → Prop} {d m vO vD t : Nat} {h : gh_H} {K : gh_H → Prop}
variable {a s ca ja la A : Nat → Nat} {ev : List Nat}
/-- the desk has answered r and changed nothing; the model answers r too -/
theorem o_ok {r : Int32} {WM : Nat → (Int32 → gh_H → Prop) → gh_H → Prop} {G : Int32 → gh_H → Prop} (hG : ∀ h4, KC κ bd sc h4 → gh_RC h4 (some m) 1 (fun a5 => WM a5 (fun r6 h7 => TLw κ vO K 0 a5 r6 h7) h4) → G 0 h4) (hT : TKs T) (P : DP κ bd ca ja la A (T s) d s ev h) (M : MP m a s h) (I : IV s) (J : IW s) (Y : IY s) (E : IE s ev) (B : IB s ev t) (C : KC κ bd sc h) (O : OT vO vD h)
    (hM : ∀ (h2 : gh_H) (Q : Int32 → gh_H → Prop), MP m a s h2 → (∀ h3, Only Mo h2 h3 → MP m a (sU s 0 0) h3 → Q r h3) → WM m Q h2) (k : ∀ h', LI κ bd sc T d m vO vD (t + 1) h' → K h') : gh_SJ h (some vO) (0 : Int32) r.toInt64 (fun h4 => G 0 h4) := by
  refine ot_put O (fun h2 o2 O2 hv => hG h2 (C.keep o2 (by decide)) (gs_RC (o2 _ _ _ M.1 (by decide)) ?_))
  have P2 := P.keep (hT.1 s) I o2 (by decide) (fun t ht _ => by unfold De at ht; omega)
  have M2 := M.keep o2 (fun t ht => by unfold Mo at ht; omega)
  refine hM h2 _ M2 (fun h3 o3 M3 => ?_)
  refine lw_tail (c := 0) M3 (sU_self _ _ _) (by decide) (fun _ => ?_) ?_
  · obtain ⟨f, e1, e2⟩ := hv
    exact ⟨f, o3 _ _ _ e1 (by unfold Mo; omega), e2⟩
  · exact k h3 (LI.same hT (P2.mo (hT.1 s) I o3) M3 I J Y E B ((C.keep o2 (by decide)).keep o3 (by unfold Mo; omega)) (O2.keep o3 (by unfold Mo; omega) (by unfold Mo; omega)))
/-- the desk has thrown what the model calls c -/
theorem o_bad {r : Int32} {c : Nat} {WM : Nat → (Int32 → gh_H → Prop) → gh_H → Prop} {G : Int32 → gh_H → Prop} (hG : ∀ h4, KC κ bd sc h4 → gh_RC h4 (some m) 1 (fun a5 => WM a5 (fun r6 h7 => TLw κ vO K (nI c) a5 r6 h7) h4) → G (nI c) h4) (hT : TKs T) (P : DP κ bd ca ja la A (T s) d s ev h) (M : MP m a s h) (I : IV s) (J : IW s) (Y : IY s) (E : IE s ev) (B : IB s ev t) (C : KC κ bd sc h) (O : OT vO vD h) (hc : 0 < c) (h31 : c < 2 ^ 31)
    (hM : ∀ Q : Int32 → gh_H → Prop, (∀ h3, Only Mo h h3 → MP m a (sU s 0 c) h3 → Q r h3) → WM m Q h) (k : ∀ h', LI κ bd sc T d m vO vD (t + 1) h' → K h') : G (nI c) h := by
  refine hG h C (gs_RC M.1 (hM _ (fun h3 o3 M3 => ?_)))
  refine lw_tail (c := c) M3 (sU_self _ _ _) h31 (fun z => by omega) ?_
  exact k h3 (LI.same hT (P.mo (hT.1 s) I o3) M3 I J Y E B (C.keep o3 (by unfold Mo; omega)) (O.keep o3 (by unfold Mo; omega) (by unfold Mo; omega)))
theorem ix_eq {x : Int32} {n j j' : Nat} (hn : n < 2 ^ 31) (hj : j < n) (hj' : j' < n) (hx : x = nI j) (hx' : x = nI j') : j' = j := by
  rw [hx] at hx'
  exact ((nI_eq (by omega) (by omega)).mp hx').symm
theorem o_state {x : Int32} {G : Int32 → gh_H → Prop} (hG : ∀ r3 h4, KC κ bd sc h4 → gh_RC h4 (some m) 1 (fun a5 => wp_X3_state κ a5 x (fun r6 h7 => TLw κ vO K r3 a5 r6 h7) (fun _ _ => False) h4) → G r3 h4) (hT : TKs T) (L : LI κ bd sc T d m vO vD t h) (k : ∀ h', LI κ bd sc T d m vO vD (t + 1) h' → K h') :
    wp_X0_state κ (some d) x (some vO) G (fun _ _ => False) h := by
  obtain ⟨a, s, ca, ja, la, A, ev, P, M, I, J, Y, E, B, C, O⟩ := L
  have h1 := I.1
  unfold wp_X0_state
  refine gs_RC P.1 (dk_state P I (fun j hj hx => ?_) (fun hx => ⟨rfl, fun _ => ?_⟩))
  · exact o_ok (hG := hG 0) (WM := fun a5 Q h4 => wp_X3_state κ a5 x Q (fun _ _ => False) h4) hT P M I J Y E B C O (fun h2 Q M2 kk => mp_state M2 I (fun j' hj' hx' => by rw [ix_eq (by omega) hj hj' hx hx']; exact kk) (fun z => (ix_out (by omega) hj hx z).elim)) k
  · exact o_bad (c := 1) (hG := hG (nI 1)) (WM := fun a5 Q h4 => wp_X3_state κ a5 x Q (fun _ _ => False) h4) hT P M I J Y E B C O (by decide) (by decide) (fun Q kk => mp_state M I (fun j' hj' hx' => (ix_out (by omega) hj' hx' hx).elim) (fun _ => kk)) k
theorem o_pages {x : Int32} {G : Int32 → gh_H → Prop} (hG : ∀ r3 h4, KC κ bd sc h4 → gh_RC h4 (some m) 1 (fun a5 => wp_X3_pages κ a5 x (fun r6 h7 => TLw κ vO K r3 a5 r6 h7) (fun _ _ => False) h4) → G r3 h4) (hT : TKs T) (L : LI κ bd sc T d m vO vD t h) (k : ∀ h', LI κ bd sc T d m vO vD (t + 1) h' → K h') :
    wp_X0_pages κ (some d) x (some vO) G (fun _ _ => False) h := by
  obtain ⟨a, s, ca, ja, la, A, ev, P, M, I, J, Y, E, B, C, O⟩ := L
  have h2 := I.2.1
  unfold wp_X0_pages
  refine gs_RC P.1 (dk_pages P I (fun j hj hx => ?_) (fun hx => ⟨rfl, fun _ => ?_⟩))
  · exact o_ok (hG := hG 0) (WM := fun a5 Q h4 => wp_X3_pages κ a5 x Q (fun _ _ => False) h4) hT P M I J Y E B C O (fun h2 Q M2 kk => mp_pages M2 I (fun j' hj' hx' => by rw [ix_eq (by omega) hj hj' hx hx']; exact kk) (fun z => (ix_out (by omega) hj hx z).elim)) k
  · exact o_bad (c := 1) (hG := hG (nI 1)) (WM := fun a5 Q h4 => wp_X3_pages κ a5 x Q (fun _ _ => False) h4) hT P M I J Y E B C O (by decide) (by decide) (fun Q kk => mp_pages M I (fun j' hj' hx' => (ix_out (by omega) hj' hx' hx).elim) (fun _ => kk)) k
theorem o_sheets {x : Int32} {G : Int32 → gh_H → Prop} (hG : ∀ r3 h4, KC κ bd sc h4 → gh_RC h4 (some m) 1 (fun a5 => wp_X3_sheets κ a5 x (fun r6 h7 => TLw κ vO K r3 a5 r6 h7) (fun _ _ => False) h4) → G r3 h4) (hT : TKs T) (L : LI κ bd sc T d m vO vD t h) (k : ∀ h', LI κ bd sc T d m vO vD (t + 1) h' → K h') :
    wp_X0_sheets κ (some d) x (some vO) G (fun _ _ => False) h := by
  obtain ⟨a, s, ca, ja, la, A, ev, P, M, I, J, Y, E, B, C, O⟩ := L
  have h2 := I.2.1
  unfold wp_X0_sheets
  refine gs_RC P.1 (dk_sheets P C.2.1 I (fun j hj hx hw => ?_) (fun j hj hx hw => Or.inr ⟨rfl, fun _ => ?_⟩) (fun hx => Or.inl ⟨rfl, fun _ => ?_⟩))
  · exact o_ok (hG := hG 0) (WM := fun a5 Q h4 => wp_X3_sheets κ a5 x Q (fun _ _ => False) h4) hT P M I J Y E B C O (fun h2 Q M2 kk => mp_sheets M2 I (fun j' hj' hx' _ => by rw [ix_eq (by omega) hj hj' hx hx']; exact kk) (fun j' hj' hx' w => absurd (by rw [ix_eq (by omega) hj hj' hx hx']; exact hw) w) (fun z => (ix_out (by omega) hj hx z).elim)) k
  · exact o_bad (c := 2) (hG := hG (nI 2)) (WM := fun a5 Q h4 => wp_X3_sheets κ a5 x Q (fun _ _ => False) h4) hT P M I J Y E B C O (by decide) (by decide) (fun Q kk => mp_sheets M I (fun j' hj' hx' w => absurd (by rw [← ix_eq (by omega) hj hj' hx hx']; exact w) hw) (fun j' hj' hx' _ => kk) (fun z => (ix_out (by omega) hj hx z).elim)) k
  · exact o_bad (c := 1) (hG := hG (nI 1)) (WM := fun a5 Q h4 => wp_X3_sheets κ a5 x Q (fun _ _ => False) h4) hT P M I J Y E B C O (by decide) (by decide) (fun Q kk => mp_sheets M I (fun j' hj' hx' _ => (ix_out (by omega) hj' hx' hx).elim) (fun j' hj' hx' _ => (ix_out (by omega) hj' hx' hx).elim) (fun _ => kk)) k
end
