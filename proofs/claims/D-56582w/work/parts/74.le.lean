/-! PLAIN LAW, part LE: addContent, approve -/
set_option maxRecDepth 100000
section
variable {κ bd : Nat → Nat} {sc : Nat × Nat × (Nat → Int32)} {T : (Nat → Nat) → Nat → gh_H → Prop} {d m vO vD t : Nat} {h : gh_H} {K : gh_H → Prop}
/-- the desk's labels, and what doesn't bear them -/
theorem KC.de {h h' : gh_H} (k : KC κ bd sc h) (o : Only De h h') : KC κ bd sc h' := k.keep o (by unfold De; omega)
theorem OT.de {h h' : gh_H} (k : OT vO vD h) (o : Only De h h') : OT vO vD h' := k.keep o (by unfold De; omega) (by unfold De; omega)
theorem KC.mo {h h' : gh_H} (k : KC κ bd sc h) (o : Only Mo h h') : KC κ bd sc h' := k.keep o (by unfold Mo; omega)
theorem OT.mo {h h' : gh_H} (k : OT vO vD h) (o : Only Mo h h') : OT vO vD h' := k.keep o (by unfold Mo; omega) (by unfold Mo; omega)
/-- the desk has answered r and is at s1; the model answers r too and is at s2 -/
theorem o_do {a s s1 s2 ca ja la A : Nat → Nat} {ev : List Nat} {r : Int32} {WM : Nat → (Int32 → gh_H → Prop) → gh_H → Prop} {G : Int32 → gh_H → Prop} (hG : ∀ h4, KC κ bd sc h4 → gh_RC h4 (some m) 1 (fun a5 => WM a5 (fun r6 h7 => TLw κ vO K 0 a5 r6 h7) h4) → G 0 h4) (hT : TKs T) (P : DP κ bd ca ja la A (T s) d s1 ev h) (M : MP m a s h) (I1 : IV s1) (J1 : IW s1) (hD : sD s1 s2) (h4 : s2 4 = s 4) (h1000 : ∀ i, 1000 ≤ i → i < 2100 → s2 i = s i) (h0 : s2 0 = 0) (I : IV s2) (J : IW s2) (Y : IY s2) (E : IE s2 ev) (B : IB s2 ev (t + 1)) (C : KC κ bd sc h) (O : OT vO vD h)
    (hM : ∀ (h2 : gh_H) (Q : Int32 → gh_H → Prop), MP m a s h2 → (∀ h3, Only Mo h2 h3 → MP m a s2 h3 → Q r h3) → WM m Q h2) (k : ∀ h', LI κ bd sc T d m vO vD (t + 1) h' → K h') : gh_SJ h (some vO) (0 : Int32) r.toInt64 (fun h4 => G 0 h4) := by
  refine ot_put O (fun h2 o2 O2 hv => hG h2 (C.keep o2 (by decide)) (gs_RC (o2 _ _ _ M.1 (by decide)) ?_))
  have P2 := P.keep (hT.1 s) I1 o2 (by decide) (fun t ht _ => by unfold De at ht; omega)
  have M2 := M.keep o2 (fun t ht => by unfold Mo at ht; omega)
  refine hM h2 _ M2 (fun h3 o3 M3 => ?_)
  refine lw_tail (c := 0) M3 h0 (by decide) (fun _ => ?_) ?_
  · obtain ⟨f, e1, e2⟩ := hv
    exact ⟨f, o3 _ _ _ e1 (by unfold Mo; omega), e2⟩
  · have P3 := (P2.mo (hT.1 s) I1 o3).T (T2 := T s2) (fun z => hT.2 s s2 _ _ h4 h1000 z)
    exact k h3 ⟨a, s2, ca, ja, la, A, ev, P3.sD I1 J1 hD, M3, I, J, Y, E, B, (C.keep o2 (by decide)).mo o3, O2.mo o3⟩
theorem IB.succ {s : Nat → Nat} {ev : List Nat} {t : Nat} (B : IB s ev t) : IB s ev (t + 1) := by unfold IB at *; omega
theorem o_addContent {G : Int32 → gh_H → Prop} (hG : ∀ r3 h4, KC κ bd sc h4 → gh_RC h4 (some m) 1 (fun a5 => wp_X3_addContent κ a5 (fun r6 h7 => TLw κ vO K r3 a5 r6 h7) (fun _ _ => False) h4) → G r3 h4) (hT : TKs T) (L : LI κ bd sc T d m vO vD t h) (k : ∀ h', LI κ bd sc T d m vO vD (t + 1) h' → K h') :
    wp_X0_addContent κ (some d) (some vO) G (fun _ _ => False) h := by
  obtain ⟨a, s, ca, ja, la, A, ev, P, M, I, J, Y, E, B, C, O⟩ := L
  have hs1 := I.1
  unfold wp_X0_addContent
  refine gs_RC P.1 (dk_addContent P C.1 (hT.1 s) I J Y E (fun hlt ca' h1 o1 P1 => ?_) (fun h12 => ⟨rfl, fun _ => ?_⟩))
  · have e1 : ∀ i, i ≠ 1 → sU s 1 (s 1 + 1) i = s i := fun i hi => sU_ne hi
    have e2 : ∀ i, i ≠ 0 → sU (sU s 0 0) 1 (s 1 + 1) i = sU s 1 (s 1 + 1) i := fun i hi => by
      by_cases w : i = 1
      · subst w
        rw [sU_self, sU_self]
      · rw [sU_ne w, sU_ne w, sU_ne hi]
    have e3 : ∀ i, i ≠ 0 → i ≠ 1 → sU (sU s 0 0) 1 (s 1 + 1) i = s i := fun i h0 h1 => by rw [e2 i h0, e1 i h1]
    have inv : ∀ s' : Nat → Nat, s' 1 = s 1 + 1 → (∀ i, i ≠ 0 → i ≠ 1 → s' i = s i) → IV s' ∧ IW s' ∧ IY s' ∧ IE s' ev ∧ IB s' ev (t + 1) := by
      intro s' f1 f
      refine ⟨?_, ?_, ?_, ?_, ?_⟩
      · unfold IV
        rw [f1, f 2 (by decide) (by decide), f 10 (by decide) (by decide), f 11 (by decide) (by decide)]
        refine ⟨by omega, I.2.1, fun j hj => ?_, fun j hj => ?_, fun j i hj hi => ?_, fun c hc => ?_, fun i hi => ?_, I.2.2.2.2.2.2.2.1, I.2.2.2.2.2.2.2.2⟩
        · rw [f _ (by omega) (by omega), f _ (by omega) (by omega)]
          exact I.2.2.1 j hj
        · rw [f _ (by omega) (by omega)]
          exact I.2.2.2.1 j hj
        · rw [f _ (by omega) (by omega)] at hi
          rw [f _ (by omega) (by omega)]
          have := I.2.2.2.2.1 j i hj hi
          omega
        · rw [f _ (by omega) (by omega), f _ (by omega) (by omega)]
          exact I.2.2.2.2.2.1 c hc
        · rw [f _ (by omega) (by omega)]
          exact I.2.2.2.2.2.2.1 i hi
      · unfold IW
        rw [f 2 (by decide) (by decide), f 3 (by decide) (by decide), f 4 (by decide) (by decide), f 5 (by decide) (by decide), f 6 (by decide) (by decide), f 7 (by decide) (by decide), f 8 (by decide) (by decide), f 9 (by decide) (by decide)]
        refine ⟨J.1, J.2.1, fun k hk => ?_, J.2.2.2.1, J.2.2.2.2.1, J.2.2.2.2.2.1, J.2.2.2.2.2.2.1, J.2.2.2.2.2.2.2.1, fun l hl => ?_⟩
        · rw [f _ (by omega) (by omega)]
          exact J.2.2.1 k hk
        · have := J.2.2.2.2.2.2.2.2 l hl
          rw [f (500 + l) (by omega) (by omega), f (600 + l) (by omega) (by omega), f (700 + l) (by omega) (by omega), f (130 + s (500 + l)) (by omega) (by omega)]
          exact ⟨this.1, this.2.1, this.2.2.1, this.2.2.2.1, fun k hk => by rw [f _ (by omega) (by omega)]; exact this.2.2.2.2 k hk⟩
      · refine ⟨fun c h1 h2 => ?_, fun j h1 h2 => ?_, fun j n h1 h2 h3 => ?_⟩
        · rw [f1] at h1
          rw [f _ (by omega) (by omega), f _ (by omega) (by omega)]
          exact Y.1 c (by omega) h2
        · rw [f 2 (by decide) (by decide)] at h1
          rw [f _ (by omega) (by omega)]
          exact Y.2.1 j h1 h2
        · have : nSh s' j = nSh s j := by
            unfold nSh cnt
            rw [f _ (by omega) (by omega), f _ (by omega) (by omega)]
          rw [this] at h3
          rw [f _ (by omega) (by omega)]
          exact Y.2.2 j n h1 h2 h3
      · refine ⟨fun x hx => ?_, fun c hc => ?_, fun k hk => ?_⟩
        · rw [f1, f 3 (by decide) (by decide)]
          exact ⟨fun z => Nat.lt_succ_of_lt ((E.1 x hx).1 z), (E.1 x hx).2⟩
        · rw [f1] at hc
          rw [f _ (by omega) (by omega)]
          rcases Nat.lt_or_ge c (s 1) with w | w
          · exact E.2.1 c w
          · have ec : c = s 1 := by omega
            rw [ec, (Y.1 (s 1) (Nat.le_refl _) hlt).1]
            refine (List.count_eq_zero.mpr (fun hm => ?_)).symm
            have := (E.1 _ hm).1 (by omega)
            omega
        · rw [f 3 (by decide) (by decide)] at hk
          obtain ⟨pre, suf, h1, h2, h3⟩ := E.2.2 k hk
          refine ⟨pre, suf, h1, h2, fun i hi => ?_⟩
          rw [f _ (by omega) (by omega)] at hi
          have : lCt s' k i = lCt s k i := by
            unfold lCt
            rw [f (500 + k) (by omega) (by omega), f _ (by omega) (by omega)]
          rw [f _ (by omega) (by omega), this]
          exact h3 i hi
      · unfold IB
        rw [f 3 (by decide) (by decide), f 4 (by decide) (by decide), f 5 (by decide) (by decide), f 6 (by decide) (by decide), f 10 (by decide) (by decide), f 11 (by decide) (by decide)]
        have := B
        unfold IB at this
        omega
    have V1 := inv (sU s 1 (s 1 + 1)) (sU_self _ _ _) (fun i _ h1 => e1 i h1)
    have V2 := inv (sU (sU s 0 0) 1 (s 1 + 1)) (sU_self _ _ _) e3
    exact o_do (hG := hG 0) (WM := fun a5 Q h4 => wp_X3_addContent κ a5 Q (fun _ _ => False) h4) hT P1 (M.de o1) V1.1 V1.2.1 (fun i h0 _ _ _ => e2 i h0) (e3 4 (by decide) (by decide)) (fun i h1 h2 => e3 i (by omega) (by omega)) (by rw [sU_ne (by decide), sU_self]) V2.1 V2.2.1 V2.2.2.1 V2.2.2.2.1 V2.2.2.2.2 (C.de o1) (O.de o1) (fun h2 Q M2 kk => mp_addContent M2 hs1 (fun z => absurd z (by omega)) (fun _ => kk)) k
  · exact o_bad (c := 1) (hG := hG (nI 1)) (WM := fun a5 Q h4 => wp_X3_addContent κ a5 Q (fun _ _ => False) h4) hT P M I J Y E B C O (by decide) (by decide) (fun Q kk => mp_addContent M hs1 (fun _ => kk) (fun z => absurd z (by omega))) k
end
