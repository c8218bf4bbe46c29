/-! PLAIN LAW, part LG: sheetOf on both sides -/
set_option maxRecDepth 100000
section
variable {κ bd : Nat → Nat} {sc : Nat × Nat × (Nat → Int32)} {T : (Nat → Nat) → Nat → gh_H → Prop} {d m vO vD t : Nat} {h : gh_H} {K : gh_H → Prop}
theorem o_sheetOf {x y : Int32} {G : Int32 → gh_H → Prop} (hG : ∀ r3 h4, KC κ bd sc h4 → gh_RC h4 (some m) 1 (fun a5 => wp_X3_sheetOf κ a5 x y (fun r6 h7 => TLw κ vO K r3 a5 r6 h7) (fun _ _ => False) h4) → G r3 h4) (hT : TKs T) (L : LI κ bd sc T d m vO vD t h) (k : ∀ h', LI κ bd sc T d m vO vD (t + 1) h' → K h') :
    wp_X0_sheetOf κ (some d) x y (some vO) G (fun _ _ => False) h := by
  obtain ⟨a, s, ca, ja, la, A, ev, P, M, I, J, Y, E, B, C, O⟩ := L
  have h2 := I.2.1
  unfold wp_X0_sheetOf
  refine gs_RC P.1 (dk_sheetOf P C.2.1 I (fun j n hj hx hw hn hy hne => ?_) (fun j hj hx hw hne => Or.inr (Or.inr ⟨rfl, fun _ => ?_⟩)) (fun j hj hx hw => Or.inr (Or.inl ⟨rfl, fun _ => ?_⟩)) (fun hx => Or.inl ⟨rfl, fun _ => ?_⟩))
  · refine o_ok (hG := hG 0) (WM := fun a5 Q h4 => wp_X3_sheetOf κ a5 x y Q (fun _ _ => False) h4) hT P M I J Y E B C O (fun h2 Q M2 kk => mp_sheetOf M2 I (fun j' n' hj' hx' _ hn' hy' hne' => ?_) (fun j' hj' hx' _ hne' => ?_) (fun j' hj' hx' w => (ix_abs (by omega) hj hj' hx hx' hw w).elim) (fun z => (ix_out (by omega) hj hx z).elim)) k
    · have ej := ix_eq (by omega) hj hj' hx hx'
      subst ej
      have en : n' = n := by
        obtain ⟨q, hq, e⟩ := hy
        obtain ⟨q', hq', e'⟩ := hy'
        rcases Nat.lt_trichotomy n' n with w | w | w
        · exact absurd e' (hne n' w q' hq')
        · exact w
        · exact absurd e (hne' n w q hq)
      rw [en]
      exact kk
    · have ej := ix_eq (by omega) hj hj' hx hx'
      subst ej
      obtain ⟨q, hq, e⟩ := hy
      exact absurd e (hne' n hn q hq)
  · refine o_bad (c := 3) (hG := hG (nI 3)) (WM := fun a5 Q h4 => wp_X3_sheetOf κ a5 x y Q (fun _ _ => False) h4) hT P M I J Y E B C O (by decide) (by decide) (fun Q kk => mp_sheetOf M I (fun j' n' hj' hx' _ hn' hy' hne' => ?_) (fun j' hj' hx' _ hne' => kk) (fun j' hj' hx' w => (ix_abs (by omega) hj hj' hx hx' hw w).elim) (fun z => (ix_out (by omega) hj hx z).elim)) k
    have ej := ix_eq (by omega) hj hj' hx hx'
    subst ej
    obtain ⟨q, hq, e⟩ := hy'
    exact absurd e (hne n' hn' q hq)
  · exact o_bad (c := 2) (hG := hG (nI 2)) (WM := fun a5 Q h4 => wp_X3_sheetOf κ a5 x y Q (fun _ _ => False) h4) hT P M I J Y E B C O (by decide) (by decide) (fun Q kk => mp_sheetOf M I (fun j' n' hj' hx' w _ _ _ => (ix_abs (by omega) hj' hj hx' hx w hw).elim) (fun j' hj' hx' w _ => (ix_abs (by omega) hj' hj hx' hx w hw).elim) (fun j' hj' hx' _ => kk) (fun z => (ix_out (by omega) hj hx z).elim)) k
  · exact o_bad (c := 1) (hG := hG (nI 1)) (WM := fun a5 Q h4 => wp_X3_sheetOf κ a5 x y Q (fun _ _ => False) h4) hT P M I J Y E B C O (by decide) (by decide) (fun Q kk => mp_sheetOf M I (fun j' n' hj' hx' _ _ _ _ => (ix_out (by omega) hj' hx' hx).elim) (fun j' hj' hx' _ _ => (ix_out (by omega) hj' hx' hx).elim) (fun j' hj' hx' _ => (ix_out (by omega) hj' hx' hx).elim) (fun _ => kk)) k
end
