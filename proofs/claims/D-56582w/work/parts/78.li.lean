/-! PLAIN LAW, part LI: the lots' copies -/
set_option maxRecDepth 100000
section
variable {κ bd : Nat → Nat} {sc : Nat × Nat × (Nat → Int32)} {d m vO vD t : Nat} {h : gh_H} {K : gh_H → Prop} {X : String → gh_H → Prop}
theorem dk_lot {ca ja la A s : Nat → Nat} {T : Nat → gh_H → Prop} {ev : List Nat} {x : Int32} {Q : Option Nat → gh_H → Prop} (P : DP κ bd ca ja la A T d s ev h) (J : IW s) (k1 : ∀ l, l < s 3 → x = nI l → Q (some (la l)) h) (k0 : x < 0 ∨ nI (s 3) ≤ x → X "java/lang/IndexOutOfBoundsException" h) : wp_X1_lotNumbered κ d x Q X h := by
  obtain ⟨p1, -, -, -, -, -, ⟨mc, p7⟩, p8, -⟩ := P
  have h3 := J.1
  obtain ⟨al, hal, -⟩ := id p7
  unfold wp_X1_lotNumbered
  refine gs_GR p1 rfl (gs_RC hal (ls_size p7.lr ?_))
  rw [rg_len]
  refine dk_requireIndex (by omega) (fun c hc hx => gs_GR p1 rfl (gs_RC hal ?_)) k0
  rw [hx]
  refine ls_get p7.lr (by rw [rg_len]; exact hc) ?_
  rw [rg_at]
  obtain ⟨ac, ar, f, e1, -⟩ := p8 c hc
  exact gs_CK e1 (by decide) (k1 c hc hx)
theorem dk_copies {ca ja la A s : Nat → Nat} {T : Nat → gh_H → Prop} {ev : List Nat} {x : Int32} {Q : Int32 → gh_H → Prop} (P : DP κ bd ca ja la A T d s ev h) (J : IW s) (k1 : ∀ l, l < s 3 → x = nI l → Q (nI (s (600 + l))) h) (k0 : x < 0 ∨ nI (s 3) ≤ x → X "java/lang/IndexOutOfBoundsException" h) : wp_X1_copies κ d x Q X h := by
  unfold wp_X1_copies
  refine gs_RC P.1 (dk_lot P J (fun l hl hx => ?_) k0)
  obtain ⟨ac, ar, f, e1, -⟩ := P.2.2.2.2.2.2.2.1 l hl
  exact gs_GI e1 rfl (k1 l hl hx)
theorem mp_copies {a s : Nat → Nat} {x : Int32} {Q : Int32 → gh_H → Prop} (P : MP m a s h) (J : IW s) (k1 : ∀ l, l < s 3 → x = nI l → ∀ h', Only Mo h h' → MP m a (sU s 0 0) h' → Q (nI (s (600 + l))) h') (k0 : x < 0 ∨ nI (s 3) ≤ x → ∀ h', Only Mo h h' → MP m a (sU s 0 1) h' → Q 0 h') : wp_X3_copies κ m x Q X h := by
  have h3 := J.1
  unfold wp_X3_copies
  refine gs_GI P.1 rfl (mp_in (by omega) (fun l hl hx => ⟨(fun z => by cases z), fun _ => ?_⟩) (fun hx => ⟨fun _ => gs_RC P.1 (mp_fails (v := 1) P (k0 hx)), fun z => absurd rfl z⟩))
  refine mp_PV (k := 0) (v := 0) P (by decide) (fun h2 o2 P2 => gs_GR P2.1 rfl ?_)
  rw [hx]
  refine mp_LI (k := 11) P2 (by decide) rfl (show l < 100 by omega) ?_
  have e0 : sU s 0 0 (mB 11 + l) = s (600 + l) := sU_ne (by show 600 + l ≠ 0; omega)
  rw [e0]
  exact k1 l hl hx h2 o2 P2
theorem o_copies {T : (Nat → Nat) → Nat → gh_H → Prop} {x : Int32} {G : Int32 → gh_H → Prop} (hG : ∀ r3 h4, KC κ bd sc h4 → gh_RC h4 (some m) 1 (fun a5 => wp_X3_copies κ a5 x (fun r6 h7 => TLw κ vO K r3 a5 r6 h7) (fun _ _ => False) h4) → G r3 h4) (hT : TKs T) (L : LI κ bd sc T d m vO vD t h) (k : ∀ h', LI κ bd sc T d m vO vD (t + 1) h' → K h') :
    wp_X0_copies κ (some d) x (some vO) G (fun _ _ => False) h := by
  obtain ⟨a, s, ca, ja, la, A, ev, P, M, I, J, Y, E, B, C, O⟩ := L
  have h3 := J.1
  unfold wp_X0_copies
  refine gs_RC P.1 (dk_copies P J (fun j hj hx => ?_) (fun hx => ⟨rfl, fun _ => ?_⟩))
  · exact o_ok (hG := hG 0) (WM := fun a5 Q h4 => wp_X3_copies κ a5 x Q (fun _ _ => False) h4) hT P M I J Y E B C O (fun h2 Q M2 kk => mp_copies M2 J (fun j' hj' hx' => by rw [ix_eq (by omega) hj hj' hx hx']; exact kk) (fun z => (ix_out (by omega) hj hx z).elim)) k
  · exact o_bad (c := 1) (hG := hG (nI 1)) (WM := fun a5 Q h4 => wp_X3_copies κ a5 x Q (fun _ _ => False) h4) hT P M I J Y E B C O (by decide) (by decide) (fun Q kk => mp_copies M J (fun j' hj' hx' => (ix_out (by omega) hj' hx' hx).elim) (fun _ => kk)) k
end
