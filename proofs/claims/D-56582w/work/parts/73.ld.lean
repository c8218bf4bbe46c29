/-! PLAIN LAW, part LD: pageAt, stock -/
set_option maxRecDepth 100000
section
variable {κ bd : Nat → Nat} {sc : Nat × Nat × (Nat → Int32)} {T : (Nat → Nat) → Nat → gh_H → Prop} {d m vO vD t : Nat} {h : gh_H} {K : gh_H → Prop}
theorem ix_abs {x : Int32} {n j j' : Nat} {p : Nat → Prop} (hn : n < 2 ^ 31) (hj : j < n) (hj' : j' < n) (hx : x = nI j) (hx' : x = nI j') (h : p j) (w : ¬ p j') : False := w (by rw [ix_eq hn hj hj' hx hx']; exact h)
theorem o_stock {x y : Int32} {G : Int32 → gh_H → Prop} (hG : ∀ r3 h4, KC κ bd sc h4 → gh_RC h4 (some m) 1 (fun a5 => wp_X3_stock κ a5 x y (fun r6 h7 => TLw κ vO K r3 a5 r6 h7) (fun _ _ => False) h4) → G r3 h4) (hT : TKs T) (L : LI κ bd sc T d m vO vD t h) (k : ∀ h', LI κ bd sc T d m vO vD (t + 1) h' → K h') :
    wp_X0_stock κ (some d) x y (some vO) G (fun _ _ => False) h := by
  obtain ⟨a, s, ca, ja, la, A, ev, P, M, I, J, Y, E, B, C, O⟩ := L
  have h2 := I.2.1
  unfold wp_X0_stock
  refine gs_RC P.1 (dk_stock P C.2.1 I (fun j n hj hx hw hy hn => ?_) (fun j hj hx hw hy => Or.inr (Or.inr ⟨rfl, fun _ => ?_⟩)) (fun j hj hx hw => Or.inr (Or.inl ⟨rfl, fun _ => ?_⟩)) (fun hx => Or.inl ⟨rfl, fun _ => ?_⟩))
  · have h8 := cnt8 I (show j < 4 by omega)
    refine o_ok (hG := hG 0) (WM := fun a5 Q h4 => wp_X3_stock κ a5 x y Q (fun _ _ => False) h4) hT P M I J Y E B C O (fun h2 Q M2 kk => mp_stock M2 I (fun j' n' hj' hx' _ hy' hn' => ?_) (fun j' hj' hx' _ hy' => ?_) (fun j' hj' hx' w => (ix_abs (by omega) hj hj' hx hx' hw w).elim) (fun z => (ix_out (by omega) hj hx z).elim)) k
    · have ej := ix_eq (by omega) hj hj' hx hx'
      subst ej
      rw [ix_eq (by omega) hn hn' hy hy']
      exact kk
    · have ej := ix_eq (by omega) hj hj' hx hx'
      subst ej
      exact (ix_out (by omega) hn hy hy').elim
  · have h8 := cnt8 I (show j < 4 by omega)
    refine o_bad (c := 3) (hG := hG (nI 3)) (WM := fun a5 Q h4 => wp_X3_stock κ a5 x y Q (fun _ _ => False) h4) hT P M I J Y E B C O (by decide) (by decide) (fun Q kk => mp_stock M I (fun j' n' hj' hx' _ hy' hn' => ?_) (fun j' hj' hx' _ hy' => kk) (fun j' hj' hx' w => (ix_abs (by omega) hj hj' hx hx' hw w).elim) (fun z => (ix_out (by omega) hj hx z).elim)) k
    have ej := ix_eq (by omega) hj hj' hx hx'
    subst ej
    exact (ix_out (by omega) hn' hy' hy).elim
  · exact o_bad (c := 2) (hG := hG (nI 2)) (WM := fun a5 Q h4 => wp_X3_stock κ a5 x y Q (fun _ _ => False) h4) hT P M I J Y E B C O (by decide) (by decide) (fun Q kk => mp_stock M I (fun j' n' hj' hx' w _ _ => (ix_abs (by omega) hj' hj hx' hx w hw).elim) (fun j' hj' hx' w _ => (ix_abs (by omega) hj' hj hx' hx w hw).elim) (fun j' hj' hx' _ => kk) (fun z => (ix_out (by omega) hj hx z).elim)) k
  · exact o_bad (c := 1) (hG := hG (nI 1)) (WM := fun a5 Q h4 => wp_X3_stock κ a5 x y Q (fun _ _ => False) h4) hT P M I J Y E B C O (by decide) (by decide) (fun Q kk => mp_stock M I (fun j' n' hj' hx' _ _ _ => (ix_out (by omega) hj' hx' hx).elim) (fun j' hj' hx' _ _ => (ix_out (by omega) hj' hx' hx).elim) (fun j' hj' hx' _ => (ix_out (by omega) hj' hx' hx).elim) (fun _ => kk)) k
theorem o_pageAt {x y z : Int32} {G : Int32 → gh_H → Prop} (hG : ∀ r3 h4, KC κ bd sc h4 → gh_RC h4 (some m) 1 (fun a5 => wp_X3_pageAt κ a5 x y z (fun r6 h7 => TLw κ vO K r3 a5 r6 h7) (fun _ _ => False) h4) → G r3 h4) (hT : TKs T) (L : LI κ bd sc T d m vO vD t h) (k : ∀ h', LI κ bd sc T d m vO vD (t + 1) h' → K h') :
    wp_X0_pageAt κ (some d) x y z (some vO) G (fun _ _ => False) h := by
  obtain ⟨a, s, ca, ja, la, A, ev, P, M, I, J, Y, E, B, C, O⟩ := L
  have h2 := I.2.1
  unfold wp_X0_pageAt
  have p31 : ∀ j, plc (s (120 + j)) < 2 ^ 31 := fun j => by
    have := plc_24 (s (120 + j))
    omega
  refine gs_RC P.1 (dk_pageAt P C.2.1 I (fun j n k' hj hx hw hy hn hz hk => ?_) (fun j n hj hx hw hy hn hz => Or.inr (Or.inr ⟨rfl, fun _ => ?_⟩)) (fun j hj hx hw hy => Or.inr (Or.inr ⟨rfl, fun _ => ?_⟩)) (fun j hj hx hw => Or.inr (Or.inl ⟨rfl, fun _ => ?_⟩)) (fun hx => Or.inl ⟨rfl, fun _ => ?_⟩))
  · have h8 := cnt8 I (show j < 4 by omega)
    refine o_ok (hG := hG 0) (WM := fun a5 Q h4 => wp_X3_pageAt κ a5 x y z Q (fun _ _ => False) h4) hT P M I J Y E B C O (fun h2 Q M2 kk => mp_pageAt M2 I (fun j' n' q' hj' hx' _ hy' hn' hz' hk' => ?_) (fun j' n' hj' hx' _ hy' hn' hz' => ?_) (fun j' hj' hx' _ hy' => ?_) (fun j' hj' hx' w => (ix_abs (by omega) hj hj' hx hx' hw w).elim) (fun z => (ix_out (by omega) hj hx z).elim)) k
    · have ej := ix_eq (by omega) hj hj' hx hx'
      subst ej
      rw [ix_eq (by omega) hn hn' hy hy', ix_eq (p31 _) hk hk' hz hz']
      exact kk
    · have ej := ix_eq (by omega) hj hj' hx hx'
      subst ej
      exact (ix_out (p31 _) hk hz hz').elim
    · have ej := ix_eq (by omega) hj hj' hx hx'
      subst ej
      exact (ix_out (by omega) hn hy hy').elim
  · have h8 := cnt8 I (show j < 4 by omega)
    refine o_bad (c := 3) (hG := hG (nI 3)) (WM := fun a5 Q h4 => wp_X3_pageAt κ a5 x y z Q (fun _ _ => False) h4) hT P M I J Y E B C O (by decide) (by decide) (fun Q kk => mp_pageAt M I (fun j' n' q' hj' hx' _ hy' hn' hz' hk' => ?_) (fun j' n' hj' hx' _ hy' hn' hz' => kk) (fun j' hj' hx' _ hy' => kk) (fun j' hj' hx' w => (ix_abs (by omega) hj hj' hx hx' hw w).elim) (fun z => (ix_out (by omega) hj hx z).elim)) k
    have ej := ix_eq (by omega) hj hj' hx hx'
    subst ej
    exact (ix_out (p31 _) hk' hz' hz).elim
  · have h8 := cnt8 I (show j < 4 by omega)
    refine o_bad (c := 3) (hG := hG (nI 3)) (WM := fun a5 Q h4 => wp_X3_pageAt κ a5 x y z Q (fun _ _ => False) h4) hT P M I J Y E B C O (by decide) (by decide) (fun Q kk => mp_pageAt M I (fun j' n' q' hj' hx' _ hy' hn' hz' hk' => ?_) (fun j' n' hj' hx' _ hy' hn' hz' => kk) (fun j' hj' hx' _ hy' => kk) (fun j' hj' hx' w => (ix_abs (by omega) hj hj' hx hx' hw w).elim) (fun z => (ix_out (by omega) hj hx z).elim)) k
    have ej := ix_eq (by omega) hj hj' hx hx'
    subst ej
    exact (ix_out (by omega) hn' hy' hy).elim
  · exact o_bad (c := 2) (hG := hG (nI 2)) (WM := fun a5 Q h4 => wp_X3_pageAt κ a5 x y z Q (fun _ _ => False) h4) hT P M I J Y E B C O (by decide) (by decide) (fun Q kk => mp_pageAt M I (fun j' n' q' hj' hx' w _ _ _ _ => (ix_abs (by omega) hj' hj hx' hx w hw).elim) (fun j' n' hj' hx' w _ _ _ => (ix_abs (by omega) hj' hj hx' hx w hw).elim) (fun j' hj' hx' w _ => (ix_abs (by omega) hj' hj hx' hx w hw).elim) (fun j' hj' hx' _ => kk) (fun z => (ix_out (by omega) hj hx z).elim)) k
  · exact o_bad (c := 1) (hG := hG (nI 1)) (WM := fun a5 Q h4 => wp_X3_pageAt κ a5 x y z Q (fun _ _ => False) h4) hT P M I J Y E B C O (by decide) (by decide) (fun Q kk => mp_pageAt M I (fun j' n' q' hj' hx' _ _ _ _ _ => (ix_out (by omega) hj' hx' hx).elim) (fun j' n' hj' hx' _ _ _ _ => (ix_out (by omega) hj' hx' hx).elim) (fun j' hj' hx' _ _ => (ix_out (by omega) hj' hx' hx).elim) (fun j' hj' hx' _ => (ix_out (by omega) hj' hx' hx).elim) (fun _ => kk)) k
end
