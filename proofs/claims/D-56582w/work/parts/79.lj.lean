/-! PLAIN LAW, part LJ: stateIn, stateByReplay -/
set_option maxRecDepth 100000
section
variable {κ bd : Nat → Nat} {sc : Nat × Nat × (Nat → Int32)} {d m vO vD t : Nat} {h : gh_H} {K : gh_H → Prop} {X : String → gh_H → Prop}
/-- a number from 1 to n -/
theorem ix_1 {x : Int32} {n : Nat} (hn : n < 2 ^ 30) : (x < 1 ∨ (¬ x < 1 ∧ nI n < x)) ∨ ∃ p, p < n ∧ x = nI (p + 1) ∧ ¬ x < 1 ∧ ¬ nI n < x := by
  have e1 : (1 : Int32).toInt = 1 := by decide
  have e0 : (0 : Int32).toInt = 0 := by decide
  rcases pk_ix x (n := n + 1) (by omega) with hx | hx | ⟨j, hj, rfl⟩
  · refine Or.inl (Or.inl ?_)
    rw [Int32.lt_iff_toInt_lt] at hx ⊢
    omega
  · refine Or.inl (Or.inr ⟨?_, ?_⟩)
    · rw [Int32.le_iff_toInt_le, nI_toInt (by omega)] at hx
      rw [Int32.lt_iff_toInt_lt]
      omega
    · rw [Int32.le_iff_toInt_le, nI_toInt (by omega)] at hx
      rw [Int32.lt_iff_toInt_lt, nI_toInt (by omega)]
      omega
  · cases j with
    | zero => exact Or.inl (Or.inl (by decide))
    | succ p =>
      refine Or.inr ⟨p, by omega, rfl, ?_, ?_⟩
      · rw [Int32.lt_iff_toInt_lt, nI_toInt (by omega)]
        omega
      · rw [Int32.lt_iff_toInt_lt, nI_toInt (by omega), nI_toInt (by omega)]
        omega
/-- in(x, 1, n) -/
theorem mp_in1 {x : Int32} {n : Nat} {Q : Int32 → gh_H → Prop} (hn : n < 2 ^ 30) (k1 : ∀ p, p < n → x = nI (p + 1) → Q 1 h) (k0 : x < 1 ∨ nI n < x → Q 0 h) : wp_X3_in κ x (1 : Int32) (nI n) Q X h := by
  unfold wp_X3_in wb_X3_in_14 wb_X3_in_15
  rcases ix_1 (x := x) hn with (hx | ⟨hx, hx2⟩) | ⟨p, hp, hx, hx1, hx2⟩
  · exact ⟨fun _ => ⟨nb0, k0 (Or.inl hx)⟩, fun z => absurd hx z⟩
  · exact ⟨fun z => absurd z hx, fun _ => ⟨fun _ => ⟨nb0, k0 (Or.inr hx2)⟩, fun z => absurd hx2 z⟩⟩
  · exact ⟨fun z => absurd z hx1, fun _ => ⟨fun z => absurd z hx2, fun _ => ⟨nb1, k1 p hp hx⟩⟩⟩
theorem ix1_out {x : Int32} {n p : Nat} (hn : n < 2 ^ 30) (hp : p < n) (hx : x = nI (p + 1)) (z : x < 1 ∨ nI n < x) : False := by
  subst hx
  have e1 : (1 : Int32).toInt = 1 := by decide
  rcases z with z | z
  · rw [Int32.lt_iff_toInt_lt, nI_toInt (by omega)] at z
    omega
  · exact nI_nlt (by omega) (by omega) z
theorem ix1_eq {x : Int32} {n p p' : Nat} (hn : n < 2 ^ 30) (hp : p < n) (hp' : p' < n) (hx : x = nI (p + 1)) (hx' : x = nI (p' + 1)) : p' = p := by
  rw [hx] at hx'
  have := (nI_eq (by omega) (by omega)).mp hx'
  omega
theorem ltp16 {s : Nat → Nat} (I : IV s) (J : IW s) {l : Nat} (hl : l < s 3) : s (700 + l) ≤ 16 := by
  have h := J.2.2.2.2.2.2.2.2 l hl
  have h2 := I.2.1
  have := (I.2.2.1 (s (500 + l)) (by omega)).2
  omega
theorem dk_lotPage {ca ja la A s : Nat → Nat} {T : Nat → gh_H → Prop} {ev : List Nat} {x y : Int32} {Q : Option Nat → gh_H → Prop} (P : DP κ bd ca ja la A T d s ev h) (I : IV s) (J : IW s) (k1 : ∀ l p, l < s 3 → x = nI l → p < s (700 + l) → y = nI (p + 1) → Q (some (la l)) h) (k2 : ∀ l, l < s 3 → x = nI l → (y < 1 ∨ nI (s (700 + l)) < y) → X "java/util/NoSuchElementException" h) (k0 : x < 0 ∨ nI (s 3) ≤ x → X "java/lang/IndexOutOfBoundsException" h) : wp_X1_lotWithPage κ d x y Q X h := by
  unfold wp_X1_lotWithPage
  refine gs_RC P.1 (dk_lot P J (fun l hl hx => ?_) k0)
  have h16 := ltp16 I J hl
  obtain ⟨ac, ar, f, e1, e2, e3, e4⟩ := P.2.2.2.2.2.2.2.1 l hl
  have no : (y < 1 ∨ nI (s (700 + l)) < y) → wb_X1_lotWithPage_24 κ Q X (some (la l)) h := fun w => by
    unfold wb_X1_lotWithPage_24 wb_X1_lotWithPage_25 wp_X1_requireElement
    exact ⟨fun _ => k2 l hl hx w, fun w => absurd rfl w⟩
  rcases ix_1 (x := y) (n := s (700 + l)) (by omega) with (hy | ⟨hy, hy2⟩) | ⟨p, hp, hy, hy1, hy2⟩
  · exact ⟨fun _ => no (Or.inl hy), fun z => absurd hy z⟩
  · exact ⟨fun z => absurd z hy, fun _ => gs_GR e1 rfl (gs_LN e3 ⟨fun _ => no (Or.inr hy2), fun z => absurd hy2 z⟩)⟩
  · refine ⟨fun z => absurd z hy1, fun _ => gs_GR e1 rfl (gs_LN e3 ⟨fun z => absurd z hy2, fun _ => ?_⟩)⟩
    unfold wb_X1_lotWithPage_25 wp_X1_requireElement
    exact ⟨(fun z => by cases z), fun _ => k1 l p hl hx hp hy⟩
theorem dk_stateIn {ca ja la A s : Nat → Nat} {T : Nat → gh_H → Prop} {ev : List Nat} {x y : Int32} {Q : Int32 → gh_H → Prop} (P : DP κ bd ca ja la A T d s ev h) (I : IV s) (J : IW s) (k1 : ∀ l p, l < s 3 → x = nI l → p < s (700 + l) → y = nI (p + 1) → Q (nI (s (6000 + (16 * l + p)))) h) (k2 : ∀ l, l < s 3 → x = nI l → (y < 1 ∨ nI (s (700 + l)) < y) → X "java/util/NoSuchElementException" h) (k0 : x < 0 ∨ nI (s 3) ≤ x → X "java/lang/IndexOutOfBoundsException" h) : wp_X1_stateIn κ d x y Q X h := by
  unfold wp_X1_stateIn
  refine gs_RC P.1 (dk_lotPage P I J (fun l p hl hx hp hy => ?_) k2 k0)
  have h16 := ltp16 I J hl
  obtain ⟨ac, ar, f, e1, e2, e3, e4⟩ := P.2.2.2.2.2.2.2.1 l hl
  refine gs_GR e1 rfl ?_
  rw [hy, nI_pred]
  refine gs_LI e3 hp (by omega) ?_
  rw [e4 p hp]
  exact k1 l p hl hx hp hy
theorem ct_take {xs : List Nat} {x i : Nat} (hi : i < xs.length) : (xs.take (i + 1)).count x = (xs.take i).count x + if xs[i] = x then 1 else 0 := by
  rw [← List.take_append_getElem hi, List.count_append, List.count_singleton]
  simp
theorem dk_replay {ca ja la A s : Nat → Nat} {T : Nat → gh_H → Prop} {ev : List Nat} {x y : Int32} {Q : Int32 → gh_H → Prop} (hT : TK T) (P : DP κ bd ca ja la A T d s ev h) (I : IV s) (J : IW s) (E : IE s ev) (hev : ev.length ≤ 64) (k1 : ∀ l p, l < s 3 → x = nI l → p < s (700 + l) → y = nI (p + 1) → ∀ h', Only (fun t => t = 99) h h' → Q (nI (s (6000 + (16 * l + p)))) h') (k2 : ∀ l, l < s 3 → x = nI l → (y < 1 ∨ nI (s (700 + l)) < y) → X "java/util/NoSuchElementException" h) (k0 : x < 0 ∨ nI (s 3) ≤ x → X "java/lang/IndexOutOfBoundsException" h) : wp_X1_stateByReplay κ d x y Q X h := by
  unfold wp_X1_stateByReplay
  refine gs_RC P.1 (dk_lotPage P I J (fun l p hl hx hp hy => ?_) k2 k0)
  have h16 := ltp16 I J hl
  obtain ⟨ac, ar, f, e1, e2, e3, e4⟩ := P.2.2.2.2.2.2.2.1 l hl
  obtain ⟨al, hal, -⟩ := id e2
  have hct := lCt_lt I J hl hp
  refine gs_GR e1 rfl (gs_RC hal ?_)
  rw [hy, nI_pred]
  refine ls_get e2 (by rw [rg_len]; exact hp) ?_
  rw [rg_at]
  refine gs_CK (P.2.2.1 _ hct) (by decide) (gs_GR P.1 rfl ?_)
  obtain ⟨xs, ⟨mc, p6⟩, p6b⟩ := P.2.2.2.2.2.1
  obtain ⟨ax, hax, -⟩ := id p6
  refine gs_RC hax (it_new p6.lr (fun q h1 o1 I1 => ?_))
  obtain ⟨pre, suf, v1, v2, v3⟩ := E.2.2 l hl
  have hlen : ev.length = pre.length + (suf.length + 1) := by rw [v1, List.length_append, List.length_cons]
  have hxl := p6b.1
  have q1 := k1 l p hl hx hp hy
  rw [v3 p hp] at q1
  have key : ∀ (r i : Nat) (h2 : gh_H), i + r = pre.length → Only (fun t => t = 99) h h2 → IT κ 6 (A 2) xs q i h2 → wl_X1_stateByReplay_38 κ Q X (r + 1) i (some (la l)) (some (ca (lCt s l p))) (nI ((pre.take i).count (2 * lCt s l p))) (some q) h2 := by
    intro r
    induction r with
    | zero =>
      intro i h2 hi o2 I2
      show i ≤ 65 ∧ wb_X1_stateByReplay_38 κ _ i Q X (some (la l)) _ _ (some q) h2
      refine ⟨by omega, ?_⟩
      unfold wb_X1_stateByReplay_38
      obtain ⟨mc2, lr2, -, hq⟩ := id I2
      refine gs_RC hq (it_hasNext I2 (by omega) (fun hlt => ⟨(fun z => by cases z), fun _ => gs_RC hq (it_next I2 (by decide) (by decide) hlt (fun h3 o3 I3 => ?_))⟩) (fun z => absurd z (by omega)))
      have hie : i < ev.length := by omega
      have e5 : ev[i] = 2 * l + 1 := by
        subst v1
        rw [List.getElem_append_right (by omega)]
        simp [show i - pre.length = 0 by omega]
      have e6 : xs[i] = la l := by
        have := (p6b.2 i hie hlt).2 (by omega)
        rw [this, e5]
        congr 1
        omega
      rw [e6]
      have P3 := P.keep hT I (o2.trans o3) (by decide) (fun t ht hn => hn)
      obtain ⟨ac3, ar3, f3, g1, -⟩ := P3.2.2.2.2.2.2.2.1 l hl
      refine gs_CK g1 (by decide) ⟨fun _ => ?_, fun z => absurd rfl z⟩
      unfold wb_X1_stateByReplay_107
      rw [List.take_of_length_le (by omega)]
      exact q1 h3 (o2.trans o3)
    | succ r ih =>
      intro i h2 hi o2 I2
      show i ≤ 65 ∧ wb_X1_stateByReplay_38 κ (wl_X1_stateByReplay_38 κ Q X (r + 1)) i Q X (some (la l)) _ _ (some q) h2
      refine ⟨by omega, ?_⟩
      unfold wb_X1_stateByReplay_38 wb_X1_stateByReplay_100 wb_X1_stateByReplay_101
      obtain ⟨mc2, lr2, -, hq⟩ := id I2
      refine gs_RC hq (it_hasNext I2 (by omega) (fun hlt => ⟨(fun z => by cases z), fun _ => gs_RC hq (it_next I2 (by decide) (by decide) hlt (fun h3 o3 I3 => ?_))⟩) (fun z => absurd z (by omega)))
      have hie : i < ev.length := by omega
      have hip : i < pre.length := by omega
      have e5 : ev[i] = pre[i] := by
        subst v1
        rw [List.getElem_append_left hip]
      have P3 := P.keep hT I (o2.trans o3) (by decide) (fun t ht hn => hn)
      have em := E.1 _ (List.getElem_mem hie)
      obtain ⟨ac3, ar3, f3, g1, -⟩ := P3.2.2.2.2.2.2.2.1 l hl
      have ec := ct_take (x := 2 * lCt s l p) hip
      rcases Nat.mod_two_eq_zero_or_one ev[i] with w | w
      · have g2 := (p6b.2 i hie hlt).1 w
        have g3 := o3 _ _ _ (o2 _ _ _ g2 (by decide)) (by decide)
        refine gs_CK g3 (by decide) ⟨fun z => ?_, fun _ => Or.inr ⟨xs[i], 98, 5, _, rfl, g3, Or.inl ⟨by decide, ⟨(fun z => by cases z), fun _ => gs_CK g3 (by decide) (gs_GR g3 rfl ⟨fun z => ?_, fun z => ?_⟩)⟩⟩⟩⟩
        · exact absurd (Option.some.inj z) (lb_ne g3 g1 (by omega))
        · have ez : ev[i] / 2 = lCt s l p := P.2.2.1.inj (em.1 w) hct (Option.some.inj z)
          rw [nI_1]
          have : (pre.take i).count (2 * lCt s l p) + 1 = (pre.take (i + 1)).count (2 * lCt s l p) := by
            rw [ec, if_pos (by omega)]
          rw [this]
          exact ih (i + 1) h3 (by omega) (o2.trans o3) I3
        · have ez : ¬ ev[i] / 2 = lCt s l p := fun y => z (by rw [y])
          rw [show nI ((pre.take i).count (2 * lCt s l p)) + 0 = nI ((pre.take i).count (2 * lCt s l p)) from nI_add _ 0]
          rw [if_neg (by omega)] at ec
          rw [show (pre.take i).count (2 * lCt s l p) = (pre.take (i + 1)).count (2 * lCt s l p) from ec.symm]
          exact ih (i + 1) h3 (by omega) (o2.trans o3) I3
      · have g2 := (p6b.2 i hie hlt).2 w
        have hk := em.2 w
        obtain ⟨ac4, ar4, f4, g4, -⟩ := P3.2.2.2.2.2.2.2.1 _ hk
        rw [g2]
        have hne : ev[i] ≠ 2 * l + 1 := fun y => v2 (by rw [← y, e5]; exact List.getElem_mem hip)
        refine gs_CK g4 (by decide) ⟨fun z => ?_, fun _ => Or.inr ⟨_, _, 6, _, rfl, g4, Or.inr ⟨by decide, ⟨fun _ => ?_, fun z => absurd rfl z⟩⟩⟩⟩
        · exact absurd (Option.some.inj z) (lb_ne g4 g1 (by omega))
        · rw [show nI ((pre.take i).count (2 * lCt s l p)) + 0 = nI ((pre.take i).count (2 * lCt s l p)) from nI_add _ 0]
          rw [if_neg (by omega)] at ec
          rw [show (pre.take i).count (2 * lCt s l p) = (pre.take (i + 1)).count (2 * lCt s l p) from ec.symm]
          exact ih (i + 1) h3 (by omega) (o2.trans o3) I3
  exact ⟨_, key _ 0 h1 (Nat.zero_add _) (o1.mono (fun t z => z.elim)) I1⟩
theorem mp_stateIn {a s : Nat → Nat} {x y : Int32} {Q : Int32 → gh_H → Prop} (P : MP m a s h) (I : IV s) (J : IW s) (k1 : ∀ l p, l < s 3 → x = nI l → p < s (700 + l) → y = nI (p + 1) → ∀ h', Only Mo h h' → MP m a (sU s 0 0) h' → Q (nI (s (6000 + (16 * l + p)))) h') (k2 : ∀ l, l < s 3 → x = nI l → (y < 1 ∨ nI (s (700 + l)) < y) → ∀ h', Only Mo h h' → MP m a (sU s 0 2) h' → Q 0 h') (k0 : x < 0 ∨ nI (s 3) ≤ x → ∀ h', Only Mo h h' → MP m a (sU s 0 1) h' → Q 0 h') : wp_X3_stateIn κ m x y Q X h := by
  have h3 := J.1
  unfold wp_X3_stateIn
  refine gs_GI P.1 rfl (mp_in (by omega) (fun l hl hx => ⟨(fun z => by cases z), fun _ => gs_GR P.1 rfl ?_⟩) (fun hx => ⟨fun _ => gs_RC P.1 (mp_fails (v := 1) P (k0 hx)), fun z => absurd rfl z⟩))
  have h16 := ltp16 I J hl
  rw [hx]
  refine mp_LI (k := 12) P (by decide) rfl (show l < 100 by omega) (mp_in1 (show s (700 + l) < 2 ^ 30 by omega) (fun p hp hy => ⟨(fun z => by cases z), fun _ => ?_⟩) (fun hy => ⟨fun _ => gs_RC P.1 (mp_fails (v := 2) P (k2 l hl hx hy)), fun z => absurd rfl z⟩))
  have hp' : p < s (700 + l) := hp
  refine mp_PV (k := 0) (v := 0) P (by decide) (fun h2 o2 P2 => gs_GR P2.1 rfl ?_)
  have e : (((16 : Int32) * nI l) + y) - 1 = nI (16 * l + p) := by
    rw [hy, show (16 : Int32) * nI l = nI (16 * l) from pk_mul 16 l, nI_add, ← Nat.add_assoc]
    exact nI_pred _
  rw [e]
  refine mp_LI (k := 13) P2 (by decide) rfl (show _ < 1600 by omega) ?_
  have e0 : sU s 0 0 (mB 13 + (16 * l + p)) = s (6000 + (16 * l + p)) := sU_ne (by show 6000 + _ ≠ 0; omega)
  rw [e0]
  exact k1 l p hl hx hp hy h2 o2 P2
theorem o_stateIn {T : (Nat → Nat) → Nat → gh_H → Prop} {x y : Int32} {G : Int32 → gh_H → Prop} (hG : ∀ r3 h4, KC κ bd sc h4 → gh_RC h4 (some m) 1 (fun a5 => wp_X3_stateIn κ a5 x y (fun r6 h7 => TLw κ vO K r3 a5 r6 h7) (fun _ _ => False) h4) → G r3 h4) (hT : TKs T) (L : LI κ bd sc T d m vO vD t h) (k : ∀ h', LI κ bd sc T d m vO vD (t + 1) h' → K h') :
    wp_X0_stateIn κ (some d) x y (some vO) G (fun _ _ => False) h := by
  obtain ⟨a, s, ca, ja, la, A, ev, P, M, I, J, Y, E, B, C, O⟩ := L
  have h3 := J.1
  unfold wp_X0_stateIn
  refine gs_RC P.1 (dk_stateIn P I J (fun l p hl hx hp hy => ?_) (fun l hl hx hy => Or.inr ⟨rfl, fun _ => ?_⟩) (fun hx => Or.inl ⟨rfl, fun _ => ?_⟩))
  · have h16 := ltp16 I J hl
    refine o_ok (hG := hG 0) (WM := fun a5 Q h4 => wp_X3_stateIn κ a5 x y Q (fun _ _ => False) h4) hT P M I J Y E B C O (fun h2 Q M2 kk => mp_stateIn M2 I J (fun l' p' hl' hx' hp' hy' => ?_) (fun l' hl' hx' hy' => ?_) (fun z => (ix_out (by omega) hl hx z).elim)) k
    · have el := ix_eq (by omega) hl hl' hx hx'
      subst el
      rw [ix1_eq (by omega) hp hp' hy hy']
      exact kk
    · have el := ix_eq (by omega) hl hl' hx hx'
      subst el
      exact (ix1_out (by omega) hp hy hy').elim
  · have h16 := ltp16 I J hl
    refine o_bad (c := 2) (hG := hG (nI 2)) (WM := fun a5 Q h4 => wp_X3_stateIn κ a5 x y Q (fun _ _ => False) h4) hT P M I J Y E B C O (by decide) (by decide) (fun Q kk => mp_stateIn M I J (fun l' p' hl' hx' hp' hy' => ?_) (fun l' hl' hx' hy' => kk) (fun z => (ix_out (by omega) hl hx z).elim)) k
    have el := ix_eq (by omega) hl hl' hx hx'
    subst el
    exact (ix1_out (by omega) hp' hy' hy).elim
  · exact o_bad (c := 1) (hG := hG (nI 1)) (WM := fun a5 Q h4 => wp_X3_stateIn κ a5 x y Q (fun _ _ => False) h4) hT P M I J Y E B C O (by decide) (by decide) (fun Q kk => mp_stateIn M I J (fun l' p' hl' hx' _ _ => (ix_out (by omega) hl' hx' hx).elim) (fun l' hl' hx' _ => (ix_out (by omega) hl' hx' hx).elim) (fun _ => kk)) k
theorem LI.it {T : (Nat → Nat) → Nat → gh_H → Prop} {ca ja la A a s : Nat → Nat} {ev : List Nat} {h' : gh_H} (hT : TKs T) (P : DP κ bd ca ja la A (T s) d s ev h) (M : MP m a s h) (I : IV s) (C : KC κ bd sc h) (O : OT vO vD h) (o : Only (fun t => t = 99) h h') : DP κ bd ca ja la A (T s) d s ev h' ∧ MP m a s h' ∧ KC κ bd sc h' ∧ OT vO vD h' :=
  ⟨P.keep (hT.1 s) I o (by decide) (fun t ht hn => hn), M.keep o (fun t ht => by unfold Mo at ht; omega), C.keep o (by decide), O.keep o (by decide) (by decide)⟩
theorem o_replay {T : (Nat → Nat) → Nat → gh_H → Prop} {x y : Int32} {G : Int32 → gh_H → Prop} (hG : ∀ r3 h4, KC κ bd sc h4 → gh_RC h4 (some m) 1 (fun a5 => wp_X3_stateByReplay κ a5 x y (fun r6 h7 => TLw κ vO K r3 a5 r6 h7) (fun _ _ => False) h4) → G r3 h4) (hT : TKs T) (ht : t ≤ 64) (L : LI κ bd sc T d m vO vD t h) (k : ∀ h', LI κ bd sc T d m vO vD (t + 1) h' → K h') :
    wp_X0_stateByReplay κ (some d) x y (some vO) G (fun _ _ => False) h := by
  obtain ⟨a, s, ca, ja, la, A, ev, P, M, I, J, Y, E, B, C, O⟩ := L
  have h3 := J.1
  have hev : ev.length ≤ 64 := Nat.le_trans B.2.2.2.2.2.2 ht
  unfold wp_X0_stateByReplay
  refine gs_RC P.1 (dk_replay (hT.1 s) P I J E hev (fun l p hl hx hp hy h1 o1 => ?_) (fun l hl hx hy => Or.inr ⟨rfl, fun _ => ?_⟩) (fun hx => Or.inl ⟨rfl, fun _ => ?_⟩))
  · have h16 := ltp16 I J hl
    obtain ⟨P1, M1, C1, O1⟩ := LI.it hT P M I C O o1
    refine o_ok (hG := hG 0) (WM := fun a5 Q h4 => wp_X3_stateByReplay κ a5 x y Q (fun _ _ => False) h4) hT P1 M1 I J Y E B C1 O1 (fun h2 Q M2 kk => ?_) k
    unfold wp_X3_stateByReplay
    refine gs_RC M2.1 (mp_stateIn M2 I J (fun l' p' hl' hx' hp' hy' => ?_) (fun l' hl' hx' hy' => ?_) (fun z => (ix_out (by omega) hl hx z).elim))
    · have el := ix_eq (by omega) hl hl' hx hx'
      subst el
      rw [ix1_eq (by omega) hp hp' hy hy']
      exact kk
    · have el := ix_eq (by omega) hl hl' hx hx'
      subst el
      exact (ix1_out (by omega) hp hy hy').elim
  · have h16 := ltp16 I J hl
    refine o_bad (r := 0) (c := 2) (hG := hG (nI 2)) (WM := fun a5 Q h4 => wp_X3_stateByReplay κ a5 x y Q (fun _ _ => False) h4) hT P M I J Y E B C O (by decide) (by decide) (fun Q kk => ?_) k
    unfold wp_X3_stateByReplay
    refine gs_RC M.1 (mp_stateIn M I J (fun l' p' hl' hx' hp' hy' => ?_) (fun l' hl' hx' hy' => kk) (fun z => (ix_out (by omega) hl hx z).elim))
    have el := ix_eq (by omega) hl hl' hx hx'
    subst el
    exact (ix1_out (by omega) hp' hy' hy).elim
  · refine o_bad (r := 0) (c := 1) (hG := hG (nI 1)) (WM := fun a5 Q h4 => wp_X3_stateByReplay κ a5 x y Q (fun _ _ => False) h4) hT P M I J Y E B C O (by decide) (by decide) (fun Q kk => ?_) k
    unfold wp_X3_stateByReplay
    exact gs_RC M.1 (mp_stateIn M I J (fun l' p' hl' hx' _ _ => (ix_out (by omega) hl' hx' hx).elim) (fun l' hl' hx' _ => (ix_out (by omega) hl' hx' hx).elim) (fun _ => kk))
end
