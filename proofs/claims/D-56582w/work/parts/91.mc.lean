/-! PLAIN LAW, part MC: outdated -/
set_option maxRecDepth 100000
def oldAt (s : Nat → Nat) (c l i : Nat) : Bool := (lCt s l i == c) && !(s (6000 + (16 * l + i)) == s (100 + c))
def oldB (s : Nat → Nat) (c l : Nat) : Bool := (List.range (s (700 + l))).any (oldAt s c l)
def odN (s : Nat → Nat) (c : Nat) : Nat → Nat
  | 0 => 0
  | r + 1 => odN s c r + if oldB s c r then s (600 + r) else 0
theorem any_succ {f : Nat → Bool} {i : Nat} : (List.range (i + 1)).any f = ((List.range i).any f || f i) := by
  rw [List.range_succ, List.any_append]
  simp
theorem oldB_of {s : Nat → Nat} {c l i : Nat} (hi : i < s (700 + l)) (h1 : lCt s l i = c) (h2 : s (6000 + (16 * l + i)) ≠ s (100 + c)) : oldB s c l = true := by
  unfold oldB
  rw [List.any_eq_true]
  refine ⟨i, List.mem_range.mpr hi, ?_⟩
  unfold oldAt
  simp [h1, h2]
theorem oldB_no {s : Nat → Nat} {c l : Nat} (h : ∀ i, i < s (700 + l) → lCt s l i = c → s (6000 + (16 * l + i)) = s (100 + c)) : oldB s c l = false := by
  cases e : oldB s c l with
  | false => rfl
  | true =>
    unfold oldB at e
    rw [List.any_eq_true] at e
    obtain ⟨i, hi, h2⟩ := e
    unfold oldAt at h2
    simp at h2
    exact absurd (h i (List.mem_range.mp hi) h2.1) h2.2
section
variable {κ bd : Nat → Nat} {sc : Nat × Nat × (Nat → Int32)} {d m vO vD t : Nat} {h : gh_H} {K : gh_H → Prop} {X : String → gh_H → Prop}
theorem lt_outd {ca la s : Nat → Nat} {ev : List Nat} {c l : Nat} {Q : Int32 → gh_H → Prop} (Lt : LOT κ ca la s l h) (Cp : CP ca s h) (I : IV s) (J : IW s) (E : IE s ev) (hc : c < s 1) (hl : l < s 3) (k1 : oldB s c l = true → Q 1 h) (k0 : oldB s c l = false → Q 0 h) : wp_X10_isOutdated κ (la l) (some (ca c)) Q X h := by
  have hs := I.1
  have h16 := ltp16 I J hl
  obtain ⟨ac, ar, f, e1, e2, e3, e4⟩ := Lt
  obtain ⟨al, hal, -⟩ := id e2
  obtain ⟨pre, suf, v1, v2, v3⟩ := E.2.2 l hl
  have hst := J.2.2.2.2.2.2.2.2 l hl
  unfold wp_X10_isOutdated wb_X10_isOutdated_32 wb_X10_isOutdated_33
  refine gs_GR e1 rfl (gs_RC hal (ls_indexOf e2 (Cp c hc) (fun hx => ?_) (fun hx => ?_)))
  · have hx' : gl_ix ((List.range (s (700 + l))).map (fun i => ca (lCt s l i))) (ca c) < s (700 + l) := by
      rw [rg_len] at hx
      exact hx
    have ea := gl_ix_at _ _ hx
    rw [rg_at] at ea
    have ec := Cp.inj (lCt_lt I J hl hx') hc ea
    generalize gl_ix ((List.range (s (700 + l))).map (fun i => ca (lCt s l i))) (ca c) = i at hx' ec
    have b1 := hst.2.2.2.2 i (by omega)
    have b2 := (I.2.2.2.2.2.1 c (by omega)).1
    refine ⟨fun z => absurd z (nI_pos (n31 (by omega))), fun _ => gs_GR e1 rfl (gs_LI e3 hx' (n31 (by omega)) (gs_GI (Cp c hc) rfl ?_))⟩
    rw [e4 i hx']
    refine ⟨fun z => ⟨nb0, k0 (oldB_no (fun i' hi' h1 => ?_))⟩, fun z => ⟨nb1, k1 (oldB_of hx' ec (fun w => z (by rw [w])))⟩⟩
    have q1 := v3 i hx'
    have q2 := v3 i' hi'
    rw [ec] at q1
    rw [h1] at q2
    rw [q2, ← q1]
    exact (nI_eq (n31 (by omega)) (n31 (by omega))).mp z
  · refine ⟨fun _ => ⟨nb0, k0 (oldB_no (fun i hi h1 => ?_))⟩, fun z => absurd (by decide) z⟩
    exfalso
    have hle : i < ((List.range (s (700 + l))).map (fun i => ca (lCt s l i))).length := by rw [rg_len]; exact hi
    refine gl_ix_ne _ (ca c) i hle (by rw [hx]; exact hle) ?_
    rw [rg_at, h1]
theorem odN_le {s : Nat → Nat} {c : Nat} (J : IW s) : ∀ r, r ≤ s 3 → odN s c r ≤ 500 * r
  | 0, _ => Nat.zero_le _
  | r + 1, h => by
    have := odN_le (c := c) J r (by omega)
    have h2 := (J.2.2.2.2.2.2.2.2 r (by omega)).2.1
    unfold odN
    split <;> omega
theorem dk_outdated {ca ja la A s : Nat → Nat} {T : Nat → gh_H → Prop} {ev : List Nat} {x : Int32} {Q : Int32 → gh_H → Prop} (hT : TK T) (P : DP κ bd ca ja la A T d s ev h) (I : IV s) (J : IW s) (E : IE s ev) (k1 : ∀ c, c < s 1 → x = nI c → ∀ h', Only (fun t => t = 99) h h' → Q (nI (odN s c (s 3))) h') (k0 : x < 0 ∨ nI (s 1) ≤ x → X "java/lang/IndexOutOfBoundsException" h) : wp_X1_outdated κ d x Q X h := by
  unfold wp_X1_outdated
  refine gs_RC P.1 (dk_content P I (fun c hc hx => ?_) k0)
  have h3 := J.1
  obtain ⟨mc, p7⟩ := id P.2.2.2.2.2.2.1
  obtain ⟨al, hal, -⟩ := id p7
  refine gs_GR P.1 rfl (gs_RC hal (it_new p7.lr (fun q h1 o1 I1 => ?_)))
  have key : ∀ (r i : Nat) (h2 : gh_H), i + r = s 3 → Only (fun t => t = 99) h h2 → IT κ 8 (A 3) ((List.range (s 3)).map la) q i h2 → wl_X1_outdated_19 κ Q X (r + 1) i (some (ca c)) (nI (odN s c i)) (some q) h2 := by
    intro r
    induction r with
    | zero =>
      intro i h2 hi o2 I2
      show i ≤ 65 ∧ wb_X1_outdated_19 κ _ i Q X (some (ca c)) _ (some q) h2
      refine ⟨by omega, ?_⟩
      unfold wb_X1_outdated_19
      obtain ⟨mc2, lr2, -, hq⟩ := id I2
      refine gs_RC hq (it_hasNext I2 (by rw [rg_len]; omega) (fun hlt => absurd hlt (by rw [rg_len]; omega)) (fun z => ⟨fun _ => ?_, fun w => absurd rfl w⟩))
      rw [show i = s 3 by omega]
      exact k1 c hc hx h2 o2
    | succ r ih =>
      intro i h2 hi o2 I2
      show i ≤ 65 ∧ wb_X1_outdated_19 κ (wl_X1_outdated_19 κ Q X (r + 1)) i Q X (some (ca c)) _ (some q) h2
      refine ⟨by omega, ?_⟩
      unfold wb_X1_outdated_19 wb_X1_outdated_60
      obtain ⟨mc2, lr2, -, hq⟩ := id I2
      refine gs_RC hq (it_hasNext I2 (by rw [rg_len]; omega) (fun hlt => ⟨(fun z => by cases z), fun _ => gs_RC hq (it_next I2 (by decide) (by decide) hlt (fun h3 o3 I3 => ?_))⟩) (fun z => absurd z (by rw [rg_len]; omega)))
      have P3 := P.keep hT I (o2.trans o3) (by decide) (fun t ht hn => hn)
      have L3 := P3.2.2.2.2.2.2.2.1 i (by omega)
      obtain ⟨ac3, ar3, f3, g1, -⟩ := id L3
      rw [rg_at]
      refine gs_CK g1 (by decide) (gs_RC g1 (lt_outd L3 P3.2.2.1 I J E hc (by omega) (fun w => ⟨(fun z => by cases z), fun _ => gs_GI g1 rfl ?_⟩) (fun w => ⟨fun _ => ?_, fun z => absurd rfl z⟩)))
      · have e : odN s c (i + 1) = odN s c i + s (600 + i) := by
          show odN s c i + (if oldB s c i then s (600 + i) else 0) = _
          rw [w]
          rfl
        rw [nI_add, ← e]
        exact ih (i + 1) h3 (by omega) (o2.trans o3) I3
      · have e : odN s c (i + 1) = odN s c i := by
          show odN s c i + (if oldB s c i then s (600 + i) else 0) = _
          rw [w]
          rfl
        rw [show nI (odN s c i) + 0 = nI (odN s c i) from nI_add _ 0, ← e]
        exact ih (i + 1) h3 (by omega) (o2.trans o3) I3
  exact ⟨_, key _ 0 h1 (Nat.zero_add _) (o1.mono (fun t ht => ht.elim)) I1⟩
theorem b01 {b : Bool} : (if b then 1 else 0) ≤ 1 := by cases b <;> decide
theorem mp_outdated {a s : Nat → Nat} {x : Int32} {Q : Int32 → gh_H → Prop} (P : MP m a s h) (I : IV s) (J : IW s) (k1 : ∀ c, c < s 1 → x = nI c → ∀ h', Only Mo h h' → MP m a (sU s 0 0) h' → Q (nI (odN s c (s 3))) h') (k0 : x < 0 ∨ nI (s 1) ≤ x → ∀ h', Only Mo h h' → MP m a (sU s 0 1) h' → Q 0 h') : wp_X3_outdated κ m x Q X h := by
  have hs1 := I.1
  have h3 := J.1
  have hs2 := I.2.1
  unfold wp_X3_outdated
  refine gs_RC P.1 (mp_isContent P I (fun c hc hx h1 o1 P1 => ⟨(fun z => by cases z), fun _ => ?_⟩) (fun hx h1 o1 P1 => ⟨fun _ => k0 hx h1 o1 P1, fun z => absurd rfl z⟩))
  rw [hx]
  have k1' := k1 c hc hx h1 o1 P1
  have e0 : ∀ i, i ≠ 0 → sU s 0 0 i = s i := fun i hi => sU_ne hi
  have key : ∀ (r l : Nat), l + r = s 3 → wl_X3_outdated_14 κ Q X (r + 1) m (nI c) (nI (odN s c l)) (nI l) h1 := by
    intro r
    induction r with
    | zero =>
      intro l hl
      show wb_X3_outdated_14 κ _ Q X m (nI c) _ (nI l) h1
      unfold wb_X3_outdated_14
      refine gs_GI P1.1 rfl ?_
      rw [e0 3 (by decide)]
      refine ⟨fun _ => ?_, fun z => absurd (nI_le (by omega) (n31 (by omega))) z⟩
      rw [show l = s 3 by omega]
      exact k1'
    | succ r ih =>
      intro l hl
      show wb_X3_outdated_14 κ (wl_X3_outdated_14 κ Q X (r + 1)) Q X m (nI c) _ (nI l) h1
      unfold wb_X3_outdated_14
      refine gs_GI P1.1 rfl ?_
      rw [e0 3 (by decide)]
      refine ⟨fun z => absurd z (nI_ge (by omega) (n31 (by omega))), fun _ => ?_⟩
      have h16 := ltp16 I J (show l < s 3 by omega)
      have hst := J.2.2.2.2.2.2.2.2 l (by omega)
      have b2 := (I.2.2.2.2.2.1 c (by omega)).1
      have nx := ih (l + 1) (by omega)
      have key2 : ∀ (r2 i : Nat), i + r2 = s (700 + l) → wl_X3_outdated_28 κ (wl_X3_outdated_14 κ Q X (r + 1)) Q X (r2 + 1) m (nI c) (nI (odN s c l)) (nI l) (nI (if (List.range i).any (oldAt s c l) then 1 else 0)) (nI i) h1 := by
        intro r2
        induction r2 with
        | zero =>
          intro i hi
          show wb_X3_outdated_28 κ _ _ Q X m (nI c) _ (nI l) _ (nI i) h1
          unfold wb_X3_outdated_28 wb_X3_outdated_115
          refine gs_GR P1.1 rfl (mp_LI (k := 12) P1 (by decide) rfl (show l < 100 by omega) ?_)
          have e7 : sU s 0 0 (mB 12 + l) = s (700 + l) := e0 _ (by show 700 + l ≠ 0; omega)
          rw [e7]
          have eo : (List.range i).any (oldAt s c l) = oldB s c l := by unfold oldB; rw [show i = s (700 + l) by omega]
          rw [eo]
          refine ⟨fun _ => ?_, fun z => absurd (nI_le (by omega) (n31 (by omega))) z⟩
          have en : odN s c (l + 1) = odN s c l + (if oldB s c l then s (600 + l) else 0) := rfl
          cases w : oldB s c l with
          | false =>
            rw [w] at en
            refine ⟨fun _ => ?_, fun z => absurd rfl z⟩
            rw [show nI (odN s c l) + 0 = nI (odN s c l) from nI_add _ 0, nI_1]
            rw [show odN s c (l + 1) = odN s c l from en] at nx
            exact nx
          | true =>
            rw [w] at en
            refine ⟨(fun z => by cases z), fun _ => gs_GR P1.1 rfl (mp_LI (k := 11) P1 (by decide) rfl (show l < 100 by omega) ?_)⟩
            have e6 : sU s 0 0 (mB 11 + l) = s (600 + l) := e0 _ (by show 600 + l ≠ 0; omega)
            rw [e6, nI_add, nI_1]
            rw [show odN s c (l + 1) = odN s c l + s (600 + l) from en] at nx
            exact nx
        | succ r2 ih2 =>
          intro i hi
          show wb_X3_outdated_28 κ _ (wl_X3_outdated_28 κ (wl_X3_outdated_14 κ Q X (r + 1)) Q X (r2 + 1)) Q X m (nI c) _ (nI l) _ (nI i) h1
          unfold wb_X3_outdated_28 wb_X3_outdated_86 wb_X3_outdated_90 wb_X3_outdated_91
          refine gs_GR P1.1 rfl (mp_LI (k := 12) P1 (by decide) rfl (show l < 100 by omega) ?_)
          have e7 : sU s 0 0 (mB 12 + l) = s (700 + l) := e0 _ (by show 700 + l ≠ 0; omega)
          rw [e7]
          refine ⟨fun z => absurd z (nI_ge (by omega) (n31 (by omega))), fun _ => ?_⟩
          have nx2 := ih2 (i + 1) (by omega)
          rw [any_succ] at nx2
          cases w : (List.range i).any (oldAt s c l) with
          | true =>
            rw [w] at nx2
            refine ⟨(fun z => by cases z), fun _ => ?_⟩
            rw [nI_1]
            exact nx2
          | false =>
            rw [w] at nx2
            refine ⟨fun _ => gs_GR P1.1 rfl (gs_GR P1.1 rfl (mp_LI (k := 10) P1 (by decide) rfl (show l < 100 by omega) ?_)), fun z => absurd rfl z⟩
            have e5 : sU s 0 0 (mB 10 + l) = s (500 + l) := e0 _ (by show 500 + l ≠ 0; omega)
            have e16 : (16 : Int32) * nI (s (500 + l)) + nI i = nI (16 * s (500 + l) + i) := by rw [show (16 : Int32) * nI (s (500 + l)) = nI (16 * s (500 + l)) from pk_mul 16 _, nI_add]
            rw [e5, e16]
            refine mp_LI (k := 3) P1 (by decide) rfl (show _ < 64 by omega) ?_
            have el : sU s 0 0 (mB 3 + (16 * s (500 + l) + i)) = lCt s l i := e0 _ (by show 200 + _ ≠ 0; omega)
            have hlt := lCt_lt I J (show l < s 3 by omega) (show i < s (700 + l) by omega)
            rw [el]
            refine ⟨fun z => gs_GR P1.1 rfl ?_, fun z => ?_⟩
            · have ez : lCt s l i = c := (nI_eq (n31 (by omega)) (n31 (by omega))).mp z
              have e16b : (16 : Int32) * nI l + nI i = nI (16 * l + i) := by rw [show (16 : Int32) * nI l = nI (16 * l) from pk_mul 16 _, nI_add]
              rw [e16b]
              refine mp_LI (k := 13) P1 (by decide) rfl (show _ < 1600 by omega) (gs_GR P1.1 rfl (mp_LI (k := 0) P1 (by decide) rfl (show c < 12 by omega) ?_))
              have e6 : sU s 0 0 (mB 13 + (16 * l + i)) = s (6000 + (16 * l + i)) := e0 _ (by show 6000 + _ ≠ 0; omega)
              have e1 : sU s 0 0 (mB 0 + c) = s (100 + c) := e0 _ (by show 100 + c ≠ 0; omega)
              have b1 := hst.2.2.2.2 i (by omega)
              rw [e6, e1, nI_1]
              refine ⟨fun y => ?_, fun y => ?_⟩
              · have ey := (nI_eq (n31 (by omega)) (n31 (by omega))).mp y
                have eo : oldAt s c l i = false := by unfold oldAt; simp [ey]
                rw [eo] at nx2
                exact nx2
              · have eo : oldAt s c l i = true := by
                  unfold oldAt
                  simp [ez]
                  exact fun w => y (by rw [w])
                rw [eo] at nx2
                exact nx2
            · have eo : oldAt s c l i = false := by
                unfold oldAt
                simp
                exact fun w => absurd (by rw [w]) z
              rw [eo] at nx2
              rw [nI_1]
              exact nx2
      exact ⟨_, key2 _ 0 (Nat.zero_add _)⟩
  exact ⟨_, key _ 0 (Nat.zero_add _)⟩
theorem o_outdated {T : (Nat → Nat) → Nat → gh_H → Prop} {x : Int32} {G : Int32 → gh_H → Prop} (hG : ∀ r3 h4, KC κ bd sc h4 → gh_RC h4 (some m) 1 (fun a5 => wp_X3_outdated κ a5 x (fun r6 h7 => TLw κ vO K r3 a5 r6 h7) (fun _ _ => False) h4) → G r3 h4) (hT : TKs T) (L : LI κ bd sc T d m vO vD t h) (k : ∀ h', LI κ bd sc T d m vO vD (t + 1) h' → K h') :
    wp_X0_outdated κ (some d) x (some vO) G (fun _ _ => False) h := by
  obtain ⟨a, s, ca, ja, la, A, ev, P, M, I, J, Y, E, B, C, O⟩ := L
  have h1 := I.1
  unfold wp_X0_outdated
  refine gs_RC P.1 (dk_outdated (hT.1 s) P I J E (fun c hc hx h1 o1 => ?_) (fun hx => ⟨rfl, fun _ => ?_⟩))
  · obtain ⟨P1, M1, C1, O1⟩ := LI.it hT P M I C O o1
    exact o_ok (hG := hG 0) (WM := fun a5 Q h4 => wp_X3_outdated κ a5 x Q (fun _ _ => False) h4) hT P1 M1 I J Y E B C1 O1 (fun h2 Q M2 kk => mp_outdated M2 I J (fun c' hc' hx' => by rw [ix_eq (by omega) hc hc' hx hx']; exact kk) (fun z => (ix_out (by omega) hc hx z).elim)) k
  · exact o_bad (c := 1) (hG := hG (nI 1)) (WM := fun a5 Q h4 => wp_X3_outdated κ a5 x Q (fun _ _ => False) h4) hT P M I J Y E B C O (by decide) (by decide) (fun Q kk => mp_outdated M I J (fun c' hc' hx' => (ix_out (by omega) hc' hx' hx).elim) (fun _ => kk)) k
end
