/-! PLAIN LAW, part MK: bind in the model and on both sides -/
set_option maxRecDepth 100000
theorem lkN_cg {s s' : Nat → Nat} {j c : Nat} (q : ∀ i, i ≠ 0 → s' i = s i) : ∀ r, lkN s' j c r = lkN s j c r
  | 0 => rfl
  | r + 1 => by
    show lkN s' j c r + (c - s' (300 + (8 * j + r))) = lkN s j c r + (c - s (300 + (8 * j + r)))
    rw [lkN_cg q r, q _ (by omega)]
theorem btS_cg {s s' : Nat → Nat} {j v : Nat} (q : ∀ i, i ≠ 0 → s' i = s i) : ∀ r, ∀ i, i ≠ 0 → btS s' j v r i = btS s j v r i
  | 0 => q
  | r + 1 => fun i hi => by
    unfold btS sU
    rw [q (300 + (8 * j + r)) (by omega)]
    split
    · rfl
    · exact btS_cg q r i hi
theorem ltS_cg {s s' : Nat → Nat} {j v : Nat} (q : ∀ i, i ≠ 0 → s' i = s i) : ∀ i, i ≠ 0 → ltS s' j v i = ltS s j v i := by
  intro i hi
  unfold ltS ltK sU
  rw [q 3 (by decide), q (130 + j) (by omega)]
  dsimp only
  rw [q i hi]
  split
  · rfl
  · split
    · rfl
    · split
      · rfl
      · split
        · rfl
        · split
          · rw [q (200 + _) (by omega), q (100 + _) (by omega)]
          · rfl
section
variable {κ : Nat → Nat} {m : Nat} {a s : Nat → Nat} {h : gh_H} {X : String → gh_H → Prop}
/-- the model's lot -/
theorem mp_lot {j v : Nat} {Q : Int32 → gh_H → Prop} (P : MP m a s h) (I : IV s) (hj : j < 4) (h3 : s 3 < 64) (k : ∀ h', Only Mo h h' → MP m a (ltS s j v) h' → Q (nI (s 3)) h') :
    (gh_GR h (some m) [(1, 22)] (fun x4 => (gh_GI h (some m) [(1, 3)] (fun x5 => (gh_SI h x4 x5 (nI j) (fun h6 => (gh_GR h6 (some m) [(1, 23)] (fun x7 => (gh_GI h6 (some m) [(1, 3)] (fun x8 => (gh_SI h6 x7 x8 (nI v) (fun h9 => (gh_GR h9 (some m) [(1, 24)] (fun x10 => (gh_GI h9 (some m) [(1, 3)] (fun x11 => (gh_GR h9 (some m) [(1, 14)] (fun x12 => (gh_LI h9 x12 (nI j) (fun x13 => (gh_SI h9 x10 x11 x13 (fun h14 => (∃ n : Nat, wl_X3_bind_149 κ Q X n m (nI j) (0 : Int32) h14))))))))))))))))))))))) := by
  have hp := (I.2.2.1 j hj).2
  have i1 := I.1
  refine gs_GR P.1 rfl (gs_GI P.1 rfl (mp_SI (k := 10) (v := j) P (by decide) rfl (show s 3 < 100 by omega) (fun h1 o1 P1 => gs_GR P1.1 rfl (gs_GI P1.1 rfl ?_))))
  have e1 : sU s (mB 10 + s 3) j 3 = s 3 := sU_ne (by show 3 ≠ 500 + s 3; omega)
  rw [e1]
  refine mp_SI (k := 11) (v := v) P1 (by decide) rfl (show s 3 < 100 by omega) (fun h2 o2 P2 => gs_GR P2.1 rfl (gs_GI P2.1 rfl (gs_GR P2.1 rfl (mp_LI (k := 2) P2 (by decide) rfl hj ?_))))
  have e2 : sU (sU s (mB 10 + s 3) j) (mB 11 + s 3) v 3 = s 3 := by rw [sU_ne (by show 3 ≠ 600 + s 3; omega), e1]
  have e3 : sU (sU s (mB 10 + s 3) j) (mB 11 + s 3) v (mB 2 + j) = s (130 + j) := by rw [sU_ne (by show 130 + j ≠ 600 + s 3; omega), sU_ne (by show 130 + j ≠ 500 + s 3; omega)]; rfl
  rw [e2, e3]
  refine mp_SI (k := 12) P2 (by decide) rfl (show s 3 < 100 by omega) (fun h3' o3 P3 => ?_)
  have P4 : MP m a (ltK s j v 0) h3' := by
    rw [← ltK_0 (by omega)]
    exact P3
  have oo := (o1.trans o2).trans o3
  have key : ∀ (r i : Nat) (h4 : gh_H), i + r = s (130 + j) → Only Mo h h4 → MP m a (ltK s j v i) h4 → wl_X3_bind_149 κ Q X (r + 1) m (nI j) (nI i) h4 := by
    intro r
    induction r with
    | zero =>
      intro i h4 hi o4 P4
      show wb_X3_bind_149 κ _ Q X m (nI j) (nI i) h4
      unfold wb_X3_bind_149
      have ei : i = s (130 + j) := by omega
      have g2 : ltK s j v i (mB 2 + j) = s (130 + j) := ltK_ne (by show 130 + j ≠ _; omega) (by show 130 + j ≠ _; omega) (by show 130 + j ≠ _; omega) (Or.inl (by show 130 + j < _; omega))
      have g3 : ltK s j v i 3 = s 3 := ltK_ne (by omega) (by omega) (by omega) (by omega)
      refine gs_GR P4.1 rfl (mp_LI (k := 2) P4 (by decide) rfl hj ?_)
      rw [g2]
      refine ⟨fun _ => gs_GI P4.1 rfl ?_, fun w => absurd (nI_le (by omega) (n31 (by omega))) w⟩
      rw [g3, nI_1]
      refine mp_PV (k := 3) P4 (by decide) (fun h5 o5 P5 => gs_GI P5.1 rfl ?_)
      rw [sU_self, show nI (s 3 + 1) - 1 = nI (s 3) from nI_pred _]
      rw [ei] at P5
      exact k h5 (o4.trans o5) P5
    | succ r ih =>
      intro i h4 hi o4 P4
      show wb_X3_bind_149 κ (wl_X3_bind_149 κ Q X (r + 1)) Q X m (nI j) (nI i) h4
      unfold wb_X3_bind_149
      have g2 : ltK s j v i (mB 2 + j) = s (130 + j) := ltK_ne (by show 130 + j ≠ _; omega) (by show 130 + j ≠ _; omega) (by show 130 + j ≠ _; omega) (Or.inl (by show 130 + j < _; omega))
      have g3 : ltK s j v i 3 = s 3 := ltK_ne (by omega) (by omega) (by omega) (by omega)
      refine gs_GR P4.1 rfl (mp_LI (k := 2) P4 (by decide) rfl hj ?_)
      rw [g2]
      refine ⟨fun w => absurd w (nI_ge (by omega) (n31 (by omega))), fun _ => gs_GR P4.1 rfl (gs_GI P4.1 rfl (gs_GR P4.1 rfl (gs_GR P4.1 rfl ?_)))⟩
      have e16 : (16 : Int32) * nI j + nI i = nI (16 * j + i) := by rw [show (16 : Int32) * nI j = nI (16 * j) from pk_mul 16 j, nI_add]
      have e16b : (16 : Int32) * nI (ltK s j v i 3) + nI i = nI (16 * s 3 + i) := by rw [g3, show (16 : Int32) * nI (s 3) = nI (16 * s 3) from pk_mul 16 _, nI_add]
      rw [e16, e16b]
      have hpg := I.2.2.2.2.1 j i hj (by omega)
      have g4 : ltK s j v i (mB 3 + (16 * j + i)) = s (200 + (16 * j + i)) := ltK_ne (by show 200 + _ ≠ _; omega) (by show 200 + _ ≠ _; omega) (by show 200 + _ ≠ _; omega) (Or.inl (by show 200 + _ < _; omega))
      refine mp_LI (k := 3) P4 (by decide) rfl (show _ < 64 by omega) ?_
      rw [g4]
      refine mp_LI (k := 0) P4 (by decide) rfl (show _ < 12 by omega) ?_
      have g5 : ltK s j v i (mB 0 + s (200 + (16 * j + i))) = s (100 + s (200 + (16 * j + i))) := ltK_ne (by show 100 + _ ≠ _; omega) (by show 100 + _ ≠ _; omega) (by show 100 + _ ≠ _; omega) (Or.inl (by show 100 + _ < _; omega))
      rw [g5]
      refine mp_SI (k := 13) P4 (by decide) rfl (show _ < 1600 by omega) (fun h5 o5 P5 => ?_)
      rw [nI_1]
      refine ih (i + 1) h5 (by omega) (o4.trans o5) ?_
      rw [← ltK_s (by omega)]
      exact P5
  exact ⟨_, key _ 0 h3' (Nat.zero_add _) oo P4⟩
theorem mp_bind {x y : Int32} {Q : Int32 → gh_H → Prop} (P : MP m a s h) (I : IV s) (h3 : s 3 < 64)
    (k1 : ∀ j c, j < s 2 → x = nI j → c < 500 → y = nI (c + 1) → whole s j → lkN s j (c + 1) (cnt s j) = 0 → ∀ h', Only Mo h h' → MP m a (ltS (btS (sU s 0 0) j (c + 1) (cnt s j)) j (c + 1)) h' → Q (nI (s 3)) h')
    (k4 : ∀ j c, j < s 2 → x = nI j → c < 500 → y = nI (c + 1) → whole s j → lkN s j (c + 1) (cnt s j) ≠ 0 → ∀ h', Only Mo h h' → MP m a (sU s 0 4) h' → Q 0 h')
    (k3 : ∀ j c, j < s 2 → x = nI j → c < 500 → y = nI (c + 1) → ¬ whole s j → ∀ h', Only Mo h h' → MP m a (sU s 0 3) h' → Q 0 h')
    (k2 : ∀ j, j < s 2 → x = nI j → (y < 1 ∨ nI 500 < y) → ∀ h', Only Mo h h' → MP m a (sU s 0 2) h' → Q 0 h') (k0 : x < 0 ∨ nI (s 2) ≤ x → ∀ h', Only Mo h h' → MP m a (sU s 0 1) h' → Q 0 h') : wp_X3_bind κ m x y Q X h := by
  have i2 := I.2.1
  unfold wp_X3_bind
  refine gs_GI P.1 rfl (mp_in (by omega) (fun j hj hx => ⟨(fun z => by cases z), fun _ => ?_⟩) (fun hx => ⟨fun _ => gs_RC P.1 (mp_fails (v := 1) P (k0 hx)), fun z => absurd rfl z⟩))
  refine mp_in1 (n := 500) (by decide) (fun c hc hy => ⟨(fun z => by cases z), fun _ => gs_RC P.1 ?_⟩) (fun hy => ⟨fun _ => gs_RC P.1 (mp_fails (v := 2) P (k2 j hj hx hy)), fun z => absurd rfl z⟩)
  have q1 := k1 j c hj hx hc hy
  have q4 := k4 j c hj hx hc hy
  have q3 := k3 j c hj hx hc hy
  have hj4 : j < 4 := by omega
  rw [hx, hy]
  unfold wb_X3_bind_54
  refine mp_isWhole P I hj4 (fun hw => ⟨(fun z => by cases z), fun _ => gs_GI P.1 rfl ⟨fun z => ?_, fun _ => gs_RC P.1 (mp_missing P I hj4 (by omega) ?_)⟩⟩) (fun hw => ⟨fun _ => gs_RC P.1 (mp_fails (v := 3) P (q3 hw)), fun z => absurd rfl z⟩)
  · have := (nI_eq (b := 100) (n31 (show s 3 ≤ 2000000 by omega)) (by decide)).mp z
    omega
  have h8 := cnt8 I hj4
  have lkb := lkN_le (s := s) (j := j) (c := c + 1) (cnt s j)
  have lkb2 : cnt s j * (c + 1) ≤ 8 * 500 := Nat.mul_le_mul h8 (by omega)
  have zz := nI_leI (a := lkN s j (c + 1) (cnt s j)) (b := 0) (n31 (by omega)) (by decide)
  refine ⟨fun z => ?_, fun z => gs_RC P.1 (mp_fails (v := 4) P (q4 hw (fun w => z (zz.mpr (by omega)))))⟩
  have lk0 : lkN s j (c + 1) (cnt s j) = 0 := Nat.le_zero.mp (zz.mp z)
  have q5 := q1 hw lk0
  have enough := lkN_0 _ lk0
  refine mp_PV (k := 0) (v := 0) P (by decide) (fun h1 o1 P1 => ?_)
  have e0 : ∀ i, i ≠ 0 → sU s 0 0 i = s i := fun i hi => sU_ne hi
  have I0 : IV (sU s 0 0) := IV0 I
  have key : ∀ (r i : Nat) (h2 : gh_H), i + r = cnt s j → Only Mo h h2 → MP m a (btS (sU s 0 0) j (c + 1) i) h2 → wl_X3_bind_82 κ Q X (r + 1) m (nI j) (nI (c + 1)) (nI i) h2 := by
    intro r
    induction r with
    | zero =>
      intro i h2 hi o2 P2
      show wb_X3_bind_82 κ _ Q X m (nI j) (nI (c + 1)) (nI i) h2
      unfold wb_X3_bind_82
      have ei : i = cnt s j := by omega
      have I2 := btS_IV (v := c + 1) (r := i) I0 hj4 (by omega)
      have zi := btS_sZ (s := sU s 0 0) (v := c + 1) (r := i) hj4 (by omega)
      have b3 : btS (sU s 0 0) j (c + 1) i 3 = s 3 := by rw [zi 3 (by omega), e0 3 (by decide)]
      refine gs_RC P2.1 (mp_count P2 I2 hj4 ?_)
      rw [sZ_cnt zi hj4, sQ_cnt sQ0]
      refine ⟨fun _ => mp_lot P2 I2 hj4 (by rw [b3]; exact h3) (fun h4 o4 P4 => ?_), fun w => absurd (nI_le (by omega) (n31 (by omega))) w⟩
      rw [b3]
      rw [ei] at P4
      exact q5 h4 (o2.trans o4) P4
    | succ r ih =>
      intro i h2 hi o2 P2
      show wb_X3_bind_82 κ (wl_X3_bind_82 κ Q X (r + 1)) Q X m (nI j) (nI (c + 1)) (nI i) h2
      unfold wb_X3_bind_82
      have I2 := btS_IV (v := c + 1) (r := i) I0 hj4 (by omega)
      have zi := btS_sZ (s := sU s 0 0) (v := c + 1) (r := i) hj4 (by omega)
      have e8 : (8 : Int32) * nI j + nI i = nI (8 * j + i) := by rw [show (8 : Int32) * nI j = nI (8 * j) from pk_mul 8 j, nI_add]
      have hen := enough i (by omega)
      refine gs_RC P2.1 (mp_count P2 I2 hj4 ?_)
      rw [sZ_cnt zi hj4, sQ_cnt sQ0, e8]
      refine ⟨fun w => absurd w (nI_ge (by omega) (n31 (by omega))), fun _ => gs_GR P2.1 rfl (mp_LI (k := 4) P2 (by decide) rfl (show _ < 32 by omega) ?_)⟩
      have sv : btS (sU s 0 0) j (c + 1) i (mB 4 + (8 * j + i)) = s (300 + (8 * j + i)) := by
        show btS (sU s 0 0) j (c + 1) i (300 + (8 * j + i)) = _
        rw [btS_out (by omega), e0 _ (by omega)]
      rw [sv, show nI (s (300 + (8 * j + i))) - nI (c + 1) = nI (s (300 + (8 * j + i)) - (c + 1)) from pk_sub hen]
      refine mp_SI (k := 4) P2 (by decide) rfl (show _ < 32 by omega) (fun h3' o3 P3 => ?_)
      rw [nI_1]
      refine ih (i + 1) h3' (by omega) (o2.trans o3) ?_
      show MP m a (sU (btS (sU s 0 0) j (c + 1) i) (300 + (8 * j + i)) (sU s 0 0 (300 + (8 * j + i)) - (c + 1))) h3'
      rw [e0 (300 + (8 * j + i)) (by omega)]
      exact P3
  exact ⟨_, key _ 0 h1 (Nat.zero_add _) o1 P1⟩
end
section
variable {κ bd : Nat → Nat} {sc : Nat × Nat × (Nat → Int32)} {T : (Nat → Nat) → Nat → gh_H → Prop} {d m vO vD t : Nat} {h : gh_H} {K : gh_H → Prop}
theorem o_bind {x y : Int32} {G : Int32 → gh_H → Prop} (hG : ∀ r3 h4, KC κ bd sc h4 → gh_RC h4 (some m) 1 (fun a5 => wp_X3_bind κ a5 x y (fun r6 h7 => TLw κ vO K r3 a5 r6 h7) (fun _ _ => False) h4) → G r3 h4) (hT : TKs T) (ht : t < 64) (L : LI κ bd sc T d m vO vD t h) (k : ∀ h', LI κ bd sc T d m vO vD (t + 1) h' → K h') :
    wp_X0_bind κ (some d) x y (some vO) G (fun _ _ => False) h := by
  obtain ⟨a, s, ca, ja, la, A, ev, P, M, I, J, Y, E, B, C, O⟩ := L
  have i1 := I.1
  have i2 := I.2.1
  have B0 := B
  unfold IB at B0
  have h3 : s 3 < 64 := by omega
  unfold wp_X0_bind
  refine gs_RC P.1 (dj_bind P C.1 C.2.1 (hT.1 s) I J E h3 (by omega) (fun j c hj hx hc hy hw lk0 h1 la' o1 P1 => ?_) (fun j c hj hx hc hy hw lk0 => Or.inr (Or.inr (Or.inr ⟨rfl, fun _ => ?_⟩))) (fun j c hj hx hc hy hw => Or.inr (Or.inr (Or.inl ⟨rfl, fun _ => ?_⟩))) (fun j hj hx hy => Or.inr (Or.inl ⟨rfl, fun _ => ?_⟩)) (fun hx => Or.inl ⟨rfl, fun _ => ?_⟩))
  · have hj4 : j < 4 := by omega
    have h8 := cnt8 I hj4
    have hp := (I.2.2.1 j hj4).2
    have zi := btS_sZ (s := s) (v := c + 1) (r := cnt s j) hj4 (by omega)
    have I1 := btS_IV (v := c + 1) (r := cnt s j) I hj4 (by omega)
    have b3 : btS s j (c + 1) (cnt s j) 3 = s 3 := zi 3 (by omega)
    have bp : btS s j (c + 1) (cnt s j) (130 + j) = s (130 + j) := zi _ (by omega)
    have f : ∀ s' : Nat → Nat, (∀ i, i ≠ 0 → s' i = ltS (btS s j (c + 1) (cnt s j)) j (c + 1) i) → IV s' ∧ IW s' ∧ IY s' ∧ IE s' (ev ++ [2 * s 3 + 1]) ∧ IB s' (ev ++ [2 * s 3 + 1]) (t + 1) := by
      intro s' f
      have f1 : ∀ i, i ≠ 0 → i ≠ 3 → i ≠ 500 + s 3 → i ≠ 600 + s 3 → i ≠ 700 + s 3 → (i < 6000 + 16 * s 3 ∨ 6000 + 16 * s 3 + s (130 + j) ≤ i) → s' i = btS s j (c + 1) (cnt s j) i := fun i h0 h1 h2 h3 h4 h5 => by
        rw [f i h0]
        exact ltS_ne h1 (by rw [b3]; exact h2) (by rw [b3]; exact h3) (by rw [b3]; exact h4) (by rw [b3, bp]; exact h5)
      have f2 : ∀ i, i ≠ 0 → i ≠ 3 → i < 500 → (i < 300 ∨ 332 ≤ i) → s' i = s i := fun i h0 h1 h2 h3 => by
        rw [f1 i h0 h1 (by omega) (by omega) (by omega) (by omega), zi i h3]
      have g3 : s' 3 = s 3 + 1 := by rw [f 3 (by decide), ltS_3, b3]
      have g5 : s' (500 + s 3) = j := by
        have := ltS_5 (s := btS s j (c + 1) (cnt s j)) (j := j) (v := c + 1)
        rw [b3] at this
        rw [f _ (by omega), this]
      have g6 : s' (600 + s 3) = c + 1 := by
        have := ltS_6 (s := btS s j (c + 1) (cnt s j)) (j := j) (v := c + 1) (by rw [b3]; omega)
        rw [b3] at this
        rw [f _ (by omega), this]
      have g7 : s' (700 + s 3) = s (130 + j) := by
        have := ltS_7 (s := btS s j (c + 1) (cnt s j)) (j := j) (v := c + 1) (by rw [b3]; omega)
        rw [b3] at this
        rw [f _ (by omega), this, bp]
      have g8 : ∀ i, i < s (130 + j) → s' (6000 + (16 * s 3 + i)) = s (100 + s (200 + (16 * j + i))) := fun i hi => by
        have hpg := I.2.2.2.2.1 j i hj4 hi
        have := ltS_8 (s := btS s j (c + 1) (cnt s j)) (j := j) (v := c + 1) (i := i) (by rw [b3]; omega) (by rw [bp]; exact hi)
        rw [b3] at this
        rw [f _ (by omega), this, zi (200 + (16 * j + i)) (by omega), zi (100 + s (200 + (16 * j + i))) (by omega)]
      have old : ∀ l, l < s 3 → s' (500 + l) = s (500 + l) ∧ s' (600 + l) = s (600 + l) ∧ s' (700 + l) = s (700 + l) ∧ ∀ i, i < s (700 + l) → s' (6000 + (16 * l + i)) = s (6000 + (16 * l + i)) := fun l hl => by
        have l4 := ltp16 I J hl
        refine ⟨?_, ?_, ?_, fun i hi => ?_⟩
        · rw [f1 _ (by omega) (by omega) (by omega) (by omega) (by omega) (by omega), zi _ (by omega)]
        · rw [f1 _ (by omega) (by omega) (by omega) (by omega) (by omega) (by omega), zi _ (by omega)]
        · rw [f1 _ (by omega) (by omega) (by omega) (by omega) (by omega) (by omega), zi _ (by omega)]
        · rw [f1 _ (by omega) (by omega) (by omega) (by omega) (by omega) (by omega), zi _ (by omega)]
      have olc : ∀ l, l < s 3 → ∀ i, i < s (700 + l) → lCt s' l i = lCt s l i := fun l hl i hi => by
        have l3 := J.2.2.2.2.2.2.2.2 l hl
        have l4 := ltp16 I J hl
        unfold lCt
        rw [(old l hl).1, f2 _ (by omega) (by omega) (by omega) (by omega)]
      refine ⟨?_, ?_, ?_, ?_, ?_⟩
      · unfold IV
        rw [f2 1 (by decide) (by decide) (by decide) (by omega), f2 2 (by decide) (by decide) (by decide) (by omega), f2 10 (by decide) (by decide) (by decide) (by omega), f2 11 (by decide) (by decide) (by decide) (by omega)]
        refine ⟨I.1, I.2.1, fun j' hj' => ?_, fun j' hj' => ?_, fun j' i hj' hi => ?_, fun q hq => ?_, fun i hi => ?_, I.2.2.2.2.2.2.2.1, I.2.2.2.2.2.2.2.2⟩
        · rw [f2 _ (by omega) (by omega) (by omega) (by omega), f2 _ (by omega) (by omega) (by omega) (by omega)]
          exact I.2.2.1 j' hj'
        · rw [f2 _ (by omega) (by omega) (by omega) (by omega)]
          exact I.2.2.2.1 j' hj'
        · rw [f2 _ (by omega) (by omega) (by omega) (by omega)] at hi
          have := (I.2.2.1 j' hj').2
          rw [f2 _ (by omega) (by omega) (by omega) (by omega)]
          exact I.2.2.2.2.1 j' i hj' hi
        · rw [f2 _ (by omega) (by omega) (by omega) (by omega), f2 _ (by omega) (by omega) (by omega) (by omega)]
          exact I.2.2.2.2.2.1 q hq
        · rw [f1 _ (by omega) (by omega) (by omega) (by omega) (by omega) (by omega)]
          exact I1.2.2.2.2.2.2.1 i hi
      · have j3 := J.1
        have j4 := J.2.1
        unfold IW
        rw [f2 2 (by decide) (by decide) (by decide) (by omega), g3, f2 4 (by decide) (by decide) (by decide) (by omega), f2 5 (by decide) (by decide) (by decide) (by omega), f2 6 (by decide) (by decide) (by decide) (by omega), f2 7 (by decide) (by decide) (by decide) (by omega), f2 8 (by decide) (by decide) (by decide) (by omega), f2 9 (by decide) (by decide) (by decide) (by omega)]
        refine ⟨by omega, J.2.1, fun q hq => ?_, J.2.2.2.1, J.2.2.2.2.1, J.2.2.2.2.2.1, J.2.2.2.2.2.2.1, J.2.2.2.2.2.2.2.1, fun l hl => ?_⟩
        · rw [f1 _ (by omega) (by omega) (by omega) (by omega) (by omega) (by omega), zi _ (by omega)]
          exact J.2.2.1 q hq
        · by_cases w : l = s 3
          · rw [w, g5, g6, g7, f2 (130 + j) (by omega) (by omega) (by omega) (by omega)]
            refine ⟨hj, by omega, hw.1, Nat.le_refl _, fun i hi => ?_⟩
            rw [g8 i hi]
            have hpg := I.2.2.2.2.1 j i hj4 hi
            exact (I.2.2.2.2.2.1 _ (by omega)).1
          · have hl3 : l < s 3 := by omega
            obtain ⟨o5, o6, o7, o8⟩ := old l hl3
            have l3 := J.2.2.2.2.2.2.2.2 l hl3
            rw [o5, o6, o7, f2 (130 + s (500 + l)) (by omega) (by omega) (by omega) (by omega)]
            exact ⟨l3.1, l3.2.1, l3.2.2.1, l3.2.2.2.1, fun i hi => by rw [o8 i hi]; exact l3.2.2.2.2 i hi⟩
      · refine ⟨fun q h1 h2 => ?_, fun j' h1 h2 => ?_, fun j' n h1 h2 h3 => ?_⟩
        · rw [f2 1 (by decide) (by decide) (by decide) (by omega)] at h1
          rw [f2 _ (by omega) (by omega) (by omega) (by omega), f2 _ (by omega) (by omega) (by omega) (by omega)]
          exact Y.1 q h1 h2
        · rw [f2 2 (by decide) (by decide) (by decide) (by omega)] at h1
          rw [f2 _ (by omega) (by omega) (by omega) (by omega)]
          exact Y.2.1 j' h1 h2
        · have en : nSh s' j' = nSh s j' := by
            unfold nSh cnt
            rw [f2 (130 + j') (by omega) (by omega) (by omega) (by omega), f2 (120 + j') (by omega) (by omega) (by omega) (by omega)]
          rw [en] at h3
          have hcn := nSh_w hw
          rw [f1 _ (by omega) (by omega) (by omega) (by omega) (by omega) (by omega), btS_out (by
            by_cases w : j' = j
            · subst w
              omega
            · omega)]
          exact Y.2.2 j' n h1 h2 h3
      · refine ⟨fun y hy => ?_, fun q hq => ?_, fun l hl => ?_⟩
        · rw [f2 1 (by decide) (by decide) (by decide) (by omega), g3]
          rcases List.mem_append.mp hy with w | w
          · exact ⟨(E.1 y w).1, fun z => Nat.lt_succ_of_lt ((E.1 y w).2 z)⟩
          · have w2 := List.mem_singleton.mp w
            subst w2
            exact ⟨fun w => by omega, fun _ => by omega⟩
        · rw [f2 1 (by decide) (by decide) (by decide) (by omega)] at hq
          rw [f2 _ (by omega) (by omega) (by omega) (by omega), List.count_append, List.count_singleton, E.2.1 q hq]
          have : ¬ (2 * s 3 + 1 = 2 * q) := by omega
          simp [this]
        · rw [g3] at hl
          by_cases w : l = s 3
          · refine ⟨ev, [], by rw [w], fun hm => ?_, fun i hi => ?_⟩
            · have := (E.1 _ hm).2 (by omega)
              omega
            · rw [w] at hi ⊢
              rw [g7] at hi
              have hpg := I.2.2.2.2.1 j i hj4 hi
              have : lCt s' (s 3) i = s (200 + (16 * j + i)) := by
                unfold lCt
                rw [g5, f2 _ (by omega) (by omega) (by omega) (by omega)]
              rw [g8 i hi, this, E.2.1 _ hpg]
          · have hl3 : l < s 3 := by omega
            obtain ⟨o5, o6, o7, o8⟩ := old l hl3
            obtain ⟨pre, suf, h1, h2, h3⟩ := E.2.2 l hl3
            refine ⟨pre, suf ++ [2 * s 3 + 1], by rw [h1, List.append_assoc]; rfl, h2, fun i hi => ?_⟩
            rw [o7] at hi
            rw [o8 i hi, olc l hl3 i hi]
            exact h3 i hi
      · unfold IB
        rw [g3, f2 4 (by decide) (by decide) (by decide) (by omega), f2 5 (by decide) (by decide) (by decide) (by omega), f2 6 (by decide) (by decide) (by decide) (by omega), f2 10 (by decide) (by decide) (by decide) (by omega), f2 11 (by decide) (by decide) (by decide) (by omega), List.length_append, List.length_singleton]
        omega
    have e0 : ∀ i, i ≠ 0 → sU s 0 0 i = s i := fun i hi => sU_ne hi
    have pm : ∀ i, i ≠ 0 → ltS (btS (sU s 0 0) j (c + 1) (cnt s j)) j (c + 1) i = ltS (btS s j (c + 1) (cnt s j)) j (c + 1) i := ltS_cg (btS_cg e0 _)
    have V1 := f _ (fun i _ => rfl)
    have V2 := f _ pm
    refine o_do (hG := hG 0) (WM := fun a5 Q h4 => wp_X3_bind κ a5 x y Q (fun _ _ => False) h4) hT P1 (M.de o1) V1.1 V1.2.1 (fun i h0 _ _ _ => pm i h0) ?_ (fun i h1 h2 => ?_) ?_ V2.1 V2.2.1 V2.2.2.1 V2.2.2.2.1 V2.2.2.2.2 (C.de o1) (O.de o1) (fun h2 Q M2 kk => mp_bind M2 I h3 (fun j' c' hj' hx' hc' hy' _ _ h3 o3 M3 => ?_) (fun j' c' hj' hx' hc' hy' _ w => ?_) (fun j' c' hj' hx' hc' hy' w => (ix_abs (by omega) hj hj' hx hx' hw w).elim) (fun j' hj' hx' hy' => (ix1_out (by decide) hc hy hy').elim) (fun z => (ix_out (by omega) hj hx z).elim)) k
    · rw [pm 4 (by decide), ltS_ne (by decide) (by omega) (by omega) (by omega) (by omega), zi 4 (by omega)]
    · rw [pm i (by omega), ltS_ne (by omega) (by omega) (by omega) (by omega) (by omega), zi i (by omega)]
    · have zj := btS_sZ (s := sU s 0 0) (v := c + 1) (r := cnt s j) hj4 (by omega)
      rw [ltS_ne (by decide) (by omega) (by omega) (by omega) (by omega), zj 0 (by omega), sU_self]
    · have ej := ix_eq (by omega) hj hj' hx hx'
      subst ej
      have ec := ix1_eq (by decide) hc hc' hy hy'
      subst ec
      exact kk h3 o3 M3
    · have ej := ix_eq (by omega) hj hj' hx hx'
      subst ej
      have ec := ix1_eq (by decide) hc hc' hy hy'
      subst ec
      exact absurd lk0 w
  · refine o_bad (c := 4) (hG := hG (nI 4)) (WM := fun a5 Q h4 => wp_X3_bind κ a5 x y Q (fun _ _ => False) h4) hT P M I J Y E B C O (by decide) (by decide) (fun Q kk => mp_bind M I h3 (fun j' c' hj' hx' hc' hy' _ w => ?_) (fun j' c' hj' hx' hc' hy' _ w => kk) (fun j' c' hj' hx' hc' hy' w => (ix_abs (by omega) hj hj' hx hx' hw w).elim) (fun j' hj' hx' hy' => (ix1_out (by decide) hc hy hy').elim) (fun z => (ix_out (by omega) hj hx z).elim)) k
    have ej := ix_eq (by omega) hj hj' hx hx'
    subst ej
    have ec := ix1_eq (by decide) hc hc' hy hy'
    subst ec
    exact absurd w lk0
  · exact o_bad (c := 3) (hG := hG (nI 3)) (WM := fun a5 Q h4 => wp_X3_bind κ a5 x y Q (fun _ _ => False) h4) hT P M I J Y E B C O (by decide) (by decide) (fun Q kk => mp_bind M I h3 (fun j' c' hj' hx' hc' hy' w _ => (ix_abs (by omega) hj' hj hx' hx w hw).elim) (fun j' c' hj' hx' hc' hy' w _ => (ix_abs (by omega) hj' hj hx' hx w hw).elim) (fun j' c' hj' hx' hc' hy' w => kk) (fun j' hj' hx' hy' => (ix1_out (by decide) hc hy hy').elim) (fun z => (ix_out (by omega) hj hx z).elim)) k
  · exact o_bad (c := 2) (hG := hG (nI 2)) (WM := fun a5 Q h4 => wp_X3_bind κ a5 x y Q (fun _ _ => False) h4) hT P M I J Y E B C O (by decide) (by decide) (fun Q kk => mp_bind M I h3 (fun j' c' hj' hx' hc' hy' _ _ => (ix1_out (by decide) hc' hy' hy).elim) (fun j' c' hj' hx' hc' hy' _ _ => (ix1_out (by decide) hc' hy' hy).elim) (fun j' c' hj' hx' hc' hy' w => (ix1_out (by decide) hc' hy' hy).elim) (fun j' hj' hx' hy' => kk) (fun z => (ix_out (by omega) hj hx z).elim)) k
  · exact o_bad (c := 1) (hG := hG (nI 1)) (WM := fun a5 Q h4 => wp_X3_bind κ a5 x y Q (fun _ _ => False) h4) hT P M I J Y E B C O (by decide) (by decide) (fun Q kk => mp_bind M I h3 (fun j' c' hj' hx' hc' hy' _ _ => (ix_out (by omega) hj' hx' hx).elim) (fun j' c' hj' hx' hc' hy' _ _ => (ix_out (by omega) hj' hx' hx).elim) (fun j' c' hj' hx' hc' hy' w => (ix_out (by omega) hj' hx' hx).elim) (fun j' hj' hx' hy' => (ix_out (by omega) hj' hx' hx).elim) (fun _ => kk)) k
end
