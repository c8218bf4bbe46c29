/-! PLAIN LAW, part ML: the model makes plates; print in the model -/
set_option maxRecDepth 100000
def mkB (s : Nat → Nat) (x : Nat) : Bool := (List.range (s 4)).any (fun k => s (1000 + k) == x)
/-- the model has made the plate x -/
def mkS (s : Nat → Nat) (x : Nat) : Nat → Nat := if mkB s x = true then s else sU (sU s (1000 + s 4) x) 4 (s 4 + 1)
theorem mkB_iff {s : Nat → Nat} {x : Nat} : mkB s x = true ↔ ∃ k, k < s 4 ∧ s (1000 + k) = x := by
  unfold mkB
  rw [List.any_eq_true]
  constructor
  · rintro ⟨k, hk, e⟩
    exact ⟨k, List.mem_range.mp hk, by simpa using e⟩
  · rintro ⟨k, hk, e⟩
    exact ⟨k, List.mem_range.mpr hk, by simpa using e⟩
theorem mkS_ne {s : Nat → Nat} {x i : Nat} (h1 : i ≠ 4) (h2 : i ≠ 1000 + s 4) : mkS s x i = s i := by
  unfold mkS
  split
  · rfl
  · rw [sU_ne h1, sU_ne h2]
theorem mkS_4 {s : Nat → Nat} {x : Nat} : s 4 ≤ mkS s x 4 ∧ mkS s x 4 ≤ s 4 + 1 := by
  unfold mkS
  split
  · exact ⟨Nat.le_refl _, Nat.le_succ _⟩
  · rw [sU_self]
    exact ⟨Nat.le_succ _, Nat.le_refl _⟩
theorem mkS_row {s : Nat → Nat} {x k : Nat} (hx : x ≤ 2000000) (h : ∀ k, k < s 4 → s (1000 + k) ≤ 2000000) (hk : k < mkS s x 4) : mkS s x (1000 + k) ≤ 2000000 := by
  unfold mkS at hk ⊢
  split
  · rename_i e
    rw [if_pos e] at hk
    exact h k hk
  · rename_i e
    rw [if_neg e, sU_self] at hk
    rw [sU_ne (by omega)]
    by_cases w : k = s 4
    · rw [w, sU_self]
      exact hx
    · rw [sU_ne (by omega)]
      exact h k (by omega)
section
variable {κ : Nat → Nat} {m : Nat} {a s : Nat → Nat} {h : gh_H} {X : String → gh_H → Prop}
theorem mp_isMade {x : Nat} {Q : Int32 → gh_H → Prop} (P : MP m a s h) (h4 : s 4 ≤ 1000) (hr : ∀ k, k < s 4 → s (1000 + k) ≤ 2000000) (hx : x ≤ 2000000) (k1 : mkB s x = true → Q 1 h) (k0 : mkB s x = false → Q 0 h) : wp_X3_isMade κ m (nI x) Q X h := by
  have key : ∀ (r i : Nat), i + r = s 4 → (∀ k, k < i → ¬ s (1000 + k) = x) → wl_X3_isMade_2 κ Q X (r + 1) m (nI x) (nI i) h := by
    intro r
    induction r with
    | zero =>
      intro i hi hne
      show wb_X3_isMade_2 κ _ Q X m (nI x) (nI i) h
      unfold wb_X3_isMade_2
      refine gs_GI P.1 rfl ⟨fun _ => ⟨nb0, k0 ?_⟩, fun z => absurd (nI_le (by omega) (n31 (by omega))) z⟩
      cases e : mkB s x with
      | false => rfl
      | true =>
        obtain ⟨k, hk, ek⟩ := mkB_iff.mp e
        exact absurd ek (hne k (by omega))
    | succ r ih =>
      intro i hi hne
      show wb_X3_isMade_2 κ (wl_X3_isMade_2 κ Q X (r + 1)) Q X m (nI x) (nI i) h
      unfold wb_X3_isMade_2
      have hb := hr i (by omega)
      refine gs_GI P.1 rfl ⟨fun z => absurd z (nI_ge (by omega) (n31 (by omega))), fun _ => gs_GR P.1 rfl (mp_LI (k := 6) P (by decide) rfl (show i < 1100 by omega) ⟨fun e => ⟨nb1, k1 (mkB_iff.mpr ⟨i, by omega, ?_⟩)⟩, fun e => ?_⟩)⟩
      · exact (nI_eq (n31 hb) (n31 hx)).mp e
      · rw [nI_1]
        exact ih (i + 1) (by omega) (lt_or_at hne (fun w => e (by show nI (s (1000 + i)) = _; rw [w])))
  unfold wp_X3_isMade
  exact ⟨_, key _ 0 (Nat.zero_add _) (fun k hk => absurd hk (Nat.not_lt_zero k))⟩
theorem mp_makes {x : Nat} {Q : gh_H → Prop} (P : MP m a s h) (h4 : s 4 ≤ 1000) (hr : ∀ k, k < s 4 → s (1000 + k) ≤ 2000000) (hx : x ≤ 2000000) (k : ∀ h', Only Mo h h' → MP m a (mkS s x) h' → Q h') : wp_X3_makes κ m (nI x) Q X h := by
  unfold wp_X3_makes
  refine gs_RC P.1 (mp_isMade P h4 hr hx (fun e => ⟨(fun z => by cases z), fun _ => ?_⟩) (fun e => ⟨fun _ => gs_GR P.1 rfl (gs_GI P.1 rfl (mp_SI (k := 6) P (by decide) rfl (show s 4 < 1100 by omega) (fun h1 o1 P1 => gs_GI P1.1 rfl ?_))), fun z => absurd rfl z⟩))
  · refine k h Only.refl ?_
    unfold mkS
    rw [if_pos e]
    exact P
  · have e4 : sU s (mB 6 + s 4) x 4 = s 4 := sU_ne (by show 4 ≠ 1000 + s 4; omega)
    rw [e4, nI_1]
    refine mp_PV (k := 4) P1 (by decide) (fun h2 o2 P2 => k h2 (o1.trans o2) ?_)
    unfold mkS
    rw [if_neg (by rw [e]; decide)]
    exact P2
/-- print: the model's state behind it, from s0 on -/
def pmS (s : Nat → Nat) (j n v : Nat) : Nat → Nat :=
  let s3 := mkS (mkS (sU (sU (sU s 7 (mu (dPl s j n 0))) 8 (mu (dPl s j n 1))) 9 (s (120 + j))) (mu (dPl s j n 0))) (mu (dPl s j n 1))
  sU (sU (sU (sU s3 (300 + (8 * j + n)) (s (300 + (8 * j + n)) + v)) 11 (s 11 + v)) 5 (s 5 + 1)) 6 (s 6 + readyM s j n)
def apB (s : Nat → Nat) (j n r : Nat) : Bool := (List.range r).all (fun k => s (340 + cOn s j n k) == 1)
theorem apB_iff {s : Nat → Nat} {j n : Nat} : apB s j n (plc (s (120 + j))) = true ↔ appr s j n := by
  unfold apB appr
  rw [List.all_eq_true]
  constructor
  · intro w k hk
    simpa using w k (List.mem_range.mpr hk)
  · intro w k hk
    simpa using w k (List.mem_range.mp hk)
theorem apB_succ {s : Nat → Nat} {j n r : Nat} : apB s j n (r + 1) = (apB s j n r && (s (340 + cOn s j n r) == 1)) := by
  unfold apB
  rw [List.range_succ, List.all_append]
  simp
theorem mp_printGo {j n v : Nat} {Q : Int32 → gh_H → Prop} (P : MP m a s h) (I : IV s) (J : IW s) (hj : j < 4) (hw : whole s j) (hn : n < cnt s j) (hv : v ≤ 500) (k : ∀ h', Only Mo h h' → MP m a (pmS s j n v) h' → Q (nI (readyM s j n)) h') :
    (gh_RC h (some m) 1 (fun _ => (wp_X3_ready κ m (nI j) (nI n) (fun r5 h6 => (gh_RC h6 (some m) 1 (fun _ => (wp_X3_plateOf κ m (nI j) (nI n) (1 : Int32) (fun r8 h9 => (gh_PV h9 (some m) [(1, 7)] (.int r8) (fun h10 => (gh_RC h10 (some m) 1 (fun _ => (wp_X3_plateOf κ m (nI j) (nI n) (0 : Int32) (fun r12 h13 => (gh_PV h13 (some m) [(1, 8)] (.int r12) (fun h14 => (gh_GR h14 (some m) [(1, 13)] (fun x15 => (gh_LI h14 x15 (nI j) (fun x16 => (gh_PV h14 (some m) [(1, 9)] (.int x16) (fun h17 => (gh_GI h17 (some m) [(1, 7)] (fun x18 => (gh_RC h17 (some m) 1 (fun _ => (wp_X3_makes κ m x18 (fun h20 => (gh_GI h20 (some m) [(1, 8)] (fun x21 => (gh_RC h20 (some m) 1 (fun _ => (wp_X3_makes κ m x21 (fun h23 => (gh_GR h23 (some m) [(1, 16)] (fun x24 => (gh_LI h23 x24 (((8 : Int32) * nI j) + nI n) (fun x25 => (gh_SI h23 x24 (((8 : Int32) * nI j) + nI n) (x25 + nI v) (fun h26 => (gh_GJ h26 (some m) [(1, 11)] (fun x27 => (gh_PV h26 (some m) [(1, 11)] (.long (x27 + ((nI v).toInt64))) (fun h28 => (gh_GI h28 (some m) [(1, 5)] (fun x29 => (gh_PV h28 (some m) [(1, 5)] (.int (x29 + (1 : Int32))) (fun h30 => (gh_GI h30 (some m) [(1, 6)] (fun x31 => (gh_PV h30 (some m) [(1, 6)] (.int (x31 + r5)) (fun h32 => (Q r5 h32)))))))))))))))))))) X h20)))))) X h17)))))))))))))) X h10)))))) X h6)))) X h))) := by
  have h8 := cnt8 I hj
  have d0 := dPl_lt I hj hw hn (k := 0) (by decide)
  have d1 := dPl_lt I hj hw hn (k := 1) (by decide)
  have m0 := mu_le d0
  have m1 := mu_le d1
  have j4 := J.2.1
  have jr := J.2.2.1
  refine gs_RC P.1 (mp_ready P I J hj hw hn (gs_RC P.1 (mp_plateF P I hj hw hn (mp_PV (k := 7) P (by decide) (fun h1 o1 P1 => gs_RC P1.1 ?_)))))
  have q1 : sQ s (sU s 7 (mu (dPl s j n 0))) := sQ.low (by decide)
  have I1 : IV (sU s 7 (mu (dPl s j n 0))) := IV_low I (by decide) (by decide)
  refine mp_plateB P1 I1 hj ((sQ_whole q1 j).mpr hw) (by rw [sQ_cnt q1]; exact hn) ?_
  rw [sQ_dPl q1]
  refine mp_PV (k := 8) P1 (by decide) (fun h2 o2 P2 => gs_GR P2.1 rfl (mp_LI (k := 1) P2 (by decide) rfl hj ?_))
  have e1 : sU (sU s 7 (mu (dPl s j n 0))) 8 (mu (dPl s j n 1)) (mB 1 + j) = s (120 + j) := by
    rw [sU_ne (by show 120 + j ≠ 8; omega), sU_ne (by show 120 + j ≠ 7; omega)]
    rfl
  rw [e1]
  refine mp_PV (k := 9) P2 (by decide) (fun h3 o3 P3 => gs_GI P3.1 rfl (gs_RC P3.1 ?_))
  have e7 : sU (sU (sU s 7 (mu (dPl s j n 0))) 8 (mu (dPl s j n 1))) 9 (s (120 + j)) 7 = mu (dPl s j n 0) := by rw [sU_ne (by decide), sU_ne (by decide), sU_self]
  have lw : ∀ i, i ≠ 7 → i ≠ 8 → i ≠ 9 → sU (sU (sU s 7 (mu (dPl s j n 0))) 8 (mu (dPl s j n 1))) 9 (s (120 + j)) i = s i := fun i a b c => by rw [sU_ne c, sU_ne b, sU_ne a]
  have e8 : sU (sU (sU s 7 (mu (dPl s j n 0))) 8 (mu (dPl s j n 1))) 9 (s (120 + j)) 8 = mu (dPl s j n 1) := by rw [sU_ne (by decide), sU_self]
  rw [e7]
  have k' : ∀ h', Only Mo h h' → MP m a (sU (sU (sU (sU (mkS (mkS (sU (sU (sU s 7 (mu (dPl s j n 0))) 8 (mu (dPl s j n 1))) 9 (s (120 + j))) (mu (dPl s j n 0))) (mu (dPl s j n 1))) (300 + (8 * j + n)) (s (300 + (8 * j + n)) + v)) 11 (s 11 + v)) 5 (s 5 + 1)) 6 (s 6 + readyM s j n)) h' → Q (nI (readyM s j n)) h' := k
  have r3 : ∀ q, q < sU (sU (sU s 7 (mu (dPl s j n 0))) 8 (mu (dPl s j n 1))) 9 (s (120 + j)) 4 → sU (sU (sU s 7 (mu (dPl s j n 0))) 8 (mu (dPl s j n 1))) 9 (s (120 + j)) (1000 + q) ≤ 2000000 := fun q hq => by
    rw [lw 4 (by decide) (by decide) (by decide)] at hq
    rw [lw _ (by omega) (by omega) (by omega)]
    exact jr q hq
  have f4 : sU (sU (sU s 7 (mu (dPl s j n 0))) 8 (mu (dPl s j n 1))) 9 (s (120 + j)) 4 = s 4 := lw 4 (by decide) (by decide) (by decide)
  generalize sU (sU (sU s 7 (mu (dPl s j n 0))) 8 (mu (dPl s j n 1))) 9 (s (120 + j)) = u at P3 lw e8 k' r3 f4
  refine mp_makes P3 (by omega) r3 (by omega) (fun h4 o4 P4 => gs_GI P4.1 rfl (gs_RC P4.1 ?_))
  have k4 := mkS_4 (s := u) (x := mu (dPl s j n 0))
  rw [mkS_ne (by decide) (by omega), e8]
  refine mp_makes P4 (by omega) (fun q hq => mkS_row (by omega) r3 hq) (by omega) (fun h5 o5 P5 => gs_GR P5.1 rfl ?_)
  have w1 : ∀ i, i < 1000 → i ≠ 4 → mkS (mkS u (mu (dPl s j n 0))) (mu (dPl s j n 1)) i = u i := fun i hi h4 => by rw [mkS_ne h4 (by omega), mkS_ne h4 (by omega)]
  have e8n : (8 : Int32) * nI j + nI n = nI (8 * j + n) := by rw [show (8 : Int32) * nI j = nI (8 * j) from pk_mul 8 j, nI_add]
  have w2 : ∀ i, i < 1000 → i ≠ 4 → i ≠ 7 → i ≠ 8 → i ≠ 9 → mkS (mkS u (mu (dPl s j n 0))) (mu (dPl s j n 1)) i = s i := fun i a b c d e => by rw [w1 i a b, lw i c d e]
  generalize mkS (mkS u (mu (dPl s j n 0))) (mu (dPl s j n 1)) = w at P5 k' w2
  have hst := I.2.2.2.2.2.2.1 (8 * j + n) (by omega)
  rw [e8n]
  refine mp_LI (k := 4) P5 (by decide) rfl (show _ < 32 by omega) ?_
  have es : w (mB 4 + (8 * j + n)) = s (300 + (8 * j + n)) := w2 _ (by show 300 + _ < 1000; omega) (by show 300 + _ ≠ 4; omega) (by show 300 + _ ≠ 7; omega) (by show 300 + _ ≠ 8; omega) (by show 300 + _ ≠ 9; omega)
  rw [es, nI_add]
  refine mp_SI (k := 4) P5 (by decide) rfl (show _ < 32 by omega) (fun h6 o6 P6 => gs_GJ P6.1 rfl ?_)
  have e11 : sU w (mB 4 + (8 * j + n)) (s (300 + (8 * j + n)) + v) 11 = s 11 := by rw [sU_ne (by show 11 ≠ 300 + _; omega)]; exact w2 11 (by decide) (by decide) (by decide) (by decide) (by decide)
  rw [e11, nI_l (n31 (show v ≤ 2000000 by omega)), lN_add]
  refine mp_PVJ P6 (Or.inr rfl) (fun h7 o7 P7 => gs_GI P7.1 rfl ?_)
  have e5 : sU (sU w (mB 4 + (8 * j + n)) (s (300 + (8 * j + n)) + v)) 11 (s 11 + v) 5 = s 5 := by rw [sU_ne (by decide), sU_ne (by show 5 ≠ 300 + _; omega)]; exact w2 5 (by decide) (by decide) (by decide) (by decide) (by decide)
  rw [e5, nI_1]
  refine mp_PV (k := 5) P7 (by decide) (fun h8 o8 P8 => gs_GI P8.1 rfl ?_)
  have e6 : sU (sU (sU w (mB 4 + (8 * j + n)) (s (300 + (8 * j + n)) + v)) 11 (s 11 + v)) 5 (s 5 + 1) 6 = s 6 := by rw [sU_ne (by decide), sU_ne (by decide), sU_ne (by show 6 ≠ 300 + _; omega)]; exact w2 6 (by decide) (by decide) (by decide) (by decide) (by decide)
  rw [e6, nI_add]
  refine mp_PV (k := 6) P8 (by decide) (fun h9 o9 P9 => k' h9 ((((((((o1.trans o2).trans o3).trans o4).trans o5).trans o6).trans o7).trans o8).trans o9) P9)
theorem readyM_0 {v j n : Nat} : readyM (sU s 0 v) j n = readyM s j n := by
  unfold readyM
  rw [sQ_dPl sQ0, sQ_dPl sQ0, sU_ne (show 7 ≠ 0 by decide), sU_ne (show 8 ≠ 0 by decide), sU_ne (show 9 ≠ 0 by decide), sU_ne (show 120 + j ≠ 0 by omega)]
theorem mp_print {x y z : Int32} {Q : Int32 → gh_H → Prop} (P : MP m a s h) (I : IV s) (J : IW s)
    (k1 : ∀ j n c, j < s 2 → x = nI j → whole s j → y = nI n → n < cnt s j → c < 500 → z = nI (c + 1) → appr s j n → s (300 + (8 * j + n)) + (c + 1) ≤ 9999 → ∀ h', Only Mo h h' → MP m a (pmS (sU s 0 0) j n (c + 1)) h' → Q (nI (readyM s j n)) h')
    (k5 : ∀ j n c, j < s 2 → x = nI j → whole s j → y = nI n → n < cnt s j → c < 500 → z = nI (c + 1) → ¬ (appr s j n ∧ s (300 + (8 * j + n)) + (c + 1) ≤ 9999) → ∀ h', Only Mo h h' → MP m a (sU s 0 5) h' → Q 0 h')
    (k4 : ∀ j n, j < s 2 → x = nI j → whole s j → y = nI n → n < cnt s j → (z < 1 ∨ nI 500 < z) → ∀ h', Only Mo h h' → MP m a (sU s 0 4) h' → Q 0 h')
    (k3 : ∀ j, j < s 2 → x = nI j → whole s j → (y < 0 ∨ nI (cnt s j) ≤ y) → ∀ h', Only Mo h h' → MP m a (sU s 0 3) h' → Q 0 h')
    (k2 : ∀ j, j < s 2 → x = nI j → ¬ whole s j → ∀ h', Only Mo h h' → MP m a (sU s 0 2) h' → Q 0 h') (k0 : x < 0 ∨ nI (s 2) ≤ x → ∀ h', Only Mo h h' → MP m a (sU s 0 1) h' → Q 0 h') : wp_X3_print κ m x y z Q X h := by
  have i1 := I.1
  have i2 := I.2.1
  unfold wp_X3_print
  refine gs_RC P.1 (mp_isSheet P I (fun j n hj hx hw hy hn h1 o1 P1 => ⟨(fun z => by cases z), fun _ => ?_⟩) (fun j hj hx hw hy h1 o1 P1 => ⟨fun _ => k3 j hj hx hw hy h1 o1 P1, fun z => absurd rfl z⟩) (fun j hj hx hw h1 o1 P1 => ⟨fun _ => k2 j hj hx hw h1 o1 P1, fun z => absurd rfl z⟩) (fun hx h1 o1 P1 => ⟨fun _ => k0 hx h1 o1 P1, fun z => absurd rfl z⟩))
  refine mp_in1 (n := 500) (by decide) (fun c hc hz => ⟨(fun z => by cases z), fun _ => ?_⟩) (fun hz => ⟨fun _ => gs_RC P1.1 (mp_fails (v := 4) P1 (fun h2 o2 P2 => ?_)), fun z => absurd rfl z⟩)
  rotate_left
  · rw [sU_idem] at P2
    exact k4 j n hj hx hw hy hn hz h2 (o1.trans o2) P2
  have q1 := k1 j n c hj hx hw hy hn hc hz
  have q5 := k5 j n c hj hx hw hy hn hc hz
  have hj4 : j < 4 := by omega
  have h8 := cnt8 I hj4
  have h24 := plc_24 (s (120 + j))
  have hst := I.2.2.2.2.2.2.1 (8 * j + n) (by omega)
  rw [hx, hy, hz]
  have e8n : (8 : Int32) * nI j + nI n = nI (8 * j + n) := by rw [show (8 : Int32) * nI j = nI (8 * j) from pk_mul 8 j, nI_add]
  have I0 : IV (sU s 0 0) := IV0 I
  have hw0 : whole (sU s 0 0) j := (sQ_whole sQ0 j).mpr hw
  have hn0 : n < cnt (sU s 0 0) j := by rw [sQ_cnt sQ0]; exact hn
  have ep : sU s 0 0 (120 + j) = s (120 + j) := sU_ne (by omega)
  rw [e8n]
  refine gs_GR P1.1 rfl (mp_LI (k := 4) P1 (by decide) rfl (show _ < 32 by omega) ?_)
  have es : sU s 0 0 (mB 4 + (8 * j + n)) = s (300 + (8 * j + n)) := sU_ne (by show 300 + _ ≠ 0; omega)
  rw [es, nI_add]
  have main : ∀ b : Bool, (b = true ↔ s (300 + (8 * j + n)) + (c + 1) ≤ 9999) → wb_X3_print_52 κ Q X m (nI j) (nI n) (nI (c + 1)) (nI (if b then 1 else 0)) h1 := by
    intro b hb
    have key : ∀ (r i : Nat), i + r = plc (s (120 + j)) → wl_X3_print_57 κ Q X (r + 1) m (nI j) (nI n) (nI (c + 1)) (nI (if (b && apB s j n i) then 1 else 0)) (nI i) h1 := by
      intro r
      induction r with
      | zero =>
        intro i hi
        show wb_X3_print_57 κ _ Q X m (nI j) (nI n) (nI (c + 1)) _ (nI i) h1
        unfold wb_X3_print_57
        refine gs_RC P1.1 (mp_places P1 I0 hj4 ?_)
        rw [plc_0]
        refine ⟨fun _ => ?_, fun w => absurd (nI_le (by omega) (n31 (by omega))) w⟩
        have ei : i = plc (s (120 + j)) := by omega
        rw [ei]
        cases w : (b && apB s j n (plc (s (120 + j)))) with
        | false =>
          refine ⟨fun _ => gs_RC P1.1 (mp_fails (v := 5) P1 (fun h2 o2 P2 => ?_)), fun w => absurd rfl w⟩
          rw [sU_idem] at P2
          refine q5 (fun v => ?_) h2 (o1.trans o2) P2
          rw [hb.mpr v.2, apB_iff.mpr v.1] at w
          exact absurd w (by decide)
        | true =>
          have hba : b = true ∧ apB s j n (plc (s (120 + j))) = true := by simpa using w
          refine ⟨(fun w => by cases w), fun _ => mp_printGo P1 I0 (IW0 J) hj4 hw0 hn0 (by omega) (fun h2 o2 P2 => ?_)⟩
          rw [readyM_0]
          exact q1 (apB_iff.mp hba.2) (hb.mp hba.1) h2 (o1.trans o2) P2
      | succ r ih =>
        intro i hi
        show wb_X3_print_57 κ (wl_X3_print_57 κ Q X (r + 1)) Q X m (nI j) (nI n) (nI (c + 1)) _ (nI i) h1
        unfold wb_X3_print_57 wb_X3_print_92 wb_X3_print_93
        refine gs_RC P1.1 (mp_places P1 I0 hj4 ?_)
        rw [plc_0]
        refine ⟨fun w => absurd w (nI_ge (by omega) (n31 (by omega))), fun _ => ?_⟩
        have nx := ih (i + 1) (by omega)
        rw [apB_succ] at nx
        cases w : (b && apB s j n i) with
        | false =>
          have e : (b && (apB s j n i && (s (340 + cOn s j n i) == 1))) = false := by rw [← Bool.and_assoc, w]; rfl
          rw [e] at nx
          refine ⟨fun _ => ?_, fun w => absurd rfl w⟩
          rw [nI_1]
          exact nx
        | true =>
          have e : (b && (apB s j n i && (s (340 + cOn s j n i) == 1))) = (s (340 + cOn s j n i) == 1) := by rw [← Bool.and_assoc, w]; rfl
          rw [e] at nx
          have hcc := cOn12 I hj4 hw hn (k := i) (by omega)
          have ha := (I.2.2.2.2.2.1 (cOn s j n i) (by omega)).2
          refine ⟨(fun w => by cases w), fun _ => gs_GR P1.1 rfl (gs_RC P1.1 (mp_contentOn P1 I0 hj4 hw0 hn0 (by rw [plc_0]; omega) ?_))⟩
          rw [sQ_cOn sQ0]
          refine mp_LZ P1 (by omega) ?_
          rw [sU_ne (show 340 + cOn s j n i ≠ 0 by omega), nI_1]
          rcases (show s (340 + cOn s j n i) = 0 ∨ s (340 + cOn s j n i) = 1 by omega) with v | v
          · rw [v] at nx ⊢
            exact ⟨fun _ => nx, fun z => absurd rfl z⟩
          · rw [v] at nx ⊢
            exact ⟨(fun z => by cases z), fun _ => nx⟩
    unfold wb_X3_print_52
    refine ⟨plc (s (120 + j)) + 1, ?_⟩
    have := key (plc (s (120 + j))) 0 (Nat.zero_add _)
    have e0 : (b && apB s j n 0) = b := by
      show (b && true) = b
      simp
    rw [e0] at this
    exact this
  refine ⟨fun w => ?_, fun w => ?_⟩
  · refine main false ⟨fun v => absurd v (by decide), fun v => ?_⟩
    exact absurd (show nI 9999 < _ from w) (nI_nlt v (n31 (by omega)))
  · refine main true ⟨fun _ => ?_, fun _ => rfl⟩
    have : ¬ 9999 < s (300 + (8 * j + n)) + (c + 1) := fun v => w (nI_lt v (n31 (by omega)))
    omega
end
