/-! PLAIN LAW, part MH: addPage -/
set_option maxRecDepth 100000
theorem JP_cg3 {κ bd ca : Nat → Nat} {pr j v : Nat} {s s' : Nat → Nat} {h : gh_H} (q : ∀ i, i = 120 + j ∨ i = 130 + j ∨ (200 + 16 * j ≤ i ∧ i < 216 + 16 * j) ∨ (300 + 8 * j ≤ i ∧ i < 308 + 8 * j) → s' i = s i) (hp : s (130 + j) ≤ 16) (J : JP κ bd ca pr s j v h) : JP κ bd ca pr s' j v h := by
  obtain ⟨ag, ai, pa, e1, e2, e3, e4⟩ := J
  have q1 : s' (120 + j) = s (120 + j) := q _ (by omega)
  have q2 : s' (130 + j) = s (130 + j) := q _ (by omega)
  refine ⟨ag, ai, pa, ?_, ?_, e3, fun n hn => ?_⟩
  · rw [q1]
    exact e1
  · have : jpg ca s' j = jpg ca s j := by
      unfold jpg
      rw [q2]
      refine List.map_congr_left (fun i hi => ?_)
      have := List.mem_range.mp hi
      rw [q _ (by omega)]
    rw [this]
    exact e2
  · rw [q _ (by omega)]
    exact e4 n hn
theorem LOT_cg2 {κ ca la s s' : Nat → Nat} {k : Nat} {h : gh_H} (q : ∀ i, (500 ≤ i ∧ i < 800) ∨ 6000 ≤ i → s' i = s i) (hk : k < 100) (hl : ∀ i, i < s (700 + k) → lCt s' k i = lCt s k i) (L : LOT κ ca la s k h) : LOT κ ca la s' k h := by
  obtain ⟨ac, ar, f, e1, e2, e3, e4⟩ := L
  have q7 : s' (700 + k) = s (700 + k) := q _ (by omega)
  refine ⟨ac, ar, f, ?_, ?_, ?_, fun i hi => ?_⟩
  · rw [q _ (by omega)]
    exact e1
  · rw [q7, show (List.range (s (700 + k))).map (fun i => ca (lCt s' k i)) = (List.range (s (700 + k))).map (fun i => ca (lCt s k i)) from List.map_congr_left (fun i hi => congrArg ca (hl i (List.mem_range.mp hi)))]
    exact e2
  · rw [q7]
    exact e3
  · rw [q7] at hi
    rw [q _ (by omega)]
    exact e4 i hi
/-- a page more: the state behind it -/
def pgS (s : Nat → Nat) (j c : Nat) : Nat → Nat := sU (sU s (200 + (16 * j + s (130 + j))) c) (130 + j) (s (130 + j) + 1)
theorem pgS_ne {s : Nat → Nat} {j c i : Nat} (h1 : i ≠ 200 + (16 * j + s (130 + j))) (h2 : i ≠ 130 + j) : pgS s j c i = s i := by
  unfold pgS
  rw [sU_ne h2, sU_ne h1]
theorem pgS_n {s : Nat → Nat} {j c : Nat} : pgS s j c (130 + j) = s (130 + j) + 1 := sU_self _ _ _
theorem pgS_c {s : Nat → Nat} {j c : Nat} : j < 4 → pgS s j c (200 + (16 * j + s (130 + j))) = c := fun hj => by
  unfold pgS
  rw [sU_ne (by omega), sU_self]
theorem pgS_lCt {s : Nat → Nat} {j c k i : Nat} (I : IV s) (J : IW s) (hj : j < s 2) (hp : s (130 + j) < 16) (hk : k < s 3) (hi : i < s (700 + k)) : lCt (pgS s j c) k i = lCt s k i := by
  have i2 := I.2.1
  have l3 := J.2.2.2.2.2.2.2.2 k hk
  have l4 := ltp16 I J hk
  have j3 := J.1
  unfold lCt
  rw [pgS_ne (i := 500 + k) (by omega) (by omega)]
  refine pgS_ne ?_ (by omega)
  by_cases e : s (500 + k) = j
  · rw [e] at l3 ⊢
    omega
  · omega
section
variable {κ bd ca ja la A : Nat → Nat} {T : Nat → gh_H → Prop} {d : Nat} {s : Nat → Nat} {ev : List Nat} {h h' : gh_H} {X : String → gh_H → Prop}
/-- job j has got a page: its list is the longer one -/
theorem DP.page {j c ag ai : Nat} {pa : Nat → Nat} (P : DP κ bd ca ja la A T d s ev h) (hT : TK T) (I : IV s) (J : IW s) (hj : j < s 2) (hp : s (130 + j) < 16) (e1 : h (ja j) = some (100 + 100 * j, .inr (7, [va_rf (some (bd (bx (s (120 + j))))), va_rf (some ag), va_rf (some ai)]))) (e3 : GL κ (103 + 100 * j) ai ((List.range 8).map pa) h) (e4 : ∀ n, n < 8 → h (pa n) = some (105 + 100 * j + n, .inr (3, [.long (lN (s (300 + (8 * j + n)))), va_rf (some (A 5))])))
    (o : Only (fun t => t = 101 + 100 * j ∨ t = 102 + 100 * j) h h') (G : GL κ (101 + 100 * j) ag (jpg ca s j ++ [ca c]) h') : DP κ bd ca ja la A T d (pgS s j c) ev h' := by
  have h1 := I.1
  have h2 := I.2.1
  obtain ⟨p1, p2, p3, p4, p5, ⟨xs, p6, p6b⟩, p7, p8, p9, p10, ⟨f, p11, p12⟩, p13⟩ := P
  have lw : ∀ i, i < 100 → pgS s j c i = s i := fun i hi => pgS_ne (by omega) (by omega)
  unfold DP DKf pbV
  rw [lw 1 (by decide), lw 2 (by decide), lw 3 (by decide), lw 5 (by decide), lw 6 (by decide), lw 7 (by decide), lw 8 (by decide), lw 9 (by decide), lw 10 (by decide), lw 11 (by decide)]
  refine ⟨o _ _ _ p1 (by omega), p2.keep o (by omega) (by omega), fun q hq => ?_, p4.keep o (by omega) (by omega), fun i hi => ?_, ⟨xs, p6.keep o (by omega) (by omega), p6b.keep o (by omega)⟩, p7.keep o (by omega) (by omega), fun k hk => ?_, o _ _ _ p9 (by omega), o _ _ _ p10 (by omega), ⟨f, o _ _ _ p11 (by omega), p12⟩, hT _ _ _ _ o (by omega) (fun t a b => by omega) p13⟩
  · rw [lw 1 (by decide)] at hq
    rw [pgS_ne (i := 100 + q) (by omega) (by omega), pgS_ne (i := 340 + q) (by omega) (by omega)]
    exact o _ _ _ (p3 q hq) (by omega)
  · by_cases e : i = j
    · subst e
      refine ⟨ag, ai, pa, ?_, ?_, e3.keep o (by omega) (by omega), fun n hn => ?_⟩
      · rw [pgS_ne (i := 120 + i) (by omega) (by omega)]
        exact o _ _ _ e1 (by omega)
      · have ej : jpg ca (pgS s i c) i = jpg ca s i ++ [ca c] := by
          unfold jpg
          rw [pgS_n, List.range_succ, List.map_append]
          congr 1
          · refine List.map_congr_left (fun t ht => ?_)
            have := List.mem_range.mp ht
            rw [pgS_ne (by omega) (by omega)]
          · show [ca (pgS s i c (200 + (16 * i + s (130 + i))))] = _
            rw [pgS_c (by omega)]
        rw [ej]
        exact G
      · rw [pgS_ne (by omega) (by omega)]
        exact o _ _ _ (e4 n hn) (by omega)
    · exact JP_cg3 (fun t ht => pgS_ne (by omega) (by omega)) (I.2.2.1 i (by omega)).2 ((p5 i hi).keep o (fun t a b => by omega))
  · have j3 := J.1
    exact LOT_cg2 (fun i hi => pgS_ne (by omega) (by omega)) (by omega) (fun i hi => pgS_lCt I J hj hp hk hi) ((p8 k hk).keep o (fun t a => by omega))
def tkA (s : Nat → Nat) (j : Nat) : Nat → Nat := sU (tkS (fun _ => true) j s (nSh s j)) 10 (s 10 + tkN (fun _ => true) j s (nSh s j))
theorem tkA_lw {j i : Nat} (I : IV s) (hj : j < 4) (h1 : i ≠ 10) (h2 : i < 300 ∨ 332 ≤ i) : tkA s j i = s i := by
  have h8 := nSh_8 I hj
  unfold tkA
  rw [sU_ne h1, tkS_out (by omega)]
theorem dk_addPage {x y : Int32} {Q : Int32 → gh_H → Prop} (P : DP κ bd ca ja la A T d s ev h) (N : CN0 κ h) (B : BD bd h) (hT : TK T) (I : IV s) (J : IW s) (h10 : s 10 ≤ 29000000)
    (k1 : ∀ j c, j < s 2 → x = nI j → c < s 1 → y = nI c → s (130 + j) < 16 → ∀ h', Only De h h' → DP κ bd ca ja la A T d (pgS (tkA s j) j c) ev h' → Q (nI (s (130 + j) + 1)) h')
    (k2 : ∀ j c, j < s 2 → x = nI j → c < s 1 → y = nI c → ¬ s (130 + j) < 16 → X "java/lang/IllegalStateException" h) (k0 : (x < 0 ∨ nI (s 2) ≤ x) ∨ (y < 0 ∨ nI (s 1) ≤ y) → X "java/lang/IndexOutOfBoundsException" h) : wp_X1_addPage κ d x y Q X h := by
  have i1 := I.1
  have i2 := I.2.1
  unfold wp_X1_addPage
  refine gs_RC P.1 (dk_job P I (fun j hj hx => gs_RC P.1 (dk_content P I (fun c hc hy => ?_) (fun w => k0 (Or.inr w)))) (fun w => k0 (Or.inl w)))
  have q1 := k1 j c hj hx hc hy
  have q2 := k2 j c hj hx hc hy
  have hj4 : j < 4 := by omega
  have Jb := P.2.2.2.2.1 j hj
  obtain ⟨ag, ai, pa, e1, ⟨mc, e2⟩, -⟩ := id Jb
  obtain ⟨al, hal, -⟩ := id e2
  have hp16 := (I.2.2.1 j hj4).2
  refine gs_GR e1 rfl (gs_RC hal (ls_size e2.lr ?_))
  rw [jpg_len]
  refine ⟨fun z => ?_, fun z => ?_⟩
  · unfold wb_X1_addPage_32 wp_X1_requireState
    have := (nI_leI (a := 16) (by decide) (n31 (by omega))).mp z
    exact ⟨fun _ => q2 (by omega), fun w => absurd rfl w⟩
  have hlt : s (130 + j) < 16 := by
    have : ¬ 16 ≤ s (130 + j) := fun w => z (nI_le w (n31 (by omega)))
    omega
  have q3 := q1 hlt
  unfold wb_X1_addPage_32 wp_X1_requireState
  refine ⟨(fun w => by cases w), fun _ => gs_GR P.1 rfl (gs_RC e1 (jb_takeOff (sel := fun _ => true) Jb B P.2.2.1 I hj (Or.inl ⟨rfl, fun _ => rfl⟩) (fun h1 o1 J1 => ?_)))⟩
  have h8 := nSh_8 I hj4
  have hk := tkN_le (sel := fun _ => true) I.2.2.2.2.2.2.1 hj4 (nSh s j) h8
  have P1 := P.stk (s' := tkS (fun _ => true) j s (nSh s j)) hT I J hj o1 (fun t ht => tkS_out (by omega)) J1
  have I1 := tkS_IV (sel := fun _ => true) I hj4 h8
  have JW1 : IW (tkS (fun _ => true) j s (nSh s j)) := IW_of J I (fun t ht => tkS_out (by omega))
  have e10 : tkS (fun _ => true) j s (nSh s j) 10 = s 10 := tkS_out (by omega)
  have ep := P1.2.2.2.2.2.2.2.2.2.1
  rw [e10] at ep
  refine gs_RC ep (ct_add ep (by decide) (n31 (by omega)) ?_)
  have P2 := P1.wst (x := s 10 + tkN (fun _ => true) j s (nSh s j)) hT I1 JW1
  have o2 : Only De h1 (gh_up h1 (A 6) (11, .inr (2, [.long (lN (s 10 + tkN (fun _ => true) j s (nSh s j)))]))) := Only.up ep (by unfold De; omega)
  have I2 : IV (tkA s j) := IV_10 I1 (by omega)
  have JW2 : IW (tkA s j) := IW_of JW1 I1 (fun t ht => sU_ne (by omega))
  have P2' : DP κ bd ca ja la A T d (tkA s j) ev (gh_up h1 (A 6) (11, .inr (2, [.long (lN (s 10 + tkN (fun _ => true) j s (nSh s j)))]))) := P2
  generalize eh2 : gh_up h1 (A 6) (11, .inr (2, [.long (lN (s 10 + tkN (fun _ => true) j s (nSh s j)))])) = h2 at P2' o2
  have a2 : tkA s j 2 = s 2 := tkA_lw I hj4 (by decide) (by omega)
  have a1 : tkA s j 1 = s 1 := tkA_lw I hj4 (by decide) (by omega)
  have ap : tkA s j (130 + j) = s (130 + j) := tkA_lw I hj4 (by omega) (by omega)
  obtain ⟨bg, bi, pb, f1, f2, f3, f4⟩ := P2'.2.2.2.2.1 j (by rw [a2]; exact hj)
  obtain ⟨mcb, f2m⟩ := id f2
  obtain ⟨bl, hbl, -⟩ := id f2m
  have o12 : Only De h h2 := (o1.mono (fun t ht => by unfold Jo at ht; unfold De; omega)).trans o2
  have N2 : CN0 κ h2 := N.keep o12 (by unfold De; omega)
  refine gs_GR f1 rfl (gs_RC hbl (ls_add N2 f2 (by omega) (by rw [jpg_len, ap]; omega) (fun y hy => ?_) (OB.of (P2'.2.2.1 c (by rw [a1]; exact hc)) (by decide)) (fun h3 o3 L3 => ?_)))
  · obtain ⟨t, ht, rfl⟩ := List.mem_map.mp hy
    have ht2 := List.mem_range.mp ht
    exact OB.of (P2'.2.2.1 _ (I2.2.2.2.2.1 j t hj4 ht2)) (by decide)
  have P3 := P2'.page hT I2 JW2 (by rw [a2]; exact hj) (by rw [ap]; exact hlt) f1 f3 f4 (o3.mono (fun t ht => by omega)) L3
  obtain ⟨mc3, L3m⟩ := id L3
  obtain ⟨cl, hcl, -⟩ := id L3m
  refine gs_GR (o3 _ _ _ f1 (by omega)) rfl (gs_RC hcl (ls_size L3m.lr ?_))
  rw [List.length_append, jpg_len, ap]
  exact q3 h3 (o12.trans (o3.mono (fun t ht => by unfold De; omega))) P3
end
section
variable {κ : Nat → Nat} {m : Nat} {a s : Nat → Nat} {h : gh_H} {X : String → gh_H → Prop}
theorem mp_addPage {x y : Int32} {Q : Int32 → gh_H → Prop} (P : MP m a s h) (I : IV s) (h10 : s 10 ≤ 29000000)
    (k1 : ∀ j c, j < s 2 → x = nI j → c < s 1 → y = nI c → s (130 + j) < 16 → ∀ h', Only Mo h h' → MP m a (pgS (sU (tkS (fun _ => true) j (sU s 0 0) 8) 10 (s 10 + tkN (fun _ => true) j (sU s 0 0) 8)) j c) h' → Q (nI (s (130 + j) + 1)) h')
    (k2 : ∀ j c, j < s 2 → x = nI j → c < s 1 → y = nI c → ¬ s (130 + j) < 16 → ∀ h', Only Mo h h' → MP m a (sU s 0 2) h' → Q 0 h') (k0 : (x < 0 ∨ nI (s 2) ≤ x) ∨ (y < 0 ∨ nI (s 1) ≤ y) → ∀ h', Only Mo h h' → MP m a (sU s 0 1) h' → Q 0 h') : wp_X3_addPage κ m x y Q X h := by
  have i1 := I.1
  have i2 := I.2.1
  unfold wp_X3_addPage wb_X3_addPage_28
  refine gs_GI P.1 rfl (mp_in (by omega) (fun j hj hx => ⟨(fun z => by cases z), fun _ => gs_GI P.1 rfl (mp_in (by omega) (fun c hc hy => ⟨(fun z => by cases z), fun _ => ?_⟩) (fun hy => ⟨fun _ => gs_RC P.1 (mp_fails (v := 1) P (k0 (Or.inr hy))), fun z => absurd rfl z⟩))⟩) (fun hx => ⟨fun _ => gs_RC P.1 (mp_fails (v := 1) P (k0 (Or.inl hx))), fun z => absurd rfl z⟩))
  have q1 := k1 j c hj hx hc hy
  have q2 := k2 j c hj hx hc hy
  have hj4 : j < 4 := by omega
  have hp16 := (I.2.2.1 j hj4).2
  rw [hx, hy]
  refine gs_GR P.1 rfl (mp_LI (k := 2) P (by decide) rfl hj4 ⟨fun z => gs_RC P.1 (mp_fails (v := 2) P (q2 ?_)), fun z => ?_⟩)
  · have : s (130 + j) = 16 := (nI_eq (b := 16) (n31 (by omega)) (by decide)).mp z
    omega
  have hlt : s (130 + j) < 16 := by
    have : s (130 + j) ≠ 16 := fun w => z (by show nI (s (130 + j)) = nI 16; rw [w])
    omega
  have q3 := q1 hlt
  refine mp_PV (k := 0) (v := 0) P (by decide) (fun h1 o1 P1 => ?_)
  have e0 : ∀ i, i ≠ 0 → sU s 0 0 i = s i := fun i hi => sU_ne hi
  have I0 : IV (sU s 0 0) := IV0 I
  have key : ∀ (r n : Nat) (h2 : gh_H), n + r = 8 → Only Mo h h2 → MP m a (sU (tkS (fun _ => true) j (sU s 0 0) n) 10 (s 10 + tkN (fun _ => true) j (sU s 0 0) n)) h2 → wl_X3_addPage_58 κ Q X (r + 1) m (nI j) (nI c) (nI n) h2 := by
    intro r
    induction r with
    | zero =>
      intro n h2 hn o2 P2
      have hn8 : n = 8 := by omega
      subst hn8
      show wb_X3_addPage_58 κ _ Q X m (nI j) (nI c) (nI 8) h2
      unfold wb_X3_addPage_58
      have ep : sU (tkS (fun _ => true) j (sU s 0 0) 8) 10 (s 10 + tkN (fun _ => true) j (sU s 0 0) 8) (130 + j) = s (130 + j) := by rw [sU_ne (by omega), tkS_out (by omega), e0 _ (by omega)]
      generalize sU (tkS (fun _ => true) j (sU s 0 0) 8) 10 (s 10 + tkN (fun _ => true) j (sU s 0 0) 8) = st at ep P2 q3
      refine ⟨fun _ => gs_GR P2.1 rfl (gs_GR P2.1 rfl (mp_LI (k := 2) P2 (by decide) rfl hj4 ?_)), fun z => absurd (nI_le (Nat.le_refl 8) (by decide)) z⟩
      have e16 : (16 : Int32) * nI j + nI (st (mB 2 + j)) = nI (16 * j + st (130 + j)) := by rw [show (16 : Int32) * nI j = nI (16 * j) from pk_mul 16 j]; exact nI_add _ _
      rw [e16]
      refine mp_SI (k := 3) P2 (by decide) rfl (show _ < 64 by omega) (fun h3 o3 P3 => gs_GR P3.1 rfl (mp_LI (k := 2) P3 (by decide) rfl hj4 ?_))
      have e3 : sU st (mB 3 + (16 * j + st (130 + j))) c (mB 2 + j) = st (130 + j) := sU_ne (by show 130 + j ≠ 200 + _; omega)
      rw [e3, nI_1]
      refine mp_SI (k := 2) P3 (by decide) rfl hj4 (fun h4 o4 P4 => gs_GR P4.1 rfl (mp_LI (k := 2) P4 (by decide) rfl hj4 ?_))
      have P5 : MP m a (pgS st j c) h4 := P4
      have e4 : sU (sU st (mB 3 + (16 * j + st (130 + j))) c) (mB 2 + j) (st (130 + j) + 1) (mB 2 + j) = s (130 + j) + 1 := by rw [sU_self, ep]
      rw [e4]
      exact q3 h4 ((o2.trans o3).trans o4) P5
    | succ r ih =>
      intro n h2 hn o2 P2
      show wb_X3_addPage_58 κ (wl_X3_addPage_58 κ Q X (r + 1)) Q X m (nI j) (nI c) (nI n) h2
      unfold wb_X3_addPage_58
      have hk := tkN_le (sel := fun _ => true) I0.2.2.2.2.2.2.1 hj4 n (by omega)
      have I2 : IV (sU (tkS (fun _ => true) j (sU s 0 0) n) 10 (s 10 + tkN (fun _ => true) j (sU s 0 0) n)) := IV_10 (tkS_IV I0 hj4 (by omega)) (by omega)
      refine ⟨fun z => absurd z (nI_ge (show n < 8 by omega) (by decide)), fun _ => gs_RC P2.1 (mp_voids P2 I2 hj4 (by omega) (fun h3 o3 P3 => ?_))⟩
      have est : sU (tkS (fun _ => true) j (sU s 0 0) n) 10 (s 10 + tkN (fun _ => true) j (sU s 0 0) n) (300 + (8 * j + n)) = sU s 0 0 (300 + (8 * j + n)) := by
        rw [sU_ne (by omega), tkS_out (by omega)]
      rw [est, sU_10 (by omega), sU_self] at P3
      rw [nI_1]
      refine ih (n + 1) h3 (by omega) (o2.trans o3) ?_
      show MP m a (sU (sU (tkS (fun _ => true) j (sU s 0 0) n) (300 + (8 * j + n)) 0) 10 (s 10 + (tkN (fun _ => true) j (sU s 0 0) n + sU s 0 0 (300 + (8 * j + n))))) h3
      rw [← Nat.add_assoc (s 10)]
      exact P3
  refine ⟨_, key _ 0 h1 (Nat.zero_add _) o1 ?_⟩
  have e9 : sU (sU s 0 0) 10 (s 10 + 0) = sU s 0 0 := by
    funext i
    unfold sU
    split
    · rename_i hi
      rw [hi]
      rfl
    · rfl
  show MP m a (sU (sU s 0 0) 10 (s 10 + 0)) h1
  rw [e9]
  exact P1
end
theorem tk_all {s s' : Nat → Nat} {j : Nat} (q : ∀ i, i ≠ 0 → s' i = s i) : ∀ (k r : Nat), (∀ n, r ≤ n → n < r + k → s (300 + (8 * j + n)) = 0) → tkN (fun _ => true) j s' (r + k) = tkN (fun _ => true) j s r ∧ ∀ i, i ≠ 0 → tkS (fun _ => true) j s' (r + k) i = tkS (fun _ => true) j s r i
  | 0, r, _ => by
    refine ⟨tkN_congr r (fun n _ => ⟨rfl, q _ (by omega)⟩), ?_⟩
    induction r with
    | zero => exact q
    | succ r ih =>
      intro i hi
      show sU (tkS (fun _ => true) j s' r) (300 + (8 * j + r)) 0 i = sU (tkS (fun _ => true) j s r) (300 + (8 * j + r)) 0 i
      unfold sU
      split
      · rfl
      · exact ih (fun n h1 h2 => by omega) i hi
  | k + 1, r, hz => by
    have ih := tk_all (j := j) q k r (fun n h1 h2 => hz n h1 (by omega))
    have h0 := hz (r + k) (by omega) (by omega)
    refine ⟨?_, fun i hi => ?_⟩
    · show tkN (fun _ => true) j s' (r + k) + s' (300 + (8 * j + (r + k))) = _
      rw [ih.1, q _ (by omega), h0]
      rfl
    · show sU (tkS (fun _ => true) j s' (r + k)) (300 + (8 * j + (r + k))) 0 i = _
      by_cases w : i = 300 + (8 * j + (r + k))
      · rw [w, sU_self, tkS_out (by omega), h0]
      · rw [sU_ne w]
        exact ih.2 i hi
theorem tkS_zero {s : Nat → Nat} {j n : Nat} : ∀ r, n < r → tkS (fun _ => true) j s r (300 + (8 * j + n)) = 0
  | 0, h => absurd h (Nat.not_lt_zero _)
  | r + 1, h => by
    show sU (tkS (fun _ => true) j s r) (300 + (8 * j + r)) 0 _ = 0
    by_cases w : n = r
    · rw [w, sU_self]
    · rw [sU_ne (by omega)]
      exact tkS_zero r (by omega)
section
variable {κ bd : Nat → Nat} {sc : Nat × Nat × (Nat → Int32)} {T : (Nat → Nat) → Nat → gh_H → Prop} {d m vO vD t : Nat} {h : gh_H} {K : gh_H → Prop}
theorem o_addPage {x y : Int32} {G : Int32 → gh_H → Prop} (hG : ∀ r3 h4, KC κ bd sc h4 → gh_RC h4 (some m) 1 (fun a5 => wp_X3_addPage κ a5 x y (fun r6 h7 => TLw κ vO K r3 a5 r6 h7) (fun _ _ => False) h4) → G r3 h4) (hT : TKs T) (ht : t < 64) (L : LI κ bd sc T d m vO vD t h) (k : ∀ h', LI κ bd sc T d m vO vD (t + 1) h' → K h') :
    wp_X0_addPage κ (some d) x y (some vO) G (fun _ _ => False) h := by
  obtain ⟨a, s, ca, ja, la, A, ev, P, M, I, J, Y, E, B, C, O⟩ := L
  have i1 := I.1
  have i2 := I.2.1
  have B0 := B
  unfold IB at B0
  unfold wp_X0_addPage
  refine gs_RC P.1 (dk_addPage P C.1 C.2.1 (hT.1 s) I J (by omega) (fun j c hj hx hc hy hlt h1 o1 P1 => ?_) (fun j c hj hx hc hy hlt => Or.inr ⟨rfl, fun _ => ?_⟩) (fun hxy => Or.inl ⟨rfl, fun _ => ?_⟩))
  · have hj4 : j < 4 := by omega
    have h8 := nSh_8 I hj4
    have hk := tkN_le (sel := fun _ => true) I.2.2.2.2.2.2.1 hj4 (nSh s j) h8
    have e0 : ∀ i, i ≠ 0 → sU s 0 0 i = s i := fun i hi => sU_ne hi
    have al := tk_all (j := j) e0 (8 - nSh s j) (nSh s j) (fun n h1 h2 => Y.2.2 j n hj4 (by omega) h1)
    rw [show nSh s j + (8 - nSh s j) = 8 by omega] at al
    have am : ∀ i, i ≠ 0 → sU (tkS (fun _ => true) j (sU s 0 0) 8) 10 (s 10 + tkN (fun _ => true) j (sU s 0 0) 8) i = tkA s j i := fun i hi => by
      unfold tkA
      rw [al.1]
      by_cases w : i = 10
      · rw [w, sU_self, sU_self]
      · rw [sU_ne w, sU_ne w]
        exact al.2 i hi
    have pm : ∀ i, i ≠ 0 → pgS (sU (tkS (fun _ => true) j (sU s 0 0) 8) 10 (s 10 + tkN (fun _ => true) j (sU s 0 0) 8)) j c i = pgS (tkA s j) j c i := fun i hi => by
      unfold pgS
      rw [am (130 + j) (by omega)]
      unfold sU
      split
      · rfl
      · split
        · rfl
        · exact am i hi
    have lw : ∀ i, i ≠ 10 → (i < 300 ∨ 332 ≤ i) → tkA s j i = s i := fun i => tkA_lw I hj4
    have I1 := tkS_IV (sel := fun _ => true) I hj4 h8
    have I2 : IV (tkA s j) := IV_10 I1 (by omega)
    have J2 : IW (tkA s j) := IW_of J I (fun i hi => lw i (by omega) (by omega))
    have ap : tkA s j (130 + j) = s (130 + j) := lw _ (by omega) (by omega)
    have f : ∀ s' : Nat → Nat, (∀ i, i ≠ 0 → s' i = pgS (tkA s j) j c i) → IV s' ∧ IW s' ∧ IY s' ∧ IE s' ev ∧ IB s' ev (t + 1) := by
      intro s' f
      have f2 : ∀ i, i ≠ 0 → i ≠ 10 → (i < 300 ∨ 332 ≤ i) → i ≠ 200 + (16 * j + s (130 + j)) → i ≠ 130 + j → s' i = s i := fun i h0 h1 h2 h3 h4 => by
        rw [f i h0, pgS_ne (by rw [ap]; exact h3) h4, lw i h1 h2]
      have fn : s' (130 + j) = s (130 + j) + 1 := by rw [f _ (by omega), pgS_n, ap]
      have fc : s' (200 + (16 * j + s (130 + j))) = c := by
        have := pgS_c (s := tkA s j) (c := c) hj4
        rw [ap] at this
        rw [f _ (by omega), this]
      have f10 : s' 10 = s 10 + tkN (fun _ => true) j s (nSh s j) := by
        rw [f 10 (by decide), pgS_ne (by omega) (by omega)]
        exact sU_self _ _ _
      have fs : ∀ i, i < 32 → s' (300 + i) = tkS (fun _ => true) j s (nSh s j) (300 + i) := fun i hi => by
        rw [f _ (by omega), pgS_ne (by rw [ap]; omega) (by omega)]
        unfold tkA
        exact sU_ne (by omega)
      have f130 : ∀ j', j' < 4 → j' ≠ j → s' (130 + j') = s (130 + j') := fun j' h1 h2 => f2 _ (by omega) (by omega) (by omega) (by omega) (by omega)
      have f120 : ∀ j', j' < 4 → s' (120 + j') = s (120 + j') := fun j' h1 => f2 _ (by omega) (by omega) (by omega) (by omega) (by omega)
      refine ⟨?_, ?_, ?_, ?_, ?_⟩
      · unfold IV
        rw [f2 1 (by decide) (by decide) (by omega) (by omega) (by omega), f2 2 (by decide) (by decide) (by omega) (by omega) (by omega), f10, f2 11 (by decide) (by decide) (by omega) (by omega) (by omega)]
        refine ⟨I.1, I.2.1, fun j' hj' => ?_, fun j' hj' => ?_, fun j' i hj' hi => ?_, fun q hq => ?_, fun i hi => ?_, by omega, I.2.2.2.2.2.2.2.2⟩
        · rw [f120 j' hj']
          by_cases w : j' = j
          · rw [w, fn]
            exact ⟨(I.2.2.1 j hj4).1, by omega⟩
          · rw [f130 j' hj' w]
            exact I.2.2.1 j' hj'
        · rw [f120 j' (by omega)]
          exact I.2.2.2.1 j' hj'
        · by_cases w : j' = j
          · rw [w, fn] at hi
            rw [w]
            by_cases v : i = s (130 + j)
            · rw [v, fc]
              exact hc
            · rw [f2 _ (by omega) (by omega) (by omega) (by omega) (by omega)]
              exact I.2.2.2.2.1 j i hj4 (by omega)
          · rw [f130 j' hj' w] at hi
            have := (I.2.2.1 j' hj').2
            rw [f2 _ (by omega) (by omega) (by omega) (by omega) (by omega)]
            exact I.2.2.2.2.1 j' i hj' hi
        · rw [f2 (100 + q) (by omega) (by omega) (by omega) (by omega) (by omega), f2 (340 + q) (by omega) (by omega) (by omega) (by omega) (by omega)]
          exact I.2.2.2.2.2.1 q hq
        · rw [fs i hi]
          exact tkS_le I.2.2.2.2.2.2.1 _ i hi
      · have j3 := J.1
        have j4 := J.2.1
        unfold IW
        rw [f2 2 (by decide) (by decide) (by omega) (by omega) (by omega), f2 3 (by decide) (by decide) (by omega) (by omega) (by omega), f2 4 (by decide) (by decide) (by omega) (by omega) (by omega), f2 5 (by decide) (by decide) (by omega) (by omega) (by omega), f2 6 (by decide) (by decide) (by omega) (by omega) (by omega), f2 7 (by decide) (by decide) (by omega) (by omega) (by omega), f2 8 (by decide) (by decide) (by omega) (by omega) (by omega), f2 9 (by decide) (by decide) (by omega) (by omega) (by omega)]
        refine ⟨J.1, J.2.1, fun q hq => ?_, J.2.2.2.1, J.2.2.2.2.1, J.2.2.2.2.2.1, J.2.2.2.2.2.2.1, J.2.2.2.2.2.2.2.1, fun l hl => ?_⟩
        · rw [f2 _ (by omega) (by omega) (by omega) (by omega) (by omega)]
          exact J.2.2.1 q hq
        · have l3 := J.2.2.2.2.2.2.2.2 l hl
          rw [f2 (500 + l) (by omega) (by omega) (by omega) (by omega) (by omega), f2 (600 + l) (by omega) (by omega) (by omega) (by omega) (by omega), f2 (700 + l) (by omega) (by omega) (by omega) (by omega) (by omega)]
          refine ⟨l3.1, l3.2.1, l3.2.2.1, ?_, fun i hi => ?_⟩
          · by_cases w : s (500 + l) = j
            · have := l3.2.2.2.1
              rw [w] at this ⊢
              rw [fn]
              omega
            · rw [f130 _ (by omega) w]
              exact l3.2.2.2.1
          · rw [f2 _ (by omega) (by omega) (by omega) (by omega) (by omega)]
            exact l3.2.2.2.2 i hi
      · refine ⟨fun q h1 h2 => ?_, fun j' h1 h2 => ?_, fun j' n h1 h2 h3 => ?_⟩
        · rw [f2 1 (by decide) (by decide) (by omega) (by omega) (by omega)] at h1
          rw [f2 (100 + q) (by omega) (by omega) (by omega) (by omega) (by omega), f2 (340 + q) (by omega) (by omega) (by omega) (by omega) (by omega)]
          exact Y.1 q h1 h2
        · rw [f2 2 (by decide) (by decide) (by omega) (by omega) (by omega)] at h1
          rw [f130 j' h2 (by omega)]
          exact Y.2.1 j' h1 h2
        · rw [fs _ (by omega)]
          by_cases w : j' = j
          · rw [w]
            by_cases v : n < nSh s j
            · exact tkS_zero _ v
            · rw [tkS_out (by omega)]
              exact Y.2.2 j n hj4 h2 (by omega)
          · have en : nSh s' j' = nSh s j' := by
              unfold nSh cnt
              rw [f130 j' h1 w, f120 j' h1]
            rw [en] at h3
            rw [tkS_out (by omega)]
            exact Y.2.2 j' n h1 h2 h3
      · refine ⟨fun y hy => ?_, fun q hq => ?_, fun l hl => ?_⟩
        · rw [f2 1 (by decide) (by decide) (by omega) (by omega) (by omega), f2 3 (by decide) (by decide) (by omega) (by omega) (by omega)]
          exact E.1 y hy
        · rw [f2 1 (by decide) (by decide) (by omega) (by omega) (by omega)] at hq
          rw [f2 _ (by omega) (by omega) (by omega) (by omega) (by omega)]
          exact E.2.1 q hq
        · rw [f2 3 (by decide) (by decide) (by omega) (by omega) (by omega)] at hl
          obtain ⟨pre, suf, h1, h2, h3⟩ := E.2.2 l hl
          have l3 := J.2.2.2.2.2.2.2.2 l hl
          have l4 := ltp16 I J hl
          have j3 := J.1
          refine ⟨pre, suf, h1, h2, fun i hi => ?_⟩
          rw [f2 (700 + l) (by omega) (by omega) (by omega) (by omega) (by omega)] at hi
          have a3 : tkA s j 3 = s 3 := lw 3 (by decide) (by omega)
          have a2 : tkA s j 2 = s 2 := lw 2 (by decide) (by omega)
          have a7 : tkA s j (700 + l) = s (700 + l) := lw _ (by omega) (by omega)
          have g1 : lCt s' l i = lCt (pgS (tkA s j) j c) l i := by
            unfold lCt
            rw [f (500 + l) (by omega), f _ (by omega)]
          have g2 : lCt (tkA s j) l i = lCt s l i := by
            unfold lCt
            rw [lw (500 + l) (by omega) (by omega), lw _ (by omega) (by omega)]
          rw [f2 _ (by omega) (by omega) (by omega) (by omega) (by omega), g1, pgS_lCt I2 J2 (by rw [a2]; exact hj) (by rw [ap]; exact hlt) (by rw [a3]; exact hl) (by rw [a7]; exact hi), g2]
          exact h3 i hi
      · unfold IB
        rw [f2 3 (by decide) (by decide) (by omega) (by omega) (by omega), f2 4 (by decide) (by decide) (by omega) (by omega) (by omega), f2 5 (by decide) (by decide) (by omega) (by omega) (by omega), f2 6 (by decide) (by decide) (by omega) (by omega) (by omega), f2 11 (by decide) (by decide) (by omega) (by omega) (by omega), f10]
        omega
    have V1 := f (pgS (tkA s j) j c) (fun i _ => rfl)
    have V2 := f _ pm
    refine o_do (hG := hG 0) (WM := fun a5 Q h4 => wp_X3_addPage κ a5 x y Q (fun _ _ => False) h4) hT P1 (M.de o1) V1.1 V1.2.1 (fun i h0 _ _ _ => pm i h0) ?_ (fun i h1 h2 => ?_) ?_ V2.1 V2.2.1 V2.2.2.1 V2.2.2.2.1 V2.2.2.2.2 (C.de o1) (O.de o1) (fun h2 Q M2 kk => mp_addPage M2 I (by omega) (fun j' c' hj' hx' hc' hy' _ h3 o3 M3 => ?_) (fun j' c' hj' hx' hc' hy' w => ?_) (fun z => ?_)) k
    · rw [pm 4 (by decide), pgS_ne (by omega) (by omega), lw 4 (by decide) (by omega)]
    · rw [pm i (by omega), pgS_ne (by rw [ap]; omega) (by omega), lw i (by omega) (by omega)]
    · rw [pgS_ne (by omega) (by omega), sU_ne (by decide), tkS_out (by omega), sU_self]
    · have ej := ix_eq (by omega) hj hj' hx hx'
      have ec := ix_eq (by omega) hc hc' hy hy'
      subst ej
      subst ec
      exact kk h3 o3 M3
    · have ej := ix_eq (by omega) hj hj' hx hx'
      subst ej
      exact absurd hlt w
    · rcases z with z | z
      · exact (ix_out (by omega) hj hx z).elim
      · exact (ix_out (by omega) hc hy z).elim
  · refine o_bad (c := 2) (hG := hG (nI 2)) (WM := fun a5 Q h4 => wp_X3_addPage κ a5 x y Q (fun _ _ => False) h4) hT P M I J Y E B C O (by decide) (by decide) (fun Q kk => mp_addPage M I (by omega) (fun j' c' hj' hx' hc' hy' w => ?_) (fun j' c' hj' hx' hc' hy' w => kk) (fun z => ?_)) k
    · have ej := ix_eq (by omega) hj hj' hx hx'
      subst ej
      exact absurd w hlt
    · rcases z with z | z
      · exact (ix_out (by omega) hj hx z).elim
      · exact (ix_out (by omega) hc hy z).elim
  · refine o_bad (c := 1) (hG := hG (nI 1)) (WM := fun a5 Q h4 => wp_X3_addPage κ a5 x y Q (fun _ _ => False) h4) hT P M I J Y E B C O (by decide) (by decide) (fun Q kk => mp_addPage M I (by omega) (fun j' c' hj' hx' hc' hy' w => ?_) (fun j' c' hj' hx' hc' hy' w => ?_) (fun _ => kk)) k
    · rcases hxy with z | z
      · exact (ix_out (by omega) hj' hx' z).elim
      · exact (ix_out (by omega) hc' hy' z).elim
    · rcases hxy with z | z
      · exact (ix_out (by omega) hj' hx' z).elim
      · exact (ix_out (by omega) hc' hy' z).elim
end
