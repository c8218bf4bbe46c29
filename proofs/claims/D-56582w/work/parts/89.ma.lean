/-! PLAIN LAW, part MA: makeready, lacks -/
set_option maxRecDepth 100000
theorem un_mu {d : Nat} (h : d < 1441200) : un (mu d) = d := by
  unfold un mu
  split <;> split <;> omega
theorem un_lt {m : Nat} (h : (1 ≤ m ∧ m ≤ 1200) ∨ (2000 ≤ m ∧ m < 1442000)) : un m < 1441200 := by
  unfold un
  split <;> omega
theorem mu_un {m : Nat} (h : (1 ≤ m ∧ m ≤ 1200) ∨ (2000 ≤ m ∧ m < 1442000)) : mu (un m) = m := by
  unfold mu un
  split <;> split <;> omega
theorem mu_rg {d : Nat} (h : d < 1441200) : (1 ≤ mu d ∧ mu d ≤ 1200) ∨ (2000 ≤ mu d ∧ mu d < 1442000) := by
  unfold mu
  split <;> omega
theorem nI_m1 {n : Nat} (h : n < 2 ^ 31) : ¬ (-1 : Int32) = nI n := fun e => by
  have h1 := congrArg Int32.toInt e
  rw [nI_toInt h] at h1
  have : (-1 : Int32).toInt = -1 := by decide
  omega
theorem prs_eq {m d : Nat} (hm : m = 0 ∨ (1 ≤ m ∧ m ≤ 1200) ∨ (2000 ≤ m ∧ m < 1442000)) (hd : d < 1441200) : prsV m = nI d ↔ mu d = m := by
  unfold prsV
  by_cases h0 : m = 0
  · rw [if_pos h0, h0]
    exact ⟨fun e => absurd e (nI_m1 (n31 (by omega))), fun e => by have := mu_pos (d := d); omega⟩
  · rw [if_neg h0]
    have hm' := hm.resolve_left h0
    constructor
    · intro e
      have := (nI_eq (n31 (by have := un_lt hm'; omega)) (n31 (by omega))).mp e
      rw [← this, mu_un hm']
    · intro e
      rw [← e, un_mu hd]
theorem bx_3 {b c : Nat} (hb : okB b) (hc : okB c) (e : bx b = bx c) : b = c := by
  rcases hb with rfl | rfl | rfl <;> rcases hc with rfl | rfl | rfl <;> first | rfl | exact absurd e (by decide)
theorem BD.inj {bd : Nat → Nat} {h : gh_H} {b c : Nat} (B : BD bd h) (hb : okB b) (hc : okB c) (e : bd (bx b) = bd (bx c)) : b = c := by
  have h1 := B.1
  have h2 := B.2.1
  have h3 := B.2.2
  have e01 : bd 0 ≠ bd 1 := fun z => by rw [z, h2] at h1; simp at h1
  have e02 : bd 0 ≠ bd 2 := fun z => by rw [z, h3] at h1; simp at h1
  have e12 : bd 1 ≠ bd 2 := fun z => by rw [z, h3] at h2; simp at h2
  rcases hb with rfl | rfl | rfl <;> rcases hc with rfl | rfl | rfl
  · rfl
  · exact absurd e e01
  · exact absurd e e02
  · exact absurd e.symm e01
  · rfl
  · exact absurd e e12
  · exact absurd e.symm e02
  · exact absurd e.symm e12
  · rfl
section
variable {κ bd ca ja la A : Nat → Nat} {T : Nat → gh_H → Prop} {d : Nat} {s : Nat → Nat} {ev : List Nat} {h : gh_H} {X : String → gh_H → Prop}
theorem dk_ready {j n : Nat} {Q : Int32 → gh_H → Prop} (P : DP κ bd ca ja la A T d s ev h) (B : BD bd h) (I : IV s) (J : IW s) (hj : j < s 2) (hw : whole s j) (hn : n < cnt s j) (k : Q (nI (readyM s j n)) h) : wp_X1_makeready κ d (some (ja j)) (nI n) Q X h := by
  have hs := I.2.1
  have Jb := P.2.2.2.2.1 j hj
  obtain ⟨ag, ai, pa, e1, -⟩ := id Jb
  obtain ⟨f, ef, ef0, ef1⟩ := P.2.2.2.2.2.2.2.2.2.2.1
  have j7 := J.2.2.2.2.2.1
  have j8 := J.2.2.2.2.2.2.1
  have j9 := J.2.2.2.2.2.2.2.1
  have d0 := dPl_lt I (show j < 4 by omega) hw hn (k := 0) (by decide)
  have d1 := dPl_lt I (show j < 4 by omega) hw hn (k := 1) (by decide)
  have ob := I.2.2.2.1 j hj
  have step : ∀ (r t0 p q y : Nat), p < 2 → f p = prsV q → (q = 0 ∨ (1 ≤ q ∧ q ≤ 1200) ∨ (2000 ≤ q ∧ q < 1442000)) → y = (if mu (dPl s j n p) = q then 0 else 20) → wl_X1_makeready_21 κ Q X r d (some (ja j)) (nI n) (nI (t0 + y)) (nI (p + 1)) h → wl_X1_makeready_21 κ Q X (r + 1) d (some (ja j)) (nI n) (nI t0) (nI p) h := by
    intro r t0 p q y hp hf hq hy kk
    show wb_X1_makeready_21 κ (wl_X1_makeready_21 κ Q X r) Q X d (some (ja j)) (nI n) (nI t0) (nI p) h
    have dp := dPl_lt I (show j < 4 by omega) hw hn (k := p) (by omega)
    unfold wb_X1_makeready_21 wb_X1_makeready_55
    refine gs_GR P.1 rfl (gs_LN ef ⟨fun z => absurd z (nI_ge hp (show 2 < 2 ^ 31 by decide)), fun _ => gs_GR P.1 rfl (gs_LI ef hp (by decide) (gs_RC e1 (jb_plate Jb B P.2.2.1 I hj hw hn (by omega) ?_)))⟩)
    rw [hf]
    refine ⟨fun z => ?_, fun z => ?_⟩
    · rw [if_pos ((prs_eq hq dp).mp z)] at hy
      subst hy
      rw [nI_1, show nI t0 + 0 = nI (t0 + 0) from nI_add t0 0]
      exact kk
    · rw [if_neg (fun w => z ((prs_eq hq dp).mpr w))] at hy
      subst hy
      rw [nI_1, show (20 : Int32) = nI 20 from rfl, nI_add]
      exact kk
  have main : ∀ t0 : Nat, t0 + ((if mu (dPl s j n 0) = s 7 then 0 else 20) + (if mu (dPl s j n 1) = s 8 then 0 else 20)) = readyM s j n → wb_X1_makeready_17 κ Q X d (some (ja j)) (nI n) (nI t0) h := by
    intro t0 ht
    unfold wb_X1_makeready_17
    refine ⟨3, step 2 t0 0 (s 7) _ (by decide) ef0 j7 rfl (step 1 _ 1 (s 8) _ (by decide) ef1 j8 rfl ?_)⟩
    show wb_X1_makeready_21 κ (wl_X1_makeready_21 κ Q X 0) Q X d (some (ja j)) (nI n) _ (nI 2) h
    unfold wb_X1_makeready_21
    refine gs_GR P.1 rfl (gs_LN ef ⟨fun _ => ?_, fun z => absurd (nI_le (Nat.le_refl 2) (show 2 < 2 ^ 31 by decide)) z⟩)
    rw [Nat.add_assoc, ht]
    exact k
  unfold wp_X1_makeready
  refine gs_GR (x := pbV bd s) P.1 rfl (gs_GR e1 rfl ?_)
  have hb : pbV bd s = some (bd (bx (s (120 + j)))) ↔ s (120 + j) = s 9 := by
    unfold pbV
    by_cases h0 : s 9 = 0
    · rw [if_pos h0, h0]
      exact ⟨(fun e => nomatch e), fun e => by rcases ob with w | w | w <;> omega⟩
    · rw [if_neg h0]
      exact ⟨fun e => (B.inj (j9.resolve_left h0 |>.elim Or.inl (fun w => Or.inr w)) ob (Option.some.inj e)).symm, fun e => by rw [e]⟩
  refine ⟨fun z => main 0 ?_, fun z => main 15 ?_⟩
  · unfold readyM
    rw [if_pos (hb.mp z)]
    omega
  · unfold readyM
    rw [if_neg (fun w => z (hb.mpr w))]
    omega
theorem dk_makeready {x y : Int32} {Q : Int32 → gh_H → Prop} (P : DP κ bd ca ja la A T d s ev h) (B : BD bd h) (I : IV s) (J : IW s) (k1 : ∀ j n, j < s 2 → x = nI j → whole s j → y = nI n → n < cnt s j → Q (nI (readyM s j n)) h) (k3 : ∀ j, j < s 2 → x = nI j → whole s j → (y < 0 ∨ nI (cnt s j) ≤ y) → X "java/util/NoSuchElementException" h)
    (k2 : ∀ j, j < s 2 → x = nI j → ¬ whole s j → X "java/lang/IllegalStateException" h) (k0 : x < 0 ∨ nI (s 2) ≤ x → X "java/lang/IndexOutOfBoundsException" h) : wp_X1_makeready_2 κ d x y Q X h := by
  unfold wp_X1_makeready_2
  refine gs_RC P.1 (dk_jobWithSheet P B I (fun j n hj hx hw hy hn => gs_RC P.1 ?_) k3 k2 k0)
  rw [hy]
  exact dk_ready P B I J hj hw hn (k1 j n hj hx hw hy hn)
theorem dk_count {x : Int32} {Q : gh_H → Prop} (k1 : ∀ c, c < 500 → x = nI (c + 1) → Q h) (k0 : x < 1 ∨ nI 500 < x → X "java/lang/IllegalArgumentException" h) : wp_X1_requireCount κ x Q X h := by
  unfold wp_X1_requireCount wb_X1_requireCount_12
  have e500 : (500 : Int32) = nI 500 := rfl
  rcases ix_1 (x := x) (n := 500) (by decide) with (hx | ⟨hx, hx2⟩) | ⟨c, hc, hx, hx1, hx2⟩
  · exact ⟨fun _ => k0 (Or.inl hx), fun z => absurd hx z⟩
  · refine ⟨fun z => absurd z hx, fun _ => ⟨fun z => ?_, fun _ => k0 (Or.inr hx2)⟩⟩
    rw [e500] at z
    exact absurd hx2 (Int32.not_lt.mpr z)
  · refine ⟨fun z => absurd z hx1, fun _ => ⟨fun _ => k1 c hc hx, fun z => ?_⟩⟩
    rw [e500] at z
    exact absurd (Int32.not_lt.mp hx2) z
theorem dk_lacks {x y : Int32} {Q : Int32 → gh_H → Prop} (P : DP κ bd ca ja la A T d s ev h) (B : BD bd h) (I : IV s) (k1 : ∀ j c, j < s 2 → x = nI j → c < 500 → y = nI (c + 1) → whole s j → Q (nI (lkN s j (c + 1) (cnt s j))) h) (k3 : ∀ j c, j < s 2 → x = nI j → c < 500 → y = nI (c + 1) → ¬ whole s j → X "java/lang/IllegalStateException" h)
    (k2 : ∀ j, j < s 2 → x = nI j → (y < 1 ∨ nI 500 < y) → X "java/lang/IllegalArgumentException" h) (k0 : x < 0 ∨ nI (s 2) ≤ x → X "java/lang/IndexOutOfBoundsException" h) : wp_X1_lacks κ d x y Q X h := by
  unfold wp_X1_lacks
  refine gs_RC P.1 (dk_job P I (fun j hj hx => dk_count (fun c hc hy => ?_) (k2 j hj hx)) k0)
  have Jb := P.2.2.2.2.1 j hj
  obtain ⟨ag, ai, pa, e1, -⟩ := id Jb
  refine gs_RC e1 (jb_isComplete Jb B I hj (fun w => ?_) (fun w => ?_))
  · unfold wp_X1_requireState
    rw [hy]
    exact ⟨(fun z => by cases z), fun _ => gs_RC e1 (jb_lacks Jb B I hj w (by omega) (k1 j c hj hx hc hy w))⟩
  · unfold wp_X1_requireState
    exact ⟨fun _ => k3 j c hj hx hc hy w, fun z => absurd rfl z⟩
end
section
variable {κ : Nat → Nat} {m : Nat} {a s : Nat → Nat} {h : gh_H} {X : String → gh_H → Prop}
theorem mp_missing {j c : Nat} {Q : Int32 → gh_H → Prop} (P : MP m a s h) (I : IV s) (hj : j < 4) (hc : c ≤ 500) (k : Q (nI (lkN s j c (cnt s j))) h) : wp_X3_missing κ m (nI j) (nI c) Q X h := by
  have h8 := cnt8 I hj
  have key : ∀ (r i : Nat), i + r = cnt s j → wl_X3_missing_5 κ Q X (r + 1) m (nI j) (nI c) (nI (lkN s j c i)) (nI i) h := by
    intro r
    induction r with
    | zero =>
      intro i hi
      show wb_X3_missing_5 κ _ Q X m (nI j) (nI c) _ (nI i) h
      unfold wb_X3_missing_5
      rw [show cnt s j = i by omega] at k
      refine gs_RC P.1 (mp_count P I hj ⟨fun _ => k, fun z => absurd (nI_le (by omega) (n31 (by omega))) z⟩)
    | succ r ih =>
      intro i hi
      show wb_X3_missing_5 κ (wl_X3_missing_5 κ Q X (r + 1)) Q X m (nI j) (nI c) _ (nI i) h
      unfold wb_X3_missing_5 wb_X3_missing_50
      have hst := I.2.2.2.2.2.2.1 (8 * j + i) (by omega)
      have e8 : (8 : Int32) * nI j + nI i = nI (8 * j + i) := by rw [show (8 : Int32) * nI j = nI (8 * j) from pk_mul 8 j, nI_add]
      rw [e8]
      refine gs_RC P.1 (mp_count P I hj ⟨fun z => absurd z (nI_ge (by omega) (n31 (by omega))), fun _ => gs_GR P.1 rfl (mp_LI (k := 4) P (by decide) rfl (show _ < 32 by omega) ?_)⟩)
      show (nI c ≤ nI (s (300 + (8 * j + i))) → _) ∧ (¬ nI c ≤ nI (s (300 + (8 * j + i))) → _)
      have nx := ih (i + 1) (by omega)
      have ek : lkN s j c (i + 1) = lkN s j c i + (c - s (300 + (8 * j + i))) := rfl
      rw [ek] at nx
      refine ⟨fun z => ?_, fun z => gs_GR P.1 rfl (mp_LI (k := 4) P (by decide) rfl (show _ < 32 by omega) ?_)⟩
      · have hz := (nI_leI (n31 (by omega)) (n31 (by omega))).mp z
        rw [show c - s (300 + (8 * j + i)) = 0 by omega, Nat.add_zero] at nx
        rw [nI_1, show nI (lkN s j c i) + 0 = nI (lkN s j c i) from nI_add _ 0]
        exact nx
      · have hz : ¬ c ≤ s (300 + (8 * j + i)) := fun w => z ((nI_leI (n31 (by omega)) (n31 (by omega))).mpr w)
        have e2 : nI c - nI (s (mB 4 + (8 * j + i))) = nI (c - s (300 + (8 * j + i))) := pk_sub (show s (300 + (8 * j + i)) ≤ c by omega)
        rw [e2, nI_add, nI_1]
        exact nx
  unfold wp_X3_missing
  exact ⟨_, key _ 0 (Nat.zero_add _)⟩
theorem lkN0 {v j c : Nat} (hj : j < 4) : ∀ r, lkN (sU s 0 v) j c r = lkN s j c r
  | 0 => rfl
  | r + 1 => by
    show lkN (sU s 0 v) j c r + (c - sU s 0 v (300 + (8 * j + r))) = lkN s j c r + (c - s (300 + (8 * j + r)))
    rw [lkN0 hj r, sU_ne (by omega)]
theorem mp_lacks {x y : Int32} {Q : Int32 → gh_H → Prop} (P : MP m a s h) (I : IV s) (k1 : ∀ j c, j < s 2 → x = nI j → c < 500 → y = nI (c + 1) → whole s j → ∀ h', Only Mo h h' → MP m a (sU s 0 0) h' → Q (nI (lkN s j (c + 1) (cnt s j))) h') (k3 : ∀ j c, j < s 2 → x = nI j → c < 500 → y = nI (c + 1) → ¬ whole s j → ∀ h', Only Mo h h' → MP m a (sU s 0 3) h' → Q 0 h')
    (k2 : ∀ j, j < s 2 → x = nI j → (y < 1 ∨ nI 500 < y) → ∀ h', Only Mo h h' → MP m a (sU s 0 2) h' → Q 0 h') (k0 : x < 0 ∨ nI (s 2) ≤ x → ∀ h', Only Mo h h' → MP m a (sU s 0 1) h' → Q 0 h') : wp_X3_lacks κ m x y Q X h := by
  have h2 := I.2.1
  unfold wp_X3_lacks
  refine gs_GI P.1 rfl (mp_in (by omega) (fun j hj hx => ⟨(fun z => by cases z), fun _ => ?_⟩) (fun hx => ⟨fun _ => gs_RC P.1 (mp_fails (v := 1) P (k0 hx)), fun z => absurd rfl z⟩))
  refine mp_in1 (n := 500) (by decide) (fun c hc hy => ⟨(fun z => by cases z), fun _ => gs_RC P.1 ?_⟩) (fun hy => ⟨fun _ => gs_RC P.1 (mp_fails (v := 2) P (k2 j hj hx hy)), fun z => absurd rfl z⟩)
  rw [hx]
  refine mp_isWhole P I (by omega) (fun w => ⟨(fun z => by cases z), fun _ => ?_⟩) (fun w => ⟨fun _ => gs_RC P.1 (mp_fails (v := 3) P (k3 j c hj hx hc hy w)), fun z => absurd rfl z⟩)
  refine mp_PV (k := 0) (v := 0) P (by decide) (fun h3 o3 P3 => gs_RC P3.1 ?_)
  rw [hy]
  refine mp_missing P3 (IV0 I) (by omega) (by omega) ?_
  rw [lkN0 (by omega), sQ_cnt sQ0]
  exact k1 j c hj hx hc hy w h3 o3 P3
end
