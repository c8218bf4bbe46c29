/-! PLAIN LAW, part K: the model's calls that only look -/
set_option maxRecDepth 100000
theorem sQ0 {s : Nat → Nat} {v : Nat} : sQ s (sU s 0 v) := sQ.low (by decide)
theorem IV0 {s : Nat → Nat} {v : Nat} (I : IV s) : IV (sU s 0 v) := IV_low I (by decide) (by decide)
theorem sU_idem {s : Nat → Nat} {k v w : Nat} : sU (sU s k v) k w = sU s k w := by
  funext i
  unfold sU
  split <;> rfl
theorem IW0 {s : Nat → Nat} {v : Nat} (J : IW s) : IW (sU s 0 v) := by
  unfold IW
  have q : sQ s (sU s 0 v) := sQ0
  have e : ∀ i, i ≠ 0 → sU s 0 v i = s i := fun i hi => sU_ne hi
  rw [e 2 (by decide), e 3 (by decide), e 4 (by decide), e 5 (by decide), e 6 (by decide), e 7 (by decide), e 8 (by decide), e 9 (by decide)]
  refine ⟨J.1, J.2.1, fun k hk => ?_, J.2.2.2.1, J.2.2.2.2.1, J.2.2.2.2.2.1, J.2.2.2.2.2.2.1, J.2.2.2.2.2.2.2.1, fun l hl => ?_⟩
  · rw [q _ (by omega)]
    exact J.2.2.1 k hk
  · have := J.2.2.2.2.2.2.2.2 l hl
    rw [q (500 + l) (by omega), q (600 + l) (by omega), q (700 + l) (by omega), q (130 + s (500 + l)) (by omega)]
    exact ⟨this.1, this.2.1, this.2.2.1, this.2.2.2.1, fun k hk => by rw [q _ (by omega)]; exact this.2.2.2.2 k hk⟩
section
variable {κ : Nat → Nat} {m : Nat} {a s : Nat → Nat} {h : gh_H} {X : String → gh_H → Prop}
theorem mp_approve {x : Int32} {Q : Int32 → gh_H → Prop} (P : MP m a s h) (I : IV s) (k1 : ∀ c, c < s 1 → x = nI c → ∀ h', Only Mo h h' → MP m a (sU (sU s 0 0) (340 + c) 1) h' → Q (nI (s (340 + c))) h') (k0 : x < 0 ∨ nI (s 1) ≤ x → ∀ h', Only Mo h h' → MP m a (sU s 0 1) h' → Q 0 h') : wp_X3_approve κ m x Q X h := by
  have h1 := I.1
  unfold wp_X3_approve
  refine gs_RC P.1 (mp_isContent P I (fun c hc hx h1 o1 P1 => ⟨(fun z => by cases z), fun _ => ?_⟩) (fun hx h1 o1 P1 => ⟨fun _ => ⟨nb0, k0 hx h1 o1 P1⟩, fun z => absurd rfl z⟩))
  rw [hx]
  have hap := (I.2.2.2.2.2.1 c (by omega)).2
  have e0 : sU s 0 0 (340 + c) = s (340 + c) := sU_ne (by omega)
  refine gs_GR P1.1 rfl (mp_LZ P1 (by omega) (gs_GR P1.1 rfl (mp_SZ (v := 1) P1 (by omega) (by decide) (fun h2 o2 P2 => ?_))))
  rw [e0]
  refine ⟨?_, k1 c hc hx h2 (o1.trans o2) P2⟩
  rcases (show s (340 + c) = 0 ∨ s (340 + c) = 1 by omega) with e | e <;> rw [e] <;> rfl
theorem mp_state {x : Int32} {Q : Int32 → gh_H → Prop} (P : MP m a s h) (I : IV s) (k1 : ∀ c, c < s 1 → x = nI c → ∀ h', Only Mo h h' → MP m a (sU s 0 0) h' → Q (nI (s (100 + c))) h') (k0 : x < 0 ∨ nI (s 1) ≤ x → ∀ h', Only Mo h h' → MP m a (sU s 0 1) h' → Q 0 h') : wp_X3_state κ m x Q X h := by
  have h1 := I.1
  unfold wp_X3_state wb_X3_state_18
  refine gs_RC P.1 (mp_isContent P I (fun c hc hx h1 o1 P1 => ⟨(fun z => by cases z), fun _ => ?_⟩) (fun hx h1 o1 P1 => ⟨fun _ => k0 hx h1 o1 P1, fun z => absurd rfl z⟩))
  rw [hx]
  refine gs_GR P1.1 rfl (mp_LI (k := 0) P1 (by decide) rfl (show c < 12 by omega) ?_)
  have e0 : sU s 0 0 (mB 0 + c) = s (100 + c) := sU_ne (by show 100 + c ≠ 0; omega)
  rw [e0]
  exact k1 c hc hx h1 o1 P1
theorem mp_pages {x : Int32} {Q : Int32 → gh_H → Prop} (P : MP m a s h) (I : IV s) (k1 : ∀ j, j < s 2 → x = nI j → ∀ h', Only Mo h h' → MP m a (sU s 0 0) h' → Q (nI (s (130 + j))) h') (k0 : x < 0 ∨ nI (s 2) ≤ x → ∀ h', Only Mo h h' → MP m a (sU s 0 1) h' → Q 0 h') : wp_X3_pages κ m x Q X h := by
  have h1 := I.2.1
  unfold wp_X3_pages
  refine gs_GI P.1 rfl (mp_in (by omega) (fun j hj hx => ⟨(fun z => by cases z), fun _ => ?_⟩) (fun hx => ⟨fun _ => gs_RC P.1 (mp_fails (v := 1) P (k0 hx)), fun z => absurd rfl z⟩))
  refine mp_PV (k := 0) (v := 0) P (by decide) (fun h2 o2 P2 => gs_GR P2.1 rfl ?_)
  rw [hx]
  refine mp_LI (k := 2) P2 (by decide) rfl (show j < 4 by omega) ?_
  have e0 : sU s 0 0 (mB 2 + j) = s (130 + j) := sU_ne (by show 130 + j ≠ 0; omega)
  rw [e0]
  exact k1 j hj hx h2 o2 P2
theorem mp_sheets {x : Int32} {Q : Int32 → gh_H → Prop} (P : MP m a s h) (I : IV s) (k1 : ∀ j, j < s 2 → x = nI j → whole s j → ∀ h', Only Mo h h' → MP m a (sU s 0 0) h' → Q (nI (cnt s j)) h') (k2 : ∀ j, j < s 2 → x = nI j → ¬ whole s j → ∀ h', Only Mo h h' → MP m a (sU s 0 2) h' → Q 0 h') (k0 : x < 0 ∨ nI (s 2) ≤ x → ∀ h', Only Mo h h' → MP m a (sU s 0 1) h' → Q 0 h') : wp_X3_sheets κ m x Q X h := by
  have h2 := I.2.1
  unfold wp_X3_sheets wb_X3_sheets_17
  refine gs_RC P.1 (mp_isJob P I (fun j hj hx hw h1 o1 P1 => ⟨(fun z => by cases z), fun _ => gs_RC P1.1 ?_⟩) (fun j hj hx hw h1 o1 P1 => ⟨fun _ => k2 j hj hx hw h1 o1 P1, fun z => absurd rfl z⟩) (fun hx h1 o1 P1 => ⟨fun _ => k0 hx h1 o1 P1, fun z => absurd rfl z⟩))
  rw [hx]
  refine mp_count P1 (IV0 I) (by omega) ?_
  rw [sQ_cnt sQ0]
  exact k1 j hj hx hw h1 o1 P1
theorem pg_0 {s : Nat → Nat} {v j n k : Nat} : pgOn (sU s 0 v (120 + j)) (sU s 0 v (130 + j)) n k = pgOn (s (120 + j)) (s (130 + j)) n k := by
  rw [sU_ne (by omega), sU_ne (by omega)]
theorem plc_0 {s : Nat → Nat} {v j : Nat} : plc (sU s 0 v (120 + j)) = plc (s (120 + j)) := by
  rw [sU_ne (by omega)]
theorem mp_pageAt {x y z : Int32} {Q : Int32 → gh_H → Prop} (P : MP m a s h) (I : IV s) (k1 : ∀ j n k, j < s 2 → x = nI j → whole s j → y = nI n → n < cnt s j → z = nI k → k < plc (s (120 + j)) → ∀ h', Only Mo h h' → MP m a (sU s 0 0) h' → Q (nI (pgOn (s (120 + j)) (s (130 + j)) n k)) h')
    (k4 : ∀ j n, j < s 2 → x = nI j → whole s j → y = nI n → n < cnt s j → (z < 0 ∨ nI (plc (s (120 + j))) ≤ z) → ∀ h', Only Mo h h' → MP m a (sU s 0 3) h' → Q 0 h') (k3 : ∀ j, j < s 2 → x = nI j → whole s j → (y < 0 ∨ nI (cnt s j) ≤ y) → ∀ h', Only Mo h h' → MP m a (sU s 0 3) h' → Q 0 h')
    (k2 : ∀ j, j < s 2 → x = nI j → ¬ whole s j → ∀ h', Only Mo h h' → MP m a (sU s 0 2) h' → Q 0 h') (k0 : x < 0 ∨ nI (s 2) ≤ x → ∀ h', Only Mo h h' → MP m a (sU s 0 1) h' → Q 0 h') : wp_X3_pageAt κ m x y z Q X h := by
  have h2 := I.2.1
  unfold wp_X3_pageAt wb_X3_pageAt_41
  refine gs_RC P.1 (mp_isSheet P I (fun j n hj hx hw hy hn h1 o1 P1 => ⟨(fun z => by cases z), fun _ => gs_RC P1.1 ?_⟩) (fun j hj hx hw hy h1 o1 P1 => ⟨fun _ => k3 j hj hx hw hy h1 o1 P1, fun z => absurd rfl z⟩) (fun j hj hx hw h1 o1 P1 => ⟨fun _ => k2 j hj hx hw h1 o1 P1, fun z => absurd rfl z⟩) (fun hx h1 o1 P1 => ⟨fun _ => k0 hx h1 o1 P1, fun z => absurd rfl z⟩))
  have h24 := plc_24 (s (120 + j))
  rw [hx, hy]
  refine mp_places P1 (IV0 I) (by omega) ?_
  rw [plc_0]
  refine mp_in (by omega) (fun k hk hz => ⟨(fun z => by cases z), fun _ => gs_RC P1.1 ?_⟩) (fun hz => ⟨fun _ => gs_RC P1.1 (mp_fails (v := 3) P1 (fun h3 o3 P3 => ?_)), fun z => absurd rfl z⟩)
  · rw [hz]
    refine mp_pageOn P1 (IV0 I) (by omega) ((sQ_whole sQ0 j).mpr hw) (by rw [sQ_cnt sQ0]; exact hn) (by rw [plc_0]; exact hk) ?_
    rw [pg_0]
    exact k1 j n k hj hx hw hy hn hz hk h1 o1 P1
  · rw [sU_idem] at P3
    exact k4 j n hj hx hw hy hn hz h3 (o1.trans o3) P3
theorem mp_stock {x y : Int32} {Q : Int32 → gh_H → Prop} (P : MP m a s h) (I : IV s) (k1 : ∀ j n, j < s 2 → x = nI j → whole s j → y = nI n → n < cnt s j → ∀ h', Only Mo h h' → MP m a (sU s 0 0) h' → Q (nI (s (300 + (8 * j + n)))) h') (k3 : ∀ j, j < s 2 → x = nI j → whole s j → (y < 0 ∨ nI (cnt s j) ≤ y) → ∀ h', Only Mo h h' → MP m a (sU s 0 3) h' → Q 0 h')
    (k2 : ∀ j, j < s 2 → x = nI j → ¬ whole s j → ∀ h', Only Mo h h' → MP m a (sU s 0 2) h' → Q 0 h') (k0 : x < 0 ∨ nI (s 2) ≤ x → ∀ h', Only Mo h h' → MP m a (sU s 0 1) h' → Q 0 h') : wp_X3_stock κ m x y Q X h := by
  have h2 := I.2.1
  unfold wp_X3_stock wb_X3_stock_24
  refine gs_RC P.1 (mp_isSheet P I (fun j n hj hx hw hy hn h1 o1 P1 => ⟨(fun z => by cases z), fun _ => ?_⟩) (fun j hj hx hw hy h1 o1 P1 => ⟨fun _ => k3 j hj hx hw hy h1 o1 P1, fun z => absurd rfl z⟩) (fun j hj hx hw h1 o1 P1 => ⟨fun _ => k2 j hj hx hw h1 o1 P1, fun z => absurd rfl z⟩) (fun hx h1 o1 P1 => ⟨fun _ => k0 hx h1 o1 P1, fun z => absurd rfl z⟩))
  have h8 := cnt8 I (show j < 4 by omega)
  rw [hx, hy, show (8 : Int32) * nI j = nI (8 * j) from pk_mul 8 j, nI_add]
  refine gs_GR P1.1 rfl (mp_LI (k := 4) P1 (by decide) rfl (show _ < 32 by omega) ?_)
  have e0 : sU s 0 0 (mB 4 + (8 * j + n)) = s (300 + (8 * j + n)) := sU_ne (by show 300 + _ ≠ 0; omega)
  rw [e0]
  exact k1 j n hj hx hw hy hn h1 o1 P1
theorem mp_makeready {x y : Int32} {Q : Int32 → gh_H → Prop} (P : MP m a s h) (I : IV s) (J : IW s) (k1 : ∀ j n, j < s 2 → x = nI j → whole s j → y = nI n → n < cnt s j → ∀ h', Only Mo h h' → MP m a (sU s 0 0) h' → Q (nI (readyM s j n)) h') (k3 : ∀ j, j < s 2 → x = nI j → whole s j → (y < 0 ∨ nI (cnt s j) ≤ y) → ∀ h', Only Mo h h' → MP m a (sU s 0 3) h' → Q 0 h')
    (k2 : ∀ j, j < s 2 → x = nI j → ¬ whole s j → ∀ h', Only Mo h h' → MP m a (sU s 0 2) h' → Q 0 h') (k0 : x < 0 ∨ nI (s 2) ≤ x → ∀ h', Only Mo h h' → MP m a (sU s 0 1) h' → Q 0 h') : wp_X3_makeready κ m x y Q X h := by
  have h2 := I.2.1
  unfold wp_X3_makeready wb_X3_makeready_19
  refine gs_RC P.1 (mp_isSheet P I (fun j n hj hx hw hy hn h1 o1 P1 => ⟨(fun z => by cases z), fun _ => gs_RC P1.1 ?_⟩) (fun j hj hx hw hy h1 o1 P1 => ⟨fun _ => k3 j hj hx hw hy h1 o1 P1, fun z => absurd rfl z⟩) (fun j hj hx hw h1 o1 P1 => ⟨fun _ => k2 j hj hx hw h1 o1 P1, fun z => absurd rfl z⟩) (fun hx h1 o1 P1 => ⟨fun _ => k0 hx h1 o1 P1, fun z => absurd rfl z⟩))
  rw [hx, hy]
  refine mp_ready P1 (IV0 I) (IW0 J) (by omega) ((sQ_whole sQ0 j).mpr hw) (by rw [sQ_cnt sQ0]; exact hn) ?_
  have e : readyM (sU s 0 0) j n = readyM s j n := by
    unfold readyM
    rw [sQ_dPl sQ0, sQ_dPl sQ0, sU_ne (show 7 ≠ 0 by decide), sU_ne (show 8 ≠ 0 by decide), sU_ne (show 9 ≠ 0 by decide), sU_ne (show 120 + j ≠ 0 by omega)]
  rw [e]
  exact k1 j n hj hx hw hy hn h1 o1 P1
end
