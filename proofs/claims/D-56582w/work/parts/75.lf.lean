/-! PLAIN LAW, part LF: sheetOf, waste, lots -/
set_option maxRecDepth 100000
section
variable {κ : Nat → Nat} {m : Nat} {a s : Nat → Nat} {h : gh_H} {X : String → gh_H → Prop}
theorem mp_sheetOf {x y : Int32} {Q : Int32 → gh_H → Prop} (P : MP m a s h) (I : IV s) (k1 : ∀ j n, j < s 2 → x = nI j → whole s j → n < cnt s j → (∃ k, k < plc (s (120 + j)) ∧ nI (pgOn (s (120 + j)) (s (130 + j)) n k) = y) → (∀ n', n' < n → ∀ k, k < plc (s (120 + j)) → ¬ nI (pgOn (s (120 + j)) (s (130 + j)) n' k) = y) → ∀ h', Only Mo h h' → MP m a (sU s 0 0) h' → Q (nI n) h')
    (k3 : ∀ j, j < s 2 → x = nI j → whole s j → (∀ n', n' < cnt s j → ∀ k, k < plc (s (120 + j)) → ¬ nI (pgOn (s (120 + j)) (s (130 + j)) n' k) = y) → ∀ h', Only Mo h h' → MP m a (sU s 0 3) h' → Q 0 h')
    (k2 : ∀ j, j < s 2 → x = nI j → ¬ whole s j → ∀ h', Only Mo h h' → MP m a (sU s 0 2) h' → Q 0 h') (k0 : x < 0 ∨ nI (s 2) ≤ x → ∀ h', Only Mo h h' → MP m a (sU s 0 1) h' → Q 0 h') : wp_X3_sheetOf κ m x y Q X h := by
  have hs := I.2.1
  unfold wp_X3_sheetOf
  refine gs_RC P.1 (mp_isJob P I (fun j hj hx hw h1 o1 P1 => ⟨(fun z => by cases z), fun _ => ?_⟩) (fun j hj hx hw h1 o1 P1 => ⟨fun _ => k2 j hj hx hw h1 o1 P1, fun z => absurd rfl z⟩) (fun hx h1 o1 P1 => ⟨fun _ => k0 hx h1 o1 P1, fun z => absurd rfl z⟩))
  have h8 := cnt8 I (show j < 4 by omega)
  have h24 := plc_24 (s (120 + j))
  have I1 : IV (sU s 0 0) := IV0 I
  have hw1 : whole (sU s 0 0) j := (sQ_whole sQ0 j).mpr hw
  have hc1 : cnt (sU s 0 0) j = cnt s j := sQ_cnt sQ0 j
  rw [hx]
  have key : ∀ (r i : Nat), i + r = cnt s j → (∀ n', n' < i → ∀ k, k < plc (s (120 + j)) → ¬ nI (pgOn (s (120 + j)) (s (130 + j)) n' k) = y) → wl_X3_sheetOf_12 κ Q X (r + 1) m (nI j) y (nI i) h1 := by
    intro r
    induction r with
    | zero =>
      intro i hi hne
      show wb_X3_sheetOf_12 κ _ Q X m (nI j) y (nI i) h1
      unfold wb_X3_sheetOf_12
      refine gs_RC P1.1 (mp_count P1 I1 (by omega) ?_)
      rw [hc1]
      refine ⟨fun _ => gs_RC P1.1 (mp_fails (v := 3) P1 (fun h3 o3 P3 => ?_)), fun z => absurd (nI_le (by omega) (n31 (by omega))) z⟩
      rw [sU_idem] at P3
      exact k3 j hj hx hw (fun n' hn' => hne n' (by omega)) h3 (o1.trans o3) P3
    | succ r ih =>
      intro i hi hne
      show wb_X3_sheetOf_12 κ (wl_X3_sheetOf_12 κ Q X (r + 1)) Q X m (nI j) y (nI i) h1
      unfold wb_X3_sheetOf_12
      refine gs_RC P1.1 (mp_count P1 I1 (by omega) ?_)
      rw [hc1]
      refine ⟨fun z => absurd z (nI_ge (by omega) (n31 (by omega))), fun _ => ?_⟩
      have key2 : ∀ (r2 k : Nat), k + r2 = plc (s (120 + j)) → (∀ k', k' < k → ¬ nI (pgOn (s (120 + j)) (s (130 + j)) i k') = y) → wl_X3_sheetOf_24 κ (wl_X3_sheetOf_12 κ Q X (r + 1)) Q X (r2 + 1) m (nI j) y (nI i) (nI k) h1 := by
        intro r2
        induction r2 with
        | zero =>
          intro k hk hn2
          show wb_X3_sheetOf_24 κ _ _ Q X m (nI j) y (nI i) (nI k) h1
          unfold wb_X3_sheetOf_24
          refine gs_RC P1.1 (mp_places P1 I1 (by omega) ?_)
          rw [plc_0]
          refine ⟨fun _ => ?_, fun z => absurd (nI_le (by omega) (n31 (by omega))) z⟩
          rw [nI_1]
          refine ih (i + 1) (by omega) (fun n' hn' => ?_)
          rcases Nat.lt_or_ge n' i with w | w
          · exact hne n' w
          · rw [show n' = i by omega]
            exact fun k' hk' => hn2 k' (by omega)
        | succ r2 ih2 =>
          intro k hk hn2
          show wb_X3_sheetOf_24 κ _ (wl_X3_sheetOf_24 κ (wl_X3_sheetOf_12 κ Q X (r + 1)) Q X (r2 + 1)) Q X m (nI j) y (nI i) (nI k) h1
          unfold wb_X3_sheetOf_24
          refine gs_RC P1.1 (mp_places P1 I1 (by omega) ?_)
          rw [plc_0]
          refine ⟨fun z => absurd z (nI_ge (by omega) (n31 (by omega))), fun _ => gs_RC P1.1 (mp_pageOn P1 I1 (by omega) hw1 (by rw [hc1]; omega) (by rw [plc_0]; omega) ?_)⟩
          rw [pg_0]
          refine ⟨fun e => k1 j i hj hx hw (by omega) ⟨k, by omega, e⟩ hne h1 o1 P1, fun e => ?_⟩
          rw [nI_1]
          exact ih2 (k + 1) (by omega) (lt_or_at hn2 e)
      exact ⟨_, key2 _ 0 (Nat.zero_add _) (fun k' hk' => absurd hk' (Nat.not_lt_zero k'))⟩
  exact ⟨_, key _ 0 (Nat.zero_add _) (fun n' hn' => absurd hn' (Nat.not_lt_zero n'))⟩
end
