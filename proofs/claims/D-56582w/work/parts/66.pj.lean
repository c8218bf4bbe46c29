/-! PLAIN LAW, part J: the desk's calls that only look -/
set_option maxRecDepth 100000
section
variable {κ bd ca ja la A : Nat → Nat} {T : Nat → gh_H → Prop} {d : Nat} {s : Nat → Nat} {ev : List Nat} {h : gh_H} {X : String → gh_H → Prop}
theorem dk_pages {x : Int32} {Q : Int32 → gh_H → Prop} (P : DP κ bd ca ja la A T d s ev h) (I : IV s) (k1 : ∀ j, j < s 2 → x = nI j → Q (nI (s (130 + j))) h) (k0 : x < 0 ∨ nI (s 2) ≤ x → X "java/lang/IndexOutOfBoundsException" h) : wp_X1_pages κ d x Q X h := by
  unfold wp_X1_pages
  refine gs_RC P.1 (dk_job P I (fun j hj hx => ?_) k0)
  obtain ⟨ag, ai, pa, e1, ⟨mc, e2⟩, -⟩ := id (P.2.2.2.2.1 j hj)
  obtain ⟨al, hal, -⟩ := id e2
  refine gs_GR e1 rfl (gs_RC hal (ls_size e2.lr ?_))
  rw [jpg_len]
  exact k1 j hj hx
theorem dk_jobWithSheet {x y : Int32} {Q : Option Nat → gh_H → Prop} (P : DP κ bd ca ja la A T d s ev h) (B : BD bd h) (I : IV s) (k1 : ∀ j n, j < s 2 → x = nI j → whole s j → y = nI n → n < cnt s j → Q (some (ja j)) h) (k3 : ∀ j, j < s 2 → x = nI j → whole s j → (y < 0 ∨ nI (cnt s j) ≤ y) → X "java/util/NoSuchElementException" h)
    (k2 : ∀ j, j < s 2 → x = nI j → ¬ whole s j → X "java/lang/IllegalStateException" h) (k0 : x < 0 ∨ nI (s 2) ≤ x → X "java/lang/IndexOutOfBoundsException" h) : wp_X1_jobWithSheet κ d x y Q X h := by
  unfold wp_X1_jobWithSheet
  refine gs_RC P.1 (dk_completeJob P B I (fun j hj hx hw => ?_) k2 k0)
  have hs := I.2.1
  have h8 := cnt8 I (show j < 4 by omega)
  obtain ⟨ag, ai, pa, e1, -⟩ := id (P.2.2.2.2.1 j hj)
  have no : (y < 0 ∨ nI (cnt s j) ≤ y) → wb_X1_jobWithSheet_22 κ Q X (some (ja j)) h := fun z => by
    unfold wb_X1_jobWithSheet_22 wb_X1_jobWithSheet_23 wp_X1_requireElement
    exact ⟨fun _ => k3 j hj hx hw z, fun w => absurd rfl w⟩
  refine ⟨fun z => no (Or.inl z), fun z => gs_RC e1 (jb_sheets (P.2.2.2.2.1 j hj) B I hj ⟨fun w => no (Or.inr w), fun w => ?_⟩)⟩
  unfold wb_X1_jobWithSheet_23 wp_X1_requireElement
  rcases pk_ix y (n31 (show cnt s j ≤ 2000000 by omega)) with hy | hy | ⟨n, hn, hy⟩
  · exact absurd hy z
  · exact absurd hy w
  · exact ⟨(fun z => by cases z), fun _ => k1 j n hj hx hw hy hn⟩
theorem dk_pageAt {x y z : Int32} {Q : Int32 → gh_H → Prop} (P : DP κ bd ca ja la A T d s ev h) (B : BD bd h) (I : IV s) (k1 : ∀ j n k, j < s 2 → x = nI j → whole s j → y = nI n → n < cnt s j → z = nI k → k < plc (s (120 + j)) → Q (nI (pgOn (s (120 + j)) (s (130 + j)) n k)) h)
    (k4 : ∀ j n, j < s 2 → x = nI j → whole s j → y = nI n → n < cnt s j → (z < 0 ∨ nI (plc (s (120 + j))) ≤ z) → X "java/util/NoSuchElementException" h) (k3 : ∀ j, j < s 2 → x = nI j → whole s j → (y < 0 ∨ nI (cnt s j) ≤ y) → X "java/util/NoSuchElementException" h)
    (k2 : ∀ j, j < s 2 → x = nI j → ¬ whole s j → X "java/lang/IllegalStateException" h) (k0 : x < 0 ∨ nI (s 2) ≤ x → X "java/lang/IndexOutOfBoundsException" h) : wp_X1_pageAt κ d x y z Q X h := by
  unfold wp_X1_pageAt
  refine gs_RC P.1 (dk_jobWithSheet P B I (fun j n hj hx hw hy hn => ?_) k3 k2 k0)
  have h24 := plc_24 (s (120 + j))
  obtain ⟨ag, ai, pa, e1, -⟩ := id (P.2.2.2.2.1 j hj)
  have no : (z < 0 ∨ nI (plc (s (120 + j))) ≤ z) → wb_X1_pageAt_28 κ Q X y z (some (ja j)) h := fun w => by
    unfold wb_X1_pageAt_28 wb_X1_pageAt_29 wp_X1_requireElement
    exact ⟨fun _ => k4 j n hj hx hw hy hn w, fun w => absurd rfl w⟩
  refine ⟨fun w => no (Or.inl w), fun w => gs_GR e1 rfl (bd_places B (I.2.2.2.1 j hj) ⟨fun w2 => no (Or.inr w2), fun w2 => ?_⟩)⟩
  unfold wb_X1_pageAt_29 wp_X1_requireElement
  rcases pk_ix z (n31 (show plc (s (120 + j)) ≤ 2000000 by omega)) with hz | hz | ⟨k, hk, hz⟩
  · exact absurd hz w
  · exact absurd hz w2
  · refine ⟨(fun z => by cases z), fun _ => gs_RC e1 ?_⟩
    rw [hy, hz]
    exact jb_pageAt (P.2.2.2.2.1 j hj) B I hj hw hn hk (k1 j n k hj hx hw hy hn hz hk)
theorem dk_stock {x y : Int32} {Q : Int32 → gh_H → Prop} (P : DP κ bd ca ja la A T d s ev h) (B : BD bd h) (I : IV s) (k1 : ∀ j n, j < s 2 → x = nI j → whole s j → y = nI n → n < cnt s j → Q (nI (s (300 + (8 * j + n)))) h) (k3 : ∀ j, j < s 2 → x = nI j → whole s j → (y < 0 ∨ nI (cnt s j) ≤ y) → X "java/util/NoSuchElementException" h)
    (k2 : ∀ j, j < s 2 → x = nI j → ¬ whole s j → X "java/lang/IllegalStateException" h) (k0 : x < 0 ∨ nI (s 2) ≤ x → X "java/lang/IndexOutOfBoundsException" h) : wp_X1_stock κ d x y Q X h := by
  unfold wp_X1_stock
  refine gs_RC P.1 (dk_jobWithSheet P B I (fun j n hj hx hw hy hn => ?_) k3 k2 k0)
  have hs := I.2.1
  have h8 := cnt8 I (show j < 4 by omega)
  obtain ⟨ag, ai, pa, e1, e2, ⟨mc, e3⟩, e4⟩ := id (P.2.2.2.2.1 j hj)
  obtain ⟨al, hal, -⟩ := id e3
  refine gs_GR e1 rfl (gs_RC hal ?_)
  rw [hy]
  refine ls_get e3.lr (by rw [rg_len]; omega) ?_
  rw [rg_at]
  have e5 := e4 n (by omega)
  exact gs_CK e5 (by decide) (gs_RC e5 (pl_stock e5 (k1 j n hj hx hw hy hn)))
/-- what a job lacks for so many copies -/
def lkN (s : Nat → Nat) (j c : Nat) : Nat → Nat
  | 0 => 0
  | r + 1 => lkN s j c r + (c - s (300 + (8 * j + r)))
theorem lkN_le {s : Nat → Nat} {j c : Nat} : ∀ r, lkN s j c r ≤ r * c
  | 0 => Nat.zero_le _
  | r + 1 => by
    have := lkN_le (s := s) (j := j) (c := c) r
    have h2 : (r + 1) * c = r * c + c := Nat.succ_mul r c
    show lkN s j c r + (c - s (300 + (8 * j + r))) ≤ (r + 1) * c
    omega
theorem jb_lacks {pr j v c : Nat} {Q : Int32 → gh_H → Prop} (Jb : JP κ bd ca pr s j v h) (B : BD bd h) (I : IV s) (hj : j < s 2) (hw : whole s j) (hc : c ≤ 500) (k : Q (nI (lkN s j c (cnt s j))) h) : wp_X7_lacks κ v (nI c) Q X h := by
  have hs := I.2.1
  have h8 := cnt8 I (show j < 4 by omega)
  obtain ⟨ag, ai, pa, e1, e2, ⟨mc, e3⟩, e4⟩ := id Jb
  obtain ⟨al, hal, -⟩ := id e3
  have key : ∀ (r i : Nat), i + r = cnt s j → wl_X7_lacks_4 κ Q X (r + 1) v (nI c) (nI (lkN s j c i)) (nI i) h := by
    intro r
    induction r with
    | zero =>
      intro i hi
      show wb_X7_lacks_4 κ _ Q X v (nI c) _ (nI i) h
      unfold wb_X7_lacks_4
      rw [show cnt s j = i by omega] at k
      exact gs_RC e1 (jb_sheets Jb B I hj ⟨fun _ => k, fun z => absurd (nI_le (by omega) (n31 (by omega))) z⟩)
    | succ r ih =>
      intro i hi
      show wb_X7_lacks_4 κ (wl_X7_lacks_4 κ Q X (r + 1)) Q X v (nI c) _ (nI i) h
      unfold wb_X7_lacks_4
      have hst := I.2.2.2.2.2.2.1 (8 * j + i) (by omega)
      refine gs_RC e1 (jb_sheets Jb B I hj ⟨fun z => absurd z (nI_ge (by omega) (n31 (by omega))), fun _ => gs_GR e1 rfl (gs_RC hal (ls_get e3.lr (by rw [rg_len]; omega) ?_))⟩)
      rw [rg_at]
      have e5 := e4 i (by omega)
      refine gs_CK e5 (by decide) (gs_RC e5 (pl_stock e5 ?_))
      rw [mx0 (by omega) (by omega), nI_add, nI_1]
      exact ih (i + 1) (by omega)
  unfold wp_X7_lacks
  exact ⟨_, key _ 0 (Nat.zero_add _)⟩
/-- the first sheet with a page asked for, or the number of sheets -/
theorem dk_sheetOf {x y : Int32} {Q : Int32 → gh_H → Prop} (P : DP κ bd ca ja la A T d s ev h) (B : BD bd h) (I : IV s) (k1 : ∀ j n, j < s 2 → x = nI j → whole s j → n < cnt s j → (∃ k, k < plc (s (120 + j)) ∧ nI (pgOn (s (120 + j)) (s (130 + j)) n k) = y) → (∀ n', n' < n → ∀ k, k < plc (s (120 + j)) → ¬ nI (pgOn (s (120 + j)) (s (130 + j)) n' k) = y) → Q (nI n) h)
    (k3 : ∀ j, j < s 2 → x = nI j → whole s j → (∀ n', n' < cnt s j → ∀ k, k < plc (s (120 + j)) → ¬ nI (pgOn (s (120 + j)) (s (130 + j)) n' k) = y) → X "java/util/NoSuchElementException" h)
    (k2 : ∀ j, j < s 2 → x = nI j → ¬ whole s j → X "java/lang/IllegalStateException" h) (k0 : x < 0 ∨ nI (s 2) ≤ x → X "java/lang/IndexOutOfBoundsException" h) : wp_X1_sheetOf κ d x y Q X h := by
  unfold wp_X1_sheetOf
  refine gs_RC P.1 (dk_completeJob P B I (fun j hj hx hw => ?_) k2 k0)
  have hs := I.2.1
  have h8 := cnt8 I (show j < 4 by omega)
  have h24 := plc_24 (s (120 + j))
  have Jb := P.2.2.2.2.1 j hj
  obtain ⟨ag, ai, pa, e1, -⟩ := id Jb
  have key : ∀ (r i : Nat), i + r = cnt s j → (∀ n', n' < i → ∀ k, k < plc (s (120 + j)) → ¬ nI (pgOn (s (120 + j)) (s (130 + j)) n' k) = y) → wl_X1_sheetOf_9 κ Q X (r + 1) y (some (ja j)) (nI i) h := by
    intro r
    induction r with
    | zero =>
      intro i hi hne
      show wb_X1_sheetOf_9 κ _ Q X y (some (ja j)) (nI i) h
      unfold wb_X1_sheetOf_9
      exact gs_RC e1 (jb_sheets Jb B I hj ⟨fun _ => k3 j hj hx hw (fun n' hn' => hne n' (by omega)), fun z => absurd (nI_le (by omega) (n31 (by omega))) z⟩)
    | succ r ih =>
      intro i hi hne
      show wb_X1_sheetOf_9 κ (wl_X1_sheetOf_9 κ Q X (r + 1)) Q X y (some (ja j)) (nI i) h
      unfold wb_X1_sheetOf_9
      refine gs_RC e1 (jb_sheets Jb B I hj ⟨fun z => absurd z (nI_ge (by omega) (n31 (by omega))), fun _ => ?_⟩)
      have key2 : ∀ (r2 k : Nat), k + r2 = plc (s (120 + j)) → (∀ k', k' < k → ¬ nI (pgOn (s (120 + j)) (s (130 + j)) i k') = y) → wl_X1_sheetOf_21 κ (wl_X1_sheetOf_9 κ Q X (r + 1)) Q X (r2 + 1) y (some (ja j)) (nI i) (nI k) h := by
        intro r2
        induction r2 with
        | zero =>
          intro k hk hn2
          show wb_X1_sheetOf_21 κ _ _ Q X y (some (ja j)) (nI i) (nI k) h
          unfold wb_X1_sheetOf_21
          refine gs_GR e1 rfl (bd_places B (I.2.2.2.1 j hj) ⟨fun _ => ?_, fun z => absurd (nI_le (by omega) (n31 (by omega))) z⟩)
          rw [nI_1]
          refine ih (i + 1) (by omega) (fun n' hn' => ?_)
          rcases Nat.lt_or_ge n' i with w | w
          · exact hne n' w
          · rw [show n' = i by omega]
            exact fun k' hk' => hn2 k' (by omega)
        | succ r2 ih2 =>
          intro k hk hn2
          show wb_X1_sheetOf_21 κ _ (wl_X1_sheetOf_21 κ (wl_X1_sheetOf_9 κ Q X (r + 1)) Q X (r2 + 1)) Q X y (some (ja j)) (nI i) (nI k) h
          unfold wb_X1_sheetOf_21
          refine gs_GR e1 rfl (bd_places B (I.2.2.2.1 j hj) ⟨fun z => absurd z (nI_ge (by omega) (n31 (by omega))), fun _ => gs_RC e1 (jb_pageAt Jb B I hj hw (by omega) (by omega) ⟨fun e => ?_, fun e => ?_⟩)⟩)
          · exact k1 j i hj hx hw (by omega) ⟨k, by omega, e⟩ hne
          · rw [nI_1]
            exact ih2 (k + 1) (by omega) (lt_or_at hn2 e)
      exact ⟨_, key2 _ 0 (Nat.zero_add _) (fun k' hk' => absurd hk' (Nat.not_lt_zero k'))⟩
  exact ⟨_, key _ 0 (Nat.zero_add _) (fun n' hn' => absurd hn' (Nat.not_lt_zero n'))⟩
end
