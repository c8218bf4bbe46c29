/-! PLAIN LAW, part O: the model's answers about pages, contents, jobs -/
set_option maxRecDepth 100000
/-- whether a sheet shows a content -/
def shown (s : Nat → Nat) (j n c : Nat) : Prop := ∃ k, k < plc (s (120 + j)) ∧ cOn s j n k = c
theorem n31 {n : Nat} (h : n ≤ 2000000) : n < 2 ^ 31 := Nat.lt_of_le_of_lt h (by decide)
theorem pg16 {s : Nat → Nat} {j n k : Nat} (I : IV s) (hj : j < 4) (hw : whole s j) (hn : n < cnt s j) (hk : k < plc (s (120 + j))) : 1 ≤ pgOn (s (120 + j)) (s (130 + j)) n k ∧ pgOn (s (120 + j)) (s (130 + j)) n k ≤ s (130 + j) ∧ s (130 + j) ≤ 16 := by
  have h := pgOn_in hw.1 hw.2 hn hk
  exact ⟨h.1, h.2, (I.2.2.1 j hj).2⟩
theorem cnt8 {s : Nat → Nat} {j : Nat} (I : IV s) (hj : j < 4) : cnt s j ≤ 8 := by
  have h := (I.2.2.1 j hj).2
  have := plc_24 (s (120 + j))
  unfold cnt
  rcases this with e | e <;> rw [e] <;> omega
theorem cOn12 {s : Nat → Nat} {j n k : Nat} (I : IV s) (hj : j < 4) (hw : whole s j) (hn : n < cnt s j) (hk : k < plc (s (120 + j))) : cOn s j n k < s 1 := by
  have h := pg16 I hj hw hn hk
  unfold cOn
  have := I.2.2.2.2.1 j (pgOn (s (120 + j)) (s (130 + j)) n k - 1) hj (by omega)
  rw [show 16 * j + pgOn (s (120 + j)) (s (130 + j)) n k - 1 = 16 * j + (pgOn (s (120 + j)) (s (130 + j)) n k - 1) by omega]
  exact this
section
variable {κ : Nat → Nat} {m : Nat} {a s : Nat → Nat} {h : gh_H} {X : String → gh_H → Prop}
theorem mp_pageOn {j n k : Nat} {Q : Int32 → gh_H → Prop} (P : MP m a s h) (I : IV s) (hj : j < 4) (hw : whole s j) (hn : n < cnt s j) (hk : k < plc (s (120 + j))) (kk : Q (nI (pgOn (s (120 + j)) (s (130 + j)) n k)) h) : wp_X3_pageOn κ m (nI j) (nI n) (nI k) Q X h := by
  have hb := (I.2.2.1 j hj).1
  have hp := (I.2.2.1 j hj).2
  have hc := cnt8 I hj
  have hk4 : k < 4 := by
    have := plc_24 (s (120 + j))
    omega
  have e2 : (2 : Int32) * nI n = nI (2 * n) := pk_mul 2 n
  have e4 : (4 : Int32) * nI n = nI (4 * n) := pk_mul 4 n
  unfold wp_X3_pageOn wb_X3_pageOn_103 wb_X3_pageOn_47
  rw [e2, e4]
  refine gs_GR P.1 rfl (mp_LI (k := 1) P (by decide) rfl hj ⟨fun z => ?_, fun z => ?_⟩)
  · have e : s (120 + j) = 119 := (nI_eq (b := 119) (n31 (by omega)) (by decide)).mp z
    unfold pgOn at kk
    rw [if_pos e] at kk
    rw [nI_1, nI_add]
    exact kk
  · have e : ¬ s (120 + j) = 119 := fun w => z (congrArg nI w)
    unfold pgOn at kk
    rw [if_neg e] at kk
    refine gs_GR P.1 rfl (mp_LI (k := 1) P (by decide) rfl hj ⟨fun z2 => ?_, fun z2 => ?_⟩)
    · have e2 : s (120 + j) = 112 := (nI_eq (b := 112) (n31 (by omega)) (by decide)).mp z2
      rw [if_pos e2] at kk
      refine ⟨fun y => ?_, fun y => ?_⟩
      · have e0 : k = 0 := (nI_eq (b := 0) (n31 (by omega)) (by decide)).mp y
        rw [if_pos e0] at kk
        rw [show (4 : Int32) = nI 4 from rfl, nI_add]
        exact kk
      · rw [if_neg (fun w => y (congrArg nI w))] at kk
        rw [nI_add]
        exact kk
    · have e2 : ¬ s (120 + j) = 112 := fun w => z2 (congrArg nI w)
      rw [if_neg e2] at kk
      have h4 : plc (s (120 + j)) = 4 := if_neg e
      have hw2 := hw.2
      unfold cnt at hn
      rw [h4] at hw2 hn
      refine gs_GR P.1 rfl (mp_LI (k := 2) P (by decide) rfl hj ?_)
      have es : nI (s (130 + j)) - nI (2 * n) = nI (s (130 + j) - 2 * n) := pk_sub (by omega)
      refine ⟨fun y => ?_, fun y => ⟨fun y1 => ?_, fun y1 => ⟨fun y2 => ?_, fun y2 => ?_⟩⟩⟩
      · have e0 : k = 0 := (nI_eq (b := 0) (n31 (by omega)) (by decide)).mp y
        rw [if_pos e0] at kk
        exact es ▸ kk
      · have e0 : k = 1 := (nI_eq (b := 1) (n31 (by omega)) (by decide)).mp y1
        rw [if_neg (fun w => y (congrArg nI w)), if_pos e0] at kk
        rw [nI_1]
        exact kk
      · have e0 : k = 2 := (nI_eq (b := 2) (n31 (by omega)) (by decide)).mp y2
        rw [if_neg (fun w => y (congrArg nI w)), if_neg (fun w => y1 (congrArg nI w)), if_pos e0] at kk
        rw [show (2 : Int32) = nI 2 from rfl, nI_add]
        exact kk
      · rw [if_neg (fun w => y (congrArg nI w)), if_neg (fun w => y1 (congrArg nI w)), if_neg (fun w => y2 (congrArg nI w))] at kk
        have e1 : nI (s (130 + j) - 2 * n) - 1 = nI (s (130 + j) - 2 * n - 1) := pk_sub (a := s (130 + j) - 2 * n) (b := 1) (by omega)
        rw [← e1, ← es] at kk
        exact kk
theorem mp_contentOn {j n k : Nat} {Q : Int32 → gh_H → Prop} (P : MP m a s h) (I : IV s) (hj : j < 4) (hw : whole s j) (hn : n < cnt s j) (hk : k < plc (s (120 + j))) (kk : Q (nI (cOn s j n k)) h) : wp_X3_contentOn κ m (nI j) (nI n) (nI k) Q X h := by
  have hg := pg16 I hj hw hn hk
  unfold wp_X3_contentOn
  refine gs_GR P.1 rfl (gs_RC P.1 (mp_pageOn P I hj hw hn hk ?_))
  have e : (((16 : Int32) * nI j) + nI (pgOn (s (120 + j)) (s (130 + j)) n k)) - 1 = nI (16 * j + pgOn (s (120 + j)) (s (130 + j)) n k - 1) := by
    rw [show (16 : Int32) * nI j = nI (16 * j) from pk_mul 16 j, nI_add]
    exact pk_sub (b := 1) (by omega)
  rw [e]
  exact mp_LI (k := 3) P (by decide) rfl (show _ < 64 by omega) kk
theorem lt_or_at {p : Nat → Prop} {i : Nat} (h : ∀ k, k < i → p k) (hi : p i) : ∀ k, k < i + 1 → p k := fun k hk => by
  rcases Nat.lt_or_ge k i with w | w
  · exact h k w
  · rw [show k = i by omega]
    exact hi
theorem mp_isShown {j n c : Nat} {Q : Int32 → gh_H → Prop} (P : MP m a s h) (I : IV s) (hj : j < 4) (hw : whole s j) (hn : n < cnt s j) (hc : c < 12) (k1 : shown s j n c → Q 1 h) (k0 : ¬ shown s j n c → Q 0 h) : wp_X3_isShown κ m (nI j) (nI n) (nI c) Q X h := by
  have h24 := plc_24 (s (120 + j))
  have key : ∀ (r i : Nat), i + r = plc (s (120 + j)) → (∀ k, k < i → ¬ cOn s j n k = c) → wl_X3_isShown_3 κ Q X (r + 1) m (nI j) (nI n) (nI c) (nI i) h := by
    intro r
    induction r with
    | zero =>
      intro i hi hne
      show wb_X3_isShown_3 κ _ Q X m (nI j) (nI n) (nI c) (nI i) h
      unfold wb_X3_isShown_3
      exact gs_RC P.1 (mp_places P I hj ⟨fun _ => ⟨nb0, k0 (fun ⟨k, hk, e⟩ => hne k (by omega) e)⟩, fun z => absurd (nI_le (by omega) (n31 (by omega))) z⟩)
    | succ r ih =>
      intro i hi hne
      show wb_X3_isShown_3 κ (wl_X3_isShown_3 κ Q X (r + 1)) Q X m (nI j) (nI n) (nI c) (nI i) h
      unfold wb_X3_isShown_3
      refine gs_RC P.1 (mp_places P I hj ⟨fun z => absurd z (nI_ge (by omega) (n31 (by omega))), fun _ => gs_RC P.1 (mp_contentOn P I hj hw hn (by omega) ⟨fun e => ⟨nb1, k1 ⟨i, by omega, ?_⟩⟩, fun e => ?_⟩)⟩)
      · have := cOn12 I hj hw hn (k := i) (by omega)
        have := I.1
        exact (nI_eq (n31 (by omega)) (n31 (by omega))).mp e
      · rw [nI_1]
        exact ih (i + 1) (by omega) (lt_or_at hne (fun w => e (congrArg nI w)))
  unfold wp_X3_isShown
  exact ⟨_, key _ 0 (Nat.zero_add _) (fun k hk => absurd hk (Nat.not_lt_zero k))⟩
theorem mp_voids {j n : Nat} {Q : Int32 → gh_H → Prop} (P : MP m a s h) (I : IV s) (hj : j < 4) (hn : n < 8) (kk : ∀ h', Only Mo h h' → MP m a (sU (sU s (300 + (8 * j + n)) 0) 10 (s 10 + s (300 + (8 * j + n)))) h' → Q (nI (s (300 + (8 * j + n)))) h') : wp_X3_voids κ m (nI j) (nI n) Q X h := by
  have e : (8 : Int32) * nI j + nI n = nI (8 * j + n) := by
    rw [show (8 : Int32) * nI j = nI (8 * j) from pk_mul 8 j, nI_add]
  have hs := I.2.2.2.2.2.2.1 (8 * j + n) (by omega)
  have hb := I.2.2.2.2.2.2.2.1
  unfold wp_X3_voids
  rw [e]
  refine gs_GR P.1 rfl (mp_LI (k := 4) P (by decide) rfl (show _ < 32 by omega) (gs_GR P.1 rfl (mp_SI (k := 4) (v := 0) P (by decide) rfl (show _ < 32 by omega) (fun h1 o1 P1 => gs_GJ P1.1 rfl ?_))))
  have e2 : lN (sU s (mB 4 + (8 * j + n)) 0 10) + (nI (s (mB 4 + (8 * j + n)))).toInt64 = lN (s 10 + s (300 + (8 * j + n))) := by
    rw [sU_ne (by show 10 ≠ 300 + _; omega)]
    show lN (s 10) + (nI (s (300 + (8 * j + n)))).toInt64 = _
    rw [nI_l (show s (300 + (8 * j + n)) < 2 ^ 31 by omega)]
    exact lN_add _ _
  rw [e2]
  exact mp_PVJ P1 (Or.inl rfl) (fun h2 o2 P2 => kk h2 (o1.trans o2) P2)
/-- the number's test sets thrown -/
theorem mp_isContent {x : Int32} {Q : Int32 → gh_H → Prop} (P : MP m a s h) (I : IV s) (k1 : ∀ c, c < s 1 → x = nI c → ∀ h', Only Mo h h' → MP m a (sU s 0 0) h' → Q 1 h') (k0 : x < 0 ∨ nI (s 1) ≤ x → ∀ h', Only Mo h h' → MP m a (sU s 0 1) h' → Q 0 h') : wp_X3_isContent κ m x Q X h := by
  have h1 := I.1
  unfold wp_X3_isContent wb_X3_isContent_20 wb_X3_isContent_35
  refine gs_GI P.1 rfl (mp_in (by omega) (fun c hc hx => ⟨(fun z => by cases z), fun _ => ?_⟩) (fun hx => ⟨fun _ => ?_, fun z => absurd rfl z⟩))
  · exact mp_PV (k := 0) (v := 0) P (by decide) (fun h2 o2 P2 => gs_GI P2.1 rfl ⟨fun _ => ⟨nb1, k1 c hc hx h2 o2 P2⟩, fun z => absurd rfl z⟩)
  · exact mp_PV (k := 0) (v := 1) P (by decide) (fun h2 o2 P2 => gs_GI P2.1 rfl ⟨fun z => absurd z (by rw [sU_self]; decide), fun _ => ⟨nb0, k0 hx h2 o2 P2⟩⟩)
theorem mp_isJob {x : Int32} {Q : Int32 → gh_H → Prop} (P : MP m a s h) (I : IV s) (k1 : ∀ j, j < s 2 → x = nI j → whole s j → ∀ h', Only Mo h h' → MP m a (sU s 0 0) h' → Q 1 h') (k2 : ∀ j, j < s 2 → x = nI j → ¬ whole s j → ∀ h', Only Mo h h' → MP m a (sU s 0 2) h' → Q 0 h') (k0 : x < 0 ∨ nI (s 2) ≤ x → ∀ h', Only Mo h h' → MP m a (sU s 0 1) h' → Q 0 h') : wp_X3_isJob κ m x Q X h := by
  have h1 := I.2.1
  unfold wp_X3_isJob wb_X3_isJob_32 wb_X3_isJob_47
  refine gs_GI P.1 rfl (mp_in (by omega) (fun c hc hx => ⟨(fun z => by cases z), fun _ => gs_RC P.1 ?_⟩) (fun hx => ⟨fun _ => ?_, fun z => absurd rfl z⟩))
  · rw [hx]
    refine mp_isWhole P I (by omega) (fun w => ⟨(fun z => by cases z), fun _ => ?_⟩) (fun w => ⟨fun _ => ?_, fun z => absurd rfl z⟩)
    · exact mp_PV (k := 0) (v := 0) P (by decide) (fun h2 o2 P2 => gs_GI P2.1 rfl ⟨fun _ => ⟨nb1, k1 c hc hx w h2 o2 P2⟩, fun z => absurd rfl z⟩)
    · exact mp_PV (k := 0) (v := 2) P (by decide) (fun h2 o2 P2 => gs_GI P2.1 rfl ⟨fun z => absurd z (by rw [sU_self]; decide), fun _ => ⟨nb0, k2 c hc hx w h2 o2 P2⟩⟩)
  · exact mp_PV (k := 0) (v := 1) P (by decide) (fun h2 o2 P2 => gs_GI P2.1 rfl ⟨fun z => absurd z (by rw [sU_self]; decide), fun _ => ⟨nb0, k0 hx h2 o2 P2⟩⟩)
end
