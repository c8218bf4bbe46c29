/-! PLAIN LAW, part H: what the desk's picture depends on -/
set_option maxRecDepth 100000
/-- the log and the state: what holds all through -/
def IE (s : Nat → Nat) (ev : List Nat) : Prop := (∀ x ∈ ev, (x % 2 = 0 → x / 2 < s 1) ∧ (x % 2 = 1 → x / 2 < s 3)) ∧ (∀ c, c < s 1 → s (100 + c) = ev.count (2 * c)) ∧ (∀ k, k < s 3 → ∃ pre suf : List Nat, ev = pre ++ (2 * k + 1) :: suf ∧ (2 * k + 1) ∉ pre ∧ ∀ i, i < s (700 + k) → s (6000 + (16 * k + i)) = pre.count (2 * lCt s k i))
theorem lCt_lt {s : Nat → Nat} {k i : Nat} (I : IV s) (J : IW s) (hk : k < s 3) (hi : i < s (700 + k)) : lCt s k i < s 1 := by
  have h := J.2.2.2.2.2.2.2.2 k hk
  have h2 := I.2.1
  exact I.2.2.2.2.1 _ i (by omega) (by omega)
/-- other addresses for contents to come -/
theorem DP.cag {κ bd ca ca' ja la A : Nat → Nat} {T : Nat → gh_H → Prop} {d : Nat} {s : Nat → Nat} {ev : List Nat} {h : gh_H} (P : DP κ bd ca ja la A T d s ev h) (I : IV s) (J : IW s) (E : IE s ev) (hc : ∀ c, c < s 1 → ca' c = ca c) : DP κ bd ca' ja la A T d s ev h := by
  obtain ⟨p1, p2, p3, p4, p5, ⟨xs, p6, p6b⟩, p7, p8, p9⟩ := P
  have h2 := I.2.1
  refine ⟨p1, ?_, fun c hc2 => ?_, p4, fun j hj => ?_, ⟨xs, p6, p6b.1, fun i hi hx => ⟨fun z => ?_, (p6b.2 i hi hx).2⟩⟩, p7, fun k hk => ?_, p9⟩
  · rw [show (List.range (s 1)).map ca' = (List.range (s 1)).map ca from List.map_congr_left (fun i hi => hc i (List.mem_range.mp hi))]
    exact p2
  · rw [hc c hc2]
    exact p3 c hc2
  · obtain ⟨ag, ai, pa, e1, e2, e3, e4⟩ := p5 j hj
    refine ⟨ag, ai, pa, e1, ?_, e3, e4⟩
    rw [show jpg ca' s j = jpg ca s j from List.map_congr_left (fun i hi => hc _ (I.2.2.2.2.1 j i (by omega) (List.mem_range.mp hi)))]
    exact e2
  · rw [hc _ ((E.1 _ (List.getElem_mem hi)).1 z)]
    exact (p6b.2 i hi hx).1 z
  · obtain ⟨ac, ar, f, e1, e2, e3, e4⟩ := p8 k hk
    refine ⟨ac, ar, f, e1, ?_, e3, e4⟩
    rw [show (List.range (s (700 + k))).map (fun i => ca' (lCt s k i)) = (List.range (s (700 + k))).map (fun i => ca (lCt s k i)) from List.map_congr_left (fun i hi => hc _ (lCt_lt I J hk (List.mem_range.mp hi)))]
    exact e2
/-- the variables that the desk's picture doesn't tell: thrown, the plates' row, the model's scratch -/
def sD (s s' : Nat → Nat) : Prop := ∀ i, i ≠ 0 → i ≠ 4 → ¬ (400 ≤ i ∧ i < 418) → ¬ (1000 ≤ i ∧ i < 6000) → s' i = s i
theorem JP_cg {κ bd ca : Nat → Nat} {pr j v : Nat} {s s' : Nat → Nat} {h : gh_H} (q : ∀ i, (120 ≤ i ∧ i < 134) ∨ (200 ≤ i ∧ i < 264) ∨ (300 ≤ i ∧ i < 332) → s' i = s i) (hj : j < 4) (hp : s (130 + j) ≤ 16) (J : JP κ bd ca pr s j v h) : JP κ bd ca pr s' j v h := by
  obtain ⟨ag, ai, pa, e1, e2, e3, e4⟩ := J
  have q1 : s' (120 + j) = s (120 + j) := q _ (by omega)
  have q2 : s' (130 + j) = s (130 + j) := q _ (by omega)
  refine ⟨ag, ai, pa, ?_, ?_, e3, fun n hn => ?_⟩
  · rw [q1]
    exact e1
  · have : jpg ca s' j = jpg ca s j := by
      unfold jpg
      rw [q2]
      refine List.map_congr_left (fun i hi => ?_)
      have := List.mem_range.mp hi
      rw [q _ (by omega)]
    rw [this]
    exact e2
  · rw [q _ (by omega)]
    exact e4 n hn
theorem LOT_cg {κ ca la s s' : Nat → Nat} {k : Nat} {h : gh_H} (q : ∀ i, (200 ≤ i ∧ i < 264) ∨ (500 ≤ i ∧ i < 800) ∨ 6000 ≤ i → s' i = s i) (I : IV s) (J : IW s) (hk : k < s 3) (L : LOT κ ca la s k h) : LOT κ ca la s' k h := by
  obtain ⟨ac, ar, f, e1, e2, e3, e4⟩ := L
  have h3 := J.1
  have hl := J.2.2.2.2.2.2.2.2 k hk
  have h2 := I.2.1
  have h4 := (I.2.2.1 (s (500 + k)) (by omega)).2
  have q7 : s' (700 + k) = s (700 + k) := q _ (by omega)
  have hc : ∀ i, i < s (700 + k) → lCt s' k i = lCt s k i := fun i hi => by
    unfold lCt
    rw [q (500 + k) (by omega), q _ (by omega)]
  refine ⟨ac, ar, f, ?_, ?_, ?_, fun i hi => ?_⟩
  · rw [q _ (by omega)]
    exact e1
  · rw [q7, show (List.range (s (700 + k))).map (fun i => ca (lCt s' k i)) = (List.range (s (700 + k))).map (fun i => ca (lCt s k i)) from List.map_congr_left (fun i hi => congrArg ca (hc i (List.mem_range.mp hi)))]
    exact e2
  · rw [q7]
    exact e3
  · rw [q7] at hi
    rw [q _ (by omega)]
    exact e4 i hi
theorem DP.sD {κ bd ca ja la A : Nat → Nat} {T : Nat → gh_H → Prop} {d : Nat} {s s' : Nat → Nat} {ev : List Nat} {h : gh_H} (P : DP κ bd ca ja la A T d s ev h) (I : IV s) (J : IW s) (q : sD s s') : DP κ bd ca ja la A T d s' ev h := by
  obtain ⟨p1, p2, p3, p4, p5, p6, p7, p8, p9, p10, p11, p12⟩ := P
  have h1 := I.1
  have h2 := I.2.1
  have e : ∀ i, i ≠ 0 → i ≠ 4 → i < 12 → s' i = s i := fun i a b c => q i a b (by omega) (by omega)
  unfold DP DKf pbV
  rw [e 1 (by decide) (by decide) (by decide), e 2 (by decide) (by decide) (by decide), e 3 (by decide) (by decide) (by decide), e 5 (by decide) (by decide) (by decide), e 6 (by decide) (by decide) (by decide), e 7 (by decide) (by decide) (by decide), e 8 (by decide) (by decide) (by decide), e 9 (by decide) (by decide) (by decide), e 10 (by decide) (by decide) (by decide), e 11 (by decide) (by decide) (by decide)]
  refine ⟨p1, p2, fun c hc => ?_, p4, fun j hj => JP_cg (fun i hi => q i (by omega) (by omega) (by omega) (by omega)) (by omega) (I.2.2.1 j (by omega)).2 (p5 j hj), p6, p7, fun k hk => LOT_cg (fun i hi => q i (by omega) (by omega) (by omega) (by omega)) I J hk (p8 k hk), p9, p10, p11, p12⟩
  rw [e 1 (by decide) (by decide) (by decide)] at hc
  rw [q _ (by omega) (by omega) (by omega) (by omega), q _ (by omega) (by omega) (by omega) (by omega)]
  exact p3 c hc
section
variable {κ bd ca ja la A : Nat → Nat} {T : Nat → gh_H → Prop} {d : Nat} {s : Nat → Nat} {ev : List Nat} {h : gh_H} {X : String → gh_H → Prop}
theorem dk_approve {x : Int32} {Q : Int32 → gh_H → Prop} (P : DP κ bd ca ja la A T d s ev h) (hT : TK T) (I : IV s) (J : IW s) (k1 : ∀ c, c < s 1 → x = nI c → ∀ h', Only De h h' → DP κ bd ca ja la A T d (sU s (340 + c) 1) ev h' → Q (nI (s (340 + c))) h') (k0 : x < 0 ∨ nI (s 1) ≤ x → X "java/lang/IndexOutOfBoundsException" h) : wp_X1_approve κ d x Q X h := by
  unfold wp_X1_approve
  refine gs_RC P.1 (dk_content P I (fun c hc hx => ?_) k0)
  have h1 := I.1
  have h2 := I.2.1
  have hap := (I.2.2.2.2.2.1 c (by omega)).2
  have ec := P.2.2.1 c hc
  refine gs_GI ec rfl ⟨⟨rfl, rfl⟩, gs_PV ec (by omega) (Nat.le_of_ble_eq_true rfl) ⟨?_, k1 c hc hx _ (Only.up ec (by unfold De; omega)) ?_⟩⟩
  · rcases (show s (340 + c) = 0 ∨ s (340 + c) = 1 by omega) with e | e <;> rw [e] <;> rfl
  · obtain ⟨p1, p2, p3, p4, p5, p6, p7, p8, p9, p10, p11, p12⟩ := P
    have o : Only (fun t => t = 70 + c) h (gh_up h (ca c) (70 + c, .inr (4, [.int (nI c), .int (nI (s (100 + c))), .int 1]))) := Only.up ec rfl
    have e : ∀ i, i ≠ 340 + c → sU s (340 + c) 1 i = s i := fun i hi => sU_ne hi
    have hlow : ∀ i, i < 340 → sU s (340 + c) 1 i = s i := fun i hi => sU_ne (by omega)
    have hhi : ∀ i, 352 ≤ i → sU s (340 + c) 1 i = s i := fun i hi => sU_ne (by omega)
    obtain ⟨xs, p6a, p6b⟩ := p6
    obtain ⟨f, p11a, p11b⟩ := p11
    unfold DP DKf pbV
    rw [hlow 1 (by decide), hlow 2 (by decide), hlow 3 (by decide), hlow 5 (by decide), hlow 6 (by decide), hlow 7 (by decide), hlow 8 (by decide), hlow 9 (by decide), hlow 10 (by decide), hlow 11 (by decide)]
    refine ⟨o _ _ _ p1 (by omega), p2.keep o (by omega) (by omega), fun q hq => ?_, p4.keep o (by omega) (by omega), fun j hj => ?_, ⟨xs, p6a.keep o (by omega) (by omega), p6b.keep o (by omega)⟩, p7.keep o (by omega) (by omega), fun k hk => ?_, o _ _ _ p9 (by omega), o _ _ _ p10 (by omega), ⟨f, o _ _ _ p11a (by omega), p11b⟩, hT _ _ _ _ o (by omega) (fun t a b => by omega) p12⟩
    · rw [hlow 1 (by decide)] at hq
      rw [e (100 + q) (by omega)]
      by_cases w : q = c
      · subst w
        rw [gu_self, sU_self]
        rfl
      · rw [e (340 + q) (by omega)]
        exact o _ _ _ (p3 q hq) (by omega)
    · exact JP_cg (fun i hi => e i (by omega)) (by omega) (I.2.2.1 j (by omega)).2 ((p5 j hj).keep o (fun t a b => by omega))
    · exact LOT_cg (fun i hi => e i (by omega)) I J hk ((p8 k hk).keep o (fun t a => by omega))
end
