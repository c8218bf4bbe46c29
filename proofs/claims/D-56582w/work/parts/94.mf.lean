/-! PLAIN LAW, part MF: the desk's picture when stocks, a content, the log change; correct on the desk -/
set_option maxRecDepth 100000
theorem JP_cg2 {κ bd ca : Nat → Nat} {pr j v : Nat} {s s' : Nat → Nat} {h : gh_H} (q : ∀ i, (120 ≤ i ∧ i < 134) ∨ (200 ≤ i ∧ i < 264) ∨ (300 + 8 * j ≤ i ∧ i < 308 + 8 * j) → s' i = s i) (hj : j < 4) (hp : s (130 + j) ≤ 16) (J : JP κ bd ca pr s j v h) : JP κ bd ca pr s' j v h := by
  obtain ⟨ag, ai, pa, e1, e2, e3, e4⟩ := J
  have q1 : s' (120 + j) = s (120 + j) := q _ (by omega)
  have q2 : s' (130 + j) = s (130 + j) := q _ (by omega)
  refine ⟨ag, ai, pa, ?_, ?_, e3, fun n hn => ?_⟩
  · rw [q1]
    exact e1
  · have : jpg ca s' j = jpg ca s j := by
      unfold jpg
      rw [q2]
      refine List.map_congr_left (fun i hi => ?_)
      have := List.mem_range.mp hi
      rw [q _ (by omega)]
    rw [this]
    exact e2
  · rw [q _ (by omega)]
    exact e4 n hn
section
variable {κ bd ca ja la A : Nat → Nat} {T : Nat → gh_H → Prop} {d : Nat} {s s' : Nat → Nat} {ev : List Nat} {h h' : gh_H} {X : String → gh_H → Prop}
/-- job j's stocks have changed -/
theorem DP.stk {j : Nat} (P : DP κ bd ca ja la A T d s ev h) (hT : TK T) (I : IV s) (J : IW s) (hj : j < s 2) (o : Only (Jo j) h h') (q : ∀ i, (i < 300 + 8 * j ∨ 308 + 8 * j ≤ i) → s' i = s i) (Jb : JP κ bd ca (A 5) s' j (ja j) h') : DP κ bd ca ja la A T d s' ev h' := by
  have h1 := I.1
  have h2 := I.2.1
  obtain ⟨p1, p2, p3, p4, p5, ⟨xs, p6, p6b⟩, p7, p8, p9, p10, ⟨f, p11, p12⟩, p13⟩ := P
  have lw : ∀ i, i < 300 → s' i = s i := fun i hi => q i (by omega)
  unfold DP DKf pbV
  rw [lw 1 (by decide), lw 2 (by decide), lw 3 (by decide), lw 5 (by decide), lw 6 (by decide), lw 7 (by decide), lw 8 (by decide), lw 9 (by decide), lw 10 (by decide), lw 11 (by decide)]
  refine ⟨o _ _ _ p1 (by unfold Jo; omega), p2.keep o (by unfold Jo; omega) (by unfold Jo; omega), fun c hc => ?_, p4.keep o (by unfold Jo; omega) (by unfold Jo; omega), fun i hi => ?_, ⟨xs, p6.keep o (by unfold Jo; omega) (by unfold Jo; omega), p6b.keep o (by unfold Jo; omega)⟩, p7.keep o (by unfold Jo; omega) (by unfold Jo; omega), fun k hk => ?_, o _ _ _ p9 (by unfold Jo; omega), o _ _ _ p10 (by unfold Jo; omega), ⟨f, o _ _ _ p11 (by unfold Jo; omega), p12⟩, hT _ _ _ _ o (by unfold Jo; omega) (fun t a b => by unfold Jo; omega) p13⟩
  · rw [lw 1 (by decide)] at hc
    rw [q (100 + c) (by omega), q (340 + c) (by omega)]
    exact o _ _ _ (p3 c hc) (by unfold Jo; omega)
  · by_cases e : i = j
    · subst e
      exact Jb
    · exact JP_cg2 (fun t ht => q t (by omega)) (by omega) (I.2.2.1 i (by omega)).2 ((p5 i hi).keep o (fun t a b => by unfold Jo; omega))
  · exact LOT_cg (fun i hi => q i (by omega)) I J hk ((p8 k hk).keep o (fun t a => by unfold Jo; omega))
/-- a content has changed -/
theorem DP.ct {c x y : Nat} (P : DP κ bd ca ja la A T d s ev h) (hT : TK T) (I : IV s) (J : IW s) (hc : c < s 1) : DP κ bd ca ja la A T d (sU (sU s (100 + c) x) (340 + c) y) ev (gh_up h (ca c) (70 + c, .inr (4, [.int (nI c), .int (nI x), .int (nI y)]))) := by
  have h1 := I.1
  have h2 := I.2.1
  obtain ⟨p1, p2, p3, p4, p5, ⟨xs, p6a, p6b⟩, p7, p8, p9, p10, ⟨f, p11a, p11b⟩, p12⟩ := P
  have o : Only (fun t => t = 70 + c) h (gh_up h (ca c) (70 + c, .inr (4, [.int (nI c), .int (nI x), .int (nI y)]))) := Only.up (p3 c hc) rfl
  have e : ∀ i, i ≠ 340 + c → i ≠ 100 + c → sU (sU s (100 + c) x) (340 + c) y i = s i := fun i h1 h2 => by rw [sU_ne h1, sU_ne h2]
  have hlow : ∀ i, i < 100 → sU (sU s (100 + c) x) (340 + c) y i = s i := fun i hi => e i (by omega) (by omega)
  unfold DP DKf pbV
  rw [hlow 1 (by decide), hlow 2 (by decide), hlow 3 (by decide), hlow 5 (by decide), hlow 6 (by decide), hlow 7 (by decide), hlow 8 (by decide), hlow 9 (by decide), hlow 10 (by decide), hlow 11 (by decide)]
  refine ⟨o _ _ _ p1 (by omega), p2.keep o (by omega) (by omega), fun q hq => ?_, p4.keep o (by omega) (by omega), fun j hj => ?_, ⟨xs, p6a.keep o (by omega) (by omega), p6b.keep o (by omega)⟩, p7.keep o (by omega) (by omega), fun k hk => ?_, o _ _ _ p9 (by omega), o _ _ _ p10 (by omega), ⟨f, o _ _ _ p11a (by omega), p11b⟩, hT _ _ _ _ o (by omega) (fun t a b => by omega) p12⟩
  · rw [hlow 1 (by decide)] at hq
    by_cases w : q = c
    · subst w
      rw [gu_self, sU_self, sU_ne (by omega), sU_self]
    · rw [e (340 + q) (by omega) (by omega), e (100 + q) (by omega) (by omega)]
      exact o _ _ _ (p3 q hq) (by omega)
  · exact JP_cg (fun i hi => e i (by omega) (by omega)) (by omega) (I.2.2.1 j (by omega)).2 ((p5 j hj).keep o (fun t a b => by omega))
  · exact LOT_cg (fun i hi => e i (by omega) (by omega)) I J hk ((p8 k hk).keep o (fun t a => by omega))
theorem EV.add {xs : List Nat} {q e : Nat} (E : EV ca la ev xs h) (h0 : e % 2 = 0 → h q = some (98, .inr (5, [va_rf (some (ca (e / 2)))]))) (h1 : e % 2 = 1 → q = la (e / 2)) : EV ca la (ev ++ [e]) (xs ++ [q]) h := by
  refine ⟨by rw [List.length_append, List.length_append, E.1]; rfl, fun i hi hx => ?_⟩
  rw [List.length_append] at hi hx
  by_cases w : i < ev.length
  · rw [List.getElem_append_left w, List.getElem_append_left (by rw [E.1]; exact w)]
    exact E.2 i w (by rw [E.1]; exact w)
  · have ei : i = ev.length := by
      simp at hi
      omega
    have ex : i = xs.length := by rw [E.1]; exact ei
    have g1 : (ev ++ [e])[i]'(by rw [List.length_append]; exact hi) = e := by
      subst ei
      simp
    have g2 : (xs ++ [q])[i]'(by rw [List.length_append]; exact hx) = q := by
      subst ex
      simp
    rw [g1, g2]
    exact ⟨h0, h1⟩
/-- the log's things are things that may lie in a list -/
theorem EV.ob {xs : List Nat} (E : EV ca la ev xs h) (IEv : IE s ev) (hl : ∀ k, k < s 3 → LOT κ ca la s k h) : ∀ y ∈ xs, OB h y := by
  intro y hy
  obtain ⟨i, hi, rfl⟩ := List.mem_iff_getElem.mp hy
  have hi2 : i < ev.length := by rw [← E.1]; exact hi
  have em := IEv.1 _ (List.getElem_mem hi2)
  rcases Nat.mod_two_eq_zero_or_one ev[i] with w | w
  · exact OB.of ((E.2 i hi2 hi).1 w) (by decide)
  · rw [(E.2 i hi2 hi).2 w]
    obtain ⟨ac, ar, f, e1, -⟩ := hl _ (em.2 w)
    exact OB.of e1 (by decide)
/-- the log has got longer -/
theorem DP.log {xs : List Nat} {q e : Nat} (P : DP κ bd ca ja la A T d s ev h) (hT : TK T) (I : IV s) (Ex : EV ca la ev xs h) (o : Only (fun t => t = 6 ∨ t = 7) h h') (G : GL κ 6 (A 2) (xs ++ [q]) h') (h0 : e % 2 = 0 → h' q = some (98, .inr (5, [va_rf (some (ca (e / 2)))]))) (h1 : e % 2 = 1 → q = la (e / 2)) : DP κ bd ca ja la A T d s (ev ++ [e]) h' := by
  have i1 := I.1
  have i2 := I.2.1
  obtain ⟨p1, p2, p3, p4, p5, -, p7, p8, p9, p10, ⟨f, p11, p12⟩, p13⟩ := P
  exact ⟨o _ _ _ p1 (by omega), p2.keep o (by omega) (by omega), p3.keep o I.1 (fun t a b => by omega), p4.keep o (by omega) (by omega), fun j hj => (p5 j hj).keep o (fun t a b => by omega), ⟨xs ++ [q], G, (Ex.keep o (by omega)).add h0 h1⟩, p7.keep o (by omega) (by omega), fun k hk => (p8 k hk).keep o (fun t a => by omega), o _ _ _ p9 (by omega), o _ _ _ p10 (by omega), ⟨f, o _ _ _ p11 (by omega), p12⟩, hT _ _ _ _ o (by omega) (fun t a b => by omega) p13⟩
/-- the counter of the wasted sheets has changed -/
theorem DP.wst {x : Nat} (P : DP κ bd ca ja la A T d s ev h) (hT : TK T) (I : IV s) (J : IW s) : DP κ bd ca ja la A T d (sU s 10 x) ev (gh_up h (A 6) (11, .inr (2, [.long (lN x)]))) := by
  have i1 := I.1
  have i2 := I.2.1
  obtain ⟨p1, p2, p3, p4, p5, ⟨xs, p6a, p6b⟩, p7, p8, p9, p10, ⟨f, p11a, p11b⟩, p12⟩ := P
  have o : Only (fun t => t = 11) h (gh_up h (A 6) (11, .inr (2, [.long (lN x)]))) := Only.up p10 rfl
  have e : ∀ i, i ≠ 10 → sU s 10 x i = s i := fun i hi => sU_ne hi
  unfold DP DKf pbV
  rw [e 1 (by decide), e 2 (by decide), e 3 (by decide), e 5 (by decide), e 6 (by decide), e 7 (by decide), e 8 (by decide), e 9 (by decide), e 11 (by decide), sU_self]
  refine ⟨o _ _ _ p1 (by omega), p2.keep o (by omega) (by omega), fun c hc => ?_, p4.keep o (by omega) (by omega), fun j hj => ?_, ⟨xs, p6a.keep o (by omega) (by omega), p6b.keep o (by omega)⟩, p7.keep o (by omega) (by omega), fun k hk => ?_, o _ _ _ p9 (by omega), gu_self _ _ _, ⟨f, o _ _ _ p11a (by omega), p11b⟩, hT _ _ _ _ o (by omega) (fun t a b => by omega) p12⟩
  · rw [e 1 (by decide)] at hc
    rw [e (100 + c) (by omega), e (340 + c) (by omega)]
    exact o _ _ _ (p3 c hc) (by omega)
  · exact JP_cg (fun i hi => e i (by omega)) (by omega) (I.2.2.1 j (by omega)).2 ((p5 j hj).keep o (fun t a b => by omega))
  · exact LOT_cg (fun i hi => e i (by omega)) I J hk ((p8 k hk).keep o (fun t a => by omega))
end
/-! the stocks that a correction voids -/
theorem tkS_congr {sel sel' : Nat → Bool} {j : Nat} {s : Nat → Nat} : ∀ r, (∀ n, n < r → sel n = sel' n) → tkS sel j s r = tkS sel' j s r
  | 0, _ => rfl
  | r + 1, h => by
    unfold tkS
    rw [tkS_congr r (fun n hn => h n (by omega)), h r (by omega)]
theorem tkN_congr {sel sel' : Nat → Bool} {j : Nat} {s s' : Nat → Nat} : ∀ r, (∀ n, n < r → sel n = sel' n ∧ s (300 + (8 * j + n)) = s' (300 + (8 * j + n))) → tkN sel j s r = tkN sel' j s' r
  | 0, _ => rfl
  | r + 1, h => by
    unfold tkN
    rw [tkN_congr r (fun n hn => h n (by omega)), (h r (by omega)).1, (h r (by omega)).2]
def csS (sel : Nat → Nat → Bool) (s : Nat → Nat) : Nat → Nat → Nat
  | 0 => s
  | j + 1 => tkS (sel j) j (csS sel s j) (nSh s j)
def csN (sel : Nat → Nat → Bool) (s : Nat → Nat) : Nat → Nat
  | 0 => 0
  | j + 1 => csN sel s j + tkN (sel j) j s (nSh s j)
theorem csS_out {sel : Nat → Nat → Bool} {s : Nat → Nat} (I : IV s) : ∀ {r i : Nat}, r ≤ 4 → (i < 300 ∨ 300 + 8 * r ≤ i) → csS sel s r i = s i
  | 0, _, _, _ => rfl
  | r + 1, i, hr, h => by
    have h8 := nSh_8 I (show r < 4 by omega)
    unfold csS
    rw [tkS_out (by omega)]
    exact csS_out I (by omega) (by omega)
theorem csS_le {sel : Nat → Nat → Bool} {s : Nat → Nat} (h : ∀ i, i < 32 → s (300 + i) ≤ 9999) : ∀ r, ∀ i, i < 32 → csS sel s r (300 + i) ≤ 9999
  | 0 => h
  | r + 1 => tkS_le (csS_le h r) _
theorem csS_sZ {sel : Nat → Nat → Bool} {s : Nat → Nat} (I : IV s) {r : Nat} (hr : r ≤ 4) : sZ s (csS sel s r) := fun i hi => csS_out I hr (by omega)
theorem csS_IV {sel : Nat → Nat → Bool} {s : Nat → Nat} (I : IV s) {r : Nat} (hr : r ≤ 4) : IV (csS sel s r) := sZ_IV (csS_sZ I hr) (csS_le I.2.2.2.2.2.2.1 r) I
theorem csN_le {sel : Nat → Nat → Bool} {s : Nat → Nat} (I : IV s) : ∀ r, r ≤ 4 → csN sel s r ≤ 79992 * r
  | 0, _ => Nat.zero_le _
  | r + 1, h => by
    have h1 := csN_le (sel := sel) I r (by omega)
    have h8 := nSh_8 I (show r < 4 by omega)
    have h2 := tkN_le (sel := sel r) I.2.2.2.2.2.2.1 (show r < 4 by omega) (nSh s r) h8
    unfold csN
    omega
theorem sZ_nSh {s s' : Nat → Nat} (q : sZ s s') {j : Nat} (hj : j < 4) : nSh s' j = nSh s j := by
  unfold nSh
  rw [sZ_cnt q hj, q (130 + j) (by omega), q (120 + j) (by omega)]
theorem sZ_shownB {s s' : Nat → Nat} (q : sZ s s') {j n c : Nat} (I : IV s) (hj : j < 4) (hn : n < nSh s j) : shownB s' j n c = shownB s j n c := by
  have hw : whole s j := by
    refine Classical.byContradiction (fun w => ?_)
    rw [nSh_n w] at hn
    omega
  rw [nSh_w hw] at hn
  have h := sZ_shown q (c := c) I hj hw hn
  cases e1 : shownB s' j n c with
  | true => exact (shownB_iff.mpr (h.mp (shownB_iff.mp e1))).symm
  | false =>
    cases e2 : shownB s j n c with
    | true => rw [shownB_iff.mpr (h.mpr (shownB_iff.mp e2))] at e1; cases e1
    | false => rfl
theorem IW_of {s s' : Nat → Nat} (J : IW s) (I : IV s) (q : ∀ i, (2 ≤ i ∧ i < 10) ∨ (130 ≤ i ∧ i < 134) ∨ (500 ≤ i ∧ i < 800) ∨ (1000 ≤ i ∧ i < 1200) ∨ 6000 ≤ i → s' i = s i) : IW s' := by
  have j3 := J.1
  have j4 := J.2.1
  have i2 := I.2.1
  unfold IW
  rw [q 2 (by omega), q 3 (by omega), q 4 (by omega), q 5 (by omega), q 6 (by omega), q 7 (by omega), q 8 (by omega), q 9 (by omega)]
  refine ⟨J.1, J.2.1, fun k hk => ?_, J.2.2.2.1, J.2.2.2.2.1, J.2.2.2.2.2.1, J.2.2.2.2.2.2.1, J.2.2.2.2.2.2.2.1, fun l hl => ?_⟩
  · rw [q _ (by omega)]
    exact J.2.2.1 k hk
  · have := J.2.2.2.2.2.2.2.2 l hl
    rw [q (500 + l) (by omega), q (600 + l) (by omega), q (700 + l) (by omega), q (130 + s (500 + l)) (by omega)]
    exact ⟨this.1, this.2.1, this.2.2.1, this.2.2.2.1, fun k hk => by rw [q _ (by omega)]; exact this.2.2.2.2 k hk⟩
/-- a content is corrected: the state behind it, but for the stocks -/
def coS (s : Nat → Nat) (c : Nat) : Nat → Nat := sU (sU s (100 + c) (s (100 + c) + 1)) (340 + c) 0
theorem coS_ne {s : Nat → Nat} {c i : Nat} (h1 : i ≠ 100 + c) (h2 : i ≠ 340 + c) : coS s c i = s i := by
  unfold coS
  rw [sU_ne h2, sU_ne h1]
theorem coS_IV {s : Nat → Nat} {c : Nat} (I : IV s) (hc : c < s 1) (h99 : s (100 + c) < 99) : IV (coS s c) := by
  have h1 := I.1
  have h2 := I.2.1
  have e : ∀ i, i ≠ 100 + c → i ≠ 340 + c → coS s c i = s i := fun i => coS_ne
  unfold IV
  rw [e 1 (by omega) (by omega), e 2 (by omega) (by omega), e 10 (by omega) (by omega), e 11 (by omega) (by omega)]
  refine ⟨I.1, I.2.1, fun j hj => ?_, fun j hj => ?_, fun j i hj hi => ?_, fun q hq => ?_, fun i hi => ?_, I.2.2.2.2.2.2.2.1, I.2.2.2.2.2.2.2.2⟩
  · rw [e _ (by omega) (by omega), e _ (by omega) (by omega)]
    exact I.2.2.1 j hj
  · rw [e _ (by omega) (by omega)]
    exact I.2.2.2.1 j hj
  · rw [e _ (by omega) (by omega)] at hi
    have := (I.2.2.1 j hj).2
    rw [e _ (by omega) (by omega)]
    exact I.2.2.2.2.1 j i hj hi
  · have hq2 := I.2.2.2.2.2.1 q hq
    by_cases w : q = c
    · subst w
      unfold coS
      rw [sU_self, sU_ne (by omega), sU_self]
      omega
    · rw [e _ (by omega) (by omega), e _ (by omega) (by omega)]
      exact hq2
  · rw [e _ (by omega) (by omega)]
    exact I.2.2.2.2.2.2.1 i hi
theorem coS_IW {s : Nat → Nat} {c : Nat} (I : IV s) (J : IW s) (hc : c < s 1) : IW (coS s c) := by
  have h1 := I.1
  exact IW_of J I (fun i hi => coS_ne (by omega) (by omega))
section
variable {κ bd ca ja la A : Nat → Nat} {T : Nat → gh_H → Prop} {d : Nat} {s : Nat → Nat} {ev : List Nat} {h : gh_H} {X : String → gh_H → Prop}
theorem dk_correct {x : Int32} {Q : Int32 → gh_H → Prop} (P : DP κ bd ca ja la A T d s ev h) (N : CN0 κ h) (B : BD bd h) (hT : TK T) (I : IV s) (J : IW s) (E : IE s ev) (hev : ev.length ≤ 70)
    (k1 : ∀ c, c < s 1 → x = nI c → s (100 + c) < 99 → ∀ h', Only De h h' → DP κ bd ca ja la A T d (sU (csS (fun j n => shownB (coS s c) j n c) (coS s c) (s 2)) 10 (s 10 + csN (fun j n => shownB (coS s c) j n c) (coS s c) (s 2))) (ev ++ [2 * c]) h' → Q (nI (csN (fun j n => shownB (coS s c) j n c) (coS s c) (s 2))) h')
    (k2 : ∀ c, c < s 1 → x = nI c → ¬ s (100 + c) < 99 → X "java/lang/IllegalStateException" h) (k0 : x < 0 ∨ nI (s 1) ≤ x → X "java/lang/IndexOutOfBoundsException" h) : wp_X1_correct κ d x Q X h := by
  have i1 := I.1
  have i2 := I.2.1
  unfold wp_X1_correct
  refine gs_RC P.1 (dk_content P I (fun c hc hx => ?_) k0)
  have b2 := (I.2.2.2.2.2.1 c (by omega)).1
  have ec := P.2.2.1 c hc
  refine gs_GI ec rfl ⟨fun z => ?_, fun z => ?_⟩
  · have hz := (nI_leI (a := 99) (by decide) (n31 (by omega))).mp z
    unfold wb_X1_correct_20 wp_X1_requireState
    exact ⟨fun _ => k2 c hc hx (by omega), fun w => absurd rfl w⟩
  have h99 : s (100 + c) < 99 := by
    have : ¬ 99 ≤ s (100 + c) := fun w => z (nI_le w (n31 (by omega)))
    omega
  have q1 := k1 c hc hx h99
  unfold wb_X1_correct_20 wp_X1_requireState
  refine ⟨(fun w => by cases w), fun _ => gs_GI ec rfl (gs_PV ec (by omega) (Nat.le_of_ble_eq_true rfl) ⟨⟨rfl, rfl⟩, gs_PV (gu_self _ _ _) (by omega) (Nat.le_of_ble_eq_true rfl) ?_⟩)⟩
  rw [gu_idem, nI_1]
  obtain ⟨h1, eh1⟩ : ∃ h1, h1 = gh_up h (ca c) (70 + c, .inr (4, ([.int (nI c), .int (nI (s (100 + c))), .int (nI (s (340 + c)))].set 1 (.int (nI (s (100 + c) + 1)))).set 2 (.int 0))) := ⟨_, rfl⟩
  rw [← eh1]
  have P1 : DP κ bd ca ja la A T d (coS s c) ev h1 := by
    rw [eh1]
    exact P.ct (x := s (100 + c) + 1) (y := 0) hT I J hc
  have o1 : Only De h h1 := by
    rw [eh1]
    exact Only.up ec (by unfold De; omega)
  have I1 := coS_IV I hc h99
  have J1 := coS_IW I J hc
  obtain ⟨xs, p6, Ex⟩ := id P1.2.2.2.2.2.1
  obtain ⟨mc6, p6m⟩ := id p6
  obtain ⟨al6, hal6, -⟩ := id p6m
  refine gs_GR P1.1 rfl (gs_NO 98 (by decide) (fun q hq => ?_))
  unfold wp_X5_init
  refine gs_PV (gu_self _ _ _) (by decide) (Nat.le_of_ble_eq_true rfl) ?_
  rw [gu_idem]
  have o2 : Only (fun _ => False) h1 (gh_up h1 q (98, .inr (5, [va_rf (some (ca c))]))) := Only.new hq
  have P2 := P1.keep hT I1 o2 (fun w => w) (fun t _ _ w => w)
  have Ex2 := Ex.keep o2 (fun w => w)
  have p62 := p6.keep o2 (fun w => w) (fun w => w)
  have N2 : CN0 κ (gh_up h1 q (98, .inr (5, [va_rf (some (ca c))]))) := (N.keep o1 (by unfold De; omega)).keep o2 (fun w => w)
  have E1 : ∀ y ∈ xs, OB (gh_up h1 q (98, .inr (5, [va_rf (some (ca c))]))) y := by
    intro y hy
    obtain ⟨i, hi, rfl⟩ := List.mem_iff_getElem.mp hy
    have hi2 : i < ev.length := by rw [← Ex2.1]; exact hi
    have em := E.1 _ (List.getElem_mem hi2)
    rcases Nat.mod_two_eq_zero_or_one ev[i] with w | w
    · exact OB.of ((Ex2.2 i hi2 hi).1 w) (by decide)
    · rw [(Ex2.2 i hi2 hi).2 w]
      obtain ⟨ac, ar, f, e1, -⟩ := P2.2.2.2.2.2.2.2.1 _ (show ev[i] / 2 < coS s c 3 by rw [coS_ne (by omega) (by omega)]; exact em.2 w)
      exact OB.of e1 (by decide)
  refine gs_RC (o2 _ _ _ hal6 (fun w => w)) (ls_add N2 p62 (by decide) (by rw [Ex.1]; omega) E1 (OB.of (gu_self _ _ _) (by decide)) (fun h3 o3 L3 => ?_))
  have P3 : DP κ bd ca ja la A T d (coS s c) (ev ++ [2 * c]) h3 := P2.log (e := 2 * c) hT I1 Ex2 o3 L3 (fun _ => by rw [show 2 * c / 2 = c by omega]; exact o3 _ _ _ (gu_self _ _ _) (by decide)) (fun w => by omega)
  have o13 : Only De h h3 := (o1.trans (o2.mono (fun t w => w.elim))).trans (o3.mono (fun t w => by unfold De; omega))
  obtain ⟨mc4, p4⟩ := id P3.2.2.2.1
  obtain ⟨al4, hal4, -⟩ := id p4
  have c2 : coS s c 2 = s 2 := coS_ne (by omega) (by omega)
  have c10 : coS s c 10 = s 10 := coS_ne (by omega) (by omega)
  refine gs_GR P3.1 rfl (gs_RC hal4 (it_new p4.lr (fun q9 h4 o4 I4 => ?_)))
  have P4 := P3.keep hT I1 o4 (fun w => w) (fun t _ _ w => w)
  have key : ∀ (r i : Nat) (h5 : gh_H), i + r = s 2 → Only De h h5 → DP κ bd ca ja la A T d (csS (fun j n => shownB (coS s c) j n c) (coS s c) i) (ev ++ [2 * c]) h5 → IT κ 4 (A 1) ((List.range (coS s c 2)).map ja) q9 i h5 → wl_X1_correct_69 κ Q X (r + 1) i d (some (ca c)) (nI (csN (fun j n => shownB (coS s c) j n c) (coS s c) i)) (some q9) h5 := by
    intro r
    induction r with
    | zero =>
      intro i h5 hi o5 P5 I5
      show i ≤ 8 ∧ wb_X1_correct_69 κ _ i Q X d (some (ca c)) _ (some q9) h5
      refine ⟨by omega, ?_⟩
      unfold wb_X1_correct_69
      obtain ⟨mc5, lr5, -, hq5⟩ := id I5
      have ei : i = s 2 := by omega
      have hsum := csN_le (sel := fun j n => shownB (coS s c) j n c) I1 i (by omega)
      have e10 : csS (fun j n => shownB (coS s c) j n c) (coS s c) i 10 = s 10 := by rw [csS_out I1 (by omega) (by omega), c10]
      have ep := P5.2.2.2.2.2.2.2.2.2.1
      rw [e10] at ep
      refine gs_RC hq5 (it_hasNext I5 (by rw [rg_len, c2]; omega) (fun hlt => absurd hlt (by rw [rg_len, c2]; omega)) (fun _ => ⟨fun _ => gs_GR P5.1 rfl (gs_RC ep (ct_add ep (by decide) (n31 (by omega)) ?_)), fun w => absurd rfl w⟩))
      have P6 := P5.wst (x := s 10 + csN (fun j n => shownB (coS s c) j n c) (coS s c) i) hT (csS_IV I1 (by omega)) (IW_of J1 I1 (fun t ht => csS_out I1 (by omega) (by omega)))
      have o6 : Only De h5 (gh_up h5 (A 6) (11, .inr (2, [.long (lN (s 10 + csN (fun j n => shownB (coS s c) j n c) (coS s c) i))]))) := Only.up ep (by unfold De; omega)
      rw [ei] at P6 o6 ⊢
      exact q1 _ (o5.trans o6) P6
    | succ r ih =>
      intro i h5 hi o5 P5 I5
      show i ≤ 8 ∧ wb_X1_correct_69 κ (wl_X1_correct_69 κ Q X (r + 1)) i Q X d (some (ca c)) _ (some q9) h5
      refine ⟨by omega, ?_⟩
      unfold wb_X1_correct_69
      obtain ⟨mc5, lr5, -, hq5⟩ := id I5
      have hi4 : i < 4 := by omega
      have Ii := csS_IV (sel := fun j n => shownB (coS s c) j n c) I1 (show i ≤ 4 by omega)
      have zi := csS_sZ (sel := fun j n => shownB (coS s c) j n c) I1 (show i ≤ 4 by omega)
      have Ji : IW (csS (fun j n => shownB (coS s c) j n c) (coS s c) i) := IW_of J1 I1 (fun t ht => csS_out I1 (by omega) (by omega))
      have e2 : csS (fun j n => shownB (coS s c) j n c) (coS s c) i 2 = s 2 := by rw [zi 2 (by omega), c2]
      have e1 : csS (fun j n => shownB (coS s c) j n c) (coS s c) i 1 = s 1 := by rw [zi 1 (by omega), coS_ne (by omega) (by omega)]
      refine gs_RC hq5 (it_hasNext I5 (by rw [rg_len, c2]; omega) (fun hlt => ⟨(fun w => by cases w), fun _ => gs_RC hq5 (it_next I5 (by decide) (by decide) hlt (fun h6 o6 I6 => ?_))⟩) (fun w => absurd w (by rw [rg_len, c2]; omega)))
      rw [rg_at]
      have P6 := P5.keep hT Ii o6 (by decide) (fun t _ hn => hn)
      have Jb := P6.2.2.2.2.1 i (by rw [e2]; omega)
      obtain ⟨ag, ai, pa, g1, -⟩ := id Jb
      have B6 : BD bd h6 := (B.keep o5 (by unfold De; omega)).keep o6 (by decide)
      refine gs_CK g1 (by decide) (gs_RC g1 (jb_takeOff (sel := fun n => shownB (csS (fun j n => shownB (coS s c) j n c) (coS s c) i) i n c) Jb B6 P6.2.2.1 Ii (by rw [e2]; omega) (Or.inr ⟨c, by rw [e1]; exact hc, rfl, fun n => rfl⟩) (fun h7 o7 J7 => ?_)))
      have en := sZ_nSh zi hi4
      have es : tkS (fun n => shownB (csS (fun j n => shownB (coS s c) j n c) (coS s c) i) i n c) i (csS (fun j n => shownB (coS s c) j n c) (coS s c) i) (nSh (csS (fun j n => shownB (coS s c) j n c) (coS s c) i) i) = csS (fun j n => shownB (coS s c) j n c) (coS s c) (i + 1) := by
        rw [en]
        exact tkS_congr _ (fun n hn => sZ_shownB zi I1 hi4 hn)
      have ek : tkN (fun n => shownB (csS (fun j n => shownB (coS s c) j n c) (coS s c) i) i n c) i (csS (fun j n => shownB (coS s c) j n c) (coS s c) i) (nSh (csS (fun j n => shownB (coS s c) j n c) (coS s c) i) i) = tkN ((fun j n => shownB (coS s c) j n c) i) i (coS s c) (nSh (coS s c) i) := by
        rw [en]
        exact tkN_congr _ (fun n hn => ⟨sZ_shownB zi I1 hi4 hn, csS_out I1 (by omega) (by omega)⟩)
      rw [es] at J7
      rw [ek, nI_add]
      have h8 := nSh_8 I1 hi4
      have P7 := P6.stk (s' := csS (fun j n => shownB (coS s c) j n c) (coS s c) (i + 1)) hT Ii Ji (by rw [e2]; omega) o7 (fun t ht => tkS_out (by omega)) J7
      exact ih (i + 1) h7 (by omega) ((o5.trans (o6.mono (fun t ht => by unfold De; omega))).trans (o7.mono (fun t ht => by unfold Jo at ht; unfold De; omega))) P7 (I6.keep o7 (by unfold Jo; omega) (by unfold Jo; omega) (by unfold Jo; omega))
  exact ⟨_, key _ 0 h4 (Nat.zero_add _) (o13.trans (o4.mono (fun t w => w.elim))) P4 I4⟩
end
