/-! PLAIN LAW, part E: the desk's sheets and piles -/
set_option maxRecDepth 100000
theorem tk_neg {n c : Nat} (hc : c ≤ n) (hn : n < 2 ^ 31) : lN n + (-nI c).toInt64 = lN (n - c) := by
  have h1 : (-nI c).toInt = -(c : Int) := by
    rw [Int32.toInt_neg, nI_toInt (by omega)]
    exact Int.bmod_eq_of_le (by omega) (by omega)
  have e : (-nI c).toInt64 = -lN c := by
    apply Int64.toInt_inj.mp
    rw [Int32.toInt_toInt64, h1, Int64.toInt_neg, lN_toInt (by omega)]
    exact (Int.bmod_eq_of_le (by omega) (by omega)).symm
  rw [e, ← Int64.sub_eq_add_neg, lN_sub hc]
theorem mx0 {c t : Nat} (hc : c < 2 ^ 30) (ht : t < 2 ^ 30) : (if (0 : Int32) < nI c - nI t then nI c - nI t else (0 : Int32)) = nI (c - t) := by
  rcases Nat.lt_or_ge t c with w | w
  · rw [pk_sub (by omega), if_pos (show (0 : Int32) < nI (c - t) from nI_lt (a := 0) (by omega) (by omega))]
  · rcases Nat.eq_or_lt_of_le w with e | e
    · rw [e, pk_sub (Nat.le_refl t), Nat.sub_self]
      rfl
    · have h1 : nI c - nI t < 0 := pk_sneg ht e
      have h2 : ¬ (0 : Int32) < nI c - nI t := by
        rw [Int32.lt_iff_toInt_lt] at h1 ⊢
        omega
      rw [if_neg h2, show c - t = 0 by omega]
      rfl
section
variable {κ : Nat → Nat} {h : gh_H} {X : String → gh_H → Prop}
theorem pl_stock {q lb n : Nat} {r : Option Nat} {Q : Int32 → gh_H → Prop} (e : h q = some (lb, .inr (3, [.long (lN n), va_rf r]))) (k : Q (nI n) h) : wp_X8_stock κ q Q X h := by
  unfold wp_X8_stock wp_X2_count
  refine gs_RC e ⟨q, lb, 3, 0, _, lN n, rfl, e, by decide, rfl, ?_⟩
  show Q (lN n).toInt32 h
  rw [lN_i]
  exact k
theorem pl_take {q lb n c : Nat} {r : Option Nat} {Q : gh_H → Prop} (e : h q = some (lb, .inr (3, [.long (lN n), va_rf r]))) (hz : lb ≠ 0) (hc : c ≤ n) (hn : n < 2 ^ 31) (k : Q (gh_up h q (lb, .inr (3, [.long (lN (n - c)), va_rf r])))) : wp_X9_take κ q (nI c) Q X h := by
  unfold wp_X9_take wp_X2_add
  refine gs_RC e ⟨q, lb, 3, 0, _, lN n, rfl, e, by decide, rfl, gs_PVm e hz (k := 0) (by decide) (Nat.le_of_ble_eq_true rfl) ?_⟩
  rw [tk_neg hc hn]
  exact k
theorem pl_takeAll {q lb n : Nat} {r : Option Nat} {Q : Int32 → gh_H → Prop} (e : h q = some (lb, .inr (3, [.long (lN n), va_rf r]))) (hz : lb ≠ 0) (hn : n < 2 ^ 31) (k : Q (nI n) (gh_up h q (lb, .inr (3, [.long (lN 0), va_rf r])))) : wp_X9_takeAll κ q Q X h := by
  unfold wp_X9_takeAll
  refine gs_RC e (pl_stock e (gs_RC e (pl_take e hz (Nat.le_refl n) hn ?_)))
  rw [Nat.sub_self]
  exact k
theorem ct_add {q lb n c : Nat} {Q : gh_H → Prop} (e : h q = some (lb, .inr (2, [.long (lN n)]))) (hz : lb ≠ 0) (hc : c < 2 ^ 31) (k : Q (gh_up h q (lb, .inr (2, [.long (lN (n + c))])))) : wp_X2_add κ q (nI c) Q X h := by
  unfold wp_X2_add
  refine ⟨q, lb, 2, 0, _, lN n, rfl, e, by decide, rfl, gs_PVm e hz (k := 0) (by decide) (Nat.le_of_ble_eq_true rfl) ?_⟩
  rw [nI_l hc, lN_add]
  exact k
theorem pl_add {q lb n c pr lp t : Nat} {Q : gh_H → Prop} (e : h q = some (lb, .inr (3, [.long (lN n), va_rf (some pr)]))) (ep : h pr = some (lp, .inr (2, [.long (lN t)]))) (hz : lb ≠ 0) (hp : lp ≠ 0) (hc : c < 2 ^ 31) (k : Q (gh_up (gh_up h q (lb, .inr (3, [.long (lN (n + c)), va_rf (some pr)]))) pr (lp, .inr (2, [.long (lN (t + c))])))) : wp_X9_add κ q (nI c) Q X h := by
  unfold wp_X9_add
  refine gs_RC e ?_
  unfold wp_X2_add
  refine ⟨q, lb, 3, 0, _, lN n, rfl, e, by decide, rfl, gs_PVm e hz (k := 0) (by decide) (Nat.le_of_ble_eq_true rfl) ?_⟩
  rw [nI_l hc, lN_add]
  refine gs_GR (gu_self _ _ _) rfl ?_
  have ep2 : gh_up h q (lb, .inr (3, [.long (lN (n + c)), va_rf (some pr)])) pr = some (lp, .inr (2, [.long (lN t)])) := gu_of e ep (fun z => by
    have := congrArg Prod.snd z
    cases this)
  refine gs_RC ep2 ⟨pr, lp, 2, 0, _, lN t, rfl, ep2, by decide, rfl, gs_PVm ep2 hp (k := 0) (by decide) (Nat.le_of_ble_eq_true rfl) ?_⟩
  rw [lN_add]
  exact k
end
/-- the sheets of a job that are taken off: which (sel), the state, the sum -/
def shownB (s : Nat → Nat) (j n c : Nat) : Bool := (List.range (plc (s (120 + j)))).any (fun k => cOn s j n k == c)
theorem shownB_iff {s : Nat → Nat} {j n c : Nat} : shownB s j n c = true ↔ shown s j n c := by
  unfold shownB shown
  rw [List.any_eq_true]
  constructor
  · rintro ⟨k, hk, e⟩
    exact ⟨k, List.mem_range.mp hk, by simpa using e⟩
  · rintro ⟨k, hk, e⟩
    exact ⟨k, List.mem_range.mpr hk, by simpa using e⟩
def tkS (sel : Nat → Bool) (j : Nat) (s : Nat → Nat) : Nat → Nat → Nat
  | 0 => s
  | r + 1 => if sel r then sU (tkS sel j s r) (300 + (8 * j + r)) 0 else tkS sel j s r
def tkN (sel : Nat → Bool) (j : Nat) (s : Nat → Nat) : Nat → Nat
  | 0 => 0
  | r + 1 => tkN sel j s r + if sel r then s (300 + (8 * j + r)) else 0
theorem tkS_out {sel : Nat → Bool} {j : Nat} {s : Nat → Nat} : ∀ {r i : Nat}, (i < 300 + 8 * j ∨ 300 + 8 * j + r ≤ i) → tkS sel j s r i = s i
  | 0, _, _ => rfl
  | r + 1, i, h => by
    unfold tkS
    split
    · rw [sU_ne (by omega)]
      exact tkS_out (by omega)
    · exact tkS_out (by omega)
theorem tkN_le {sel : Nat → Bool} {j : Nat} {s : Nat → Nat} (hs : ∀ i, i < 32 → s (300 + i) ≤ 9999) (hj : j < 4) : ∀ r, r ≤ 8 → tkN sel j s r ≤ 9999 * r
  | 0, _ => Nat.zero_le _
  | r + 1, h => by
    have := tkN_le hs hj r (by omega) (sel := sel)
    have h2 := hs (8 * j + r) (by omega)
    unfold tkN
    split <;> omega
section
variable {κ bd ca : Nat → Nat} {pr j v : Nat} {s : Nat → Nat} {h : gh_H} {X : String → gh_H → Prop}
theorem jb_shows {n c : Nat} {Q : Int32 → gh_H → Prop} (J : JP κ bd ca pr s j v h) (B : BD bd h) (C : CP ca s h) (I : IV s) (hj : j < s 2) (hw : whole s j) (hn : n < cnt s j) (hc : c < s 1) (k1 : shown s j n c → Q 1 h) (k0 : ¬ shown s j n c → Q 0 h) : wp_X7_shows κ v (nI n) (some (ca c)) Q X h := by
  have hj4 := I.2.1
  have h24 := plc_24 (s (120 + j))
  have J0 := J
  obtain ⟨ag, ai, pa, h1, h2, h3, h4⟩ := J
  have key : ∀ (r i b : Nat), i + r = plc (s (120 + j)) → ((b = 1 ∧ ∃ k, k < i ∧ cOn s j n k = c) ∨ (b = 0 ∧ ∀ k, k < i → ¬ cOn s j n k = c)) → wl_X7_shows_5 κ Q X (r + 1) v (nI n) (some (ca c)) (nI b) (nI i) h := by
    intro r
    induction r with
    | zero =>
      intro i b hi hb
      show wb_X7_shows_5 κ _ Q X v (nI n) (some (ca c)) (nI b) (nI i) h
      unfold wb_X7_shows_5
      refine gs_GR h1 rfl (bd_places B (I.2.2.2.1 j hj) ⟨fun _ => ?_, fun z => absurd (nI_le (by omega) (n31 (by omega))) z⟩)
      rcases hb with ⟨rfl, k, hk, e⟩ | ⟨rfl, hb⟩
      · exact ⟨nb1, k1 ⟨k, by omega, e⟩⟩
      · exact ⟨nb0, k0 (fun ⟨k, hk, e⟩ => hb k (by omega) e)⟩
    | succ r ih =>
      intro i b hi hb
      show wb_X7_shows_5 κ (wl_X7_shows_5 κ Q X (r + 1)) Q X v (nI n) (some (ca c)) (nI b) (nI i) h
      unfold wb_X7_shows_5 wb_X7_shows_34
      have hcc := cOn12 I (show j < 4 by omega) hw hn (k := i) (by omega)
      refine gs_GR h1 rfl (bd_places B (I.2.2.2.1 j hj) ⟨fun z => absurd z (nI_ge (by omega) (n31 (by omega))), fun _ => gs_RC h1 (jb_contentAt J0 B C I hj hw hn (by omega) ⟨fun e => ?_, fun e => ?_⟩)⟩)
      · have e1 : cOn s j n i = c := C.inj hcc hc (Option.some.inj e)
        have e2 : nI b ||| 1 = nI 1 := by rcases hb with ⟨rfl, -⟩ | ⟨rfl, -⟩ <;> rfl
        rw [e2, nI_1]
        exact ih (i + 1) 1 (by omega) (Or.inl ⟨rfl, i, by omega, e1⟩)
      · have e1 : ¬ cOn s j n i = c := fun w => e (by rw [w])
        have e2 : nI b ||| 0 = nI b := by rcases hb with ⟨rfl, -⟩ | ⟨rfl, -⟩ <;> rfl
        rw [e2, nI_1]
        refine ih (i + 1) b (by omega) ?_
        rcases hb with ⟨hb, k, hk, w⟩ | ⟨hb, w⟩
        · exact Or.inl ⟨hb, k, by omega, w⟩
        · exact Or.inr ⟨hb, lt_or_at w e1⟩
  unfold wp_X7_shows
  exact ⟨_, key _ 0 0 (Nat.zero_add _) (Or.inr ⟨rfl, fun k hk => absurd hk (Nat.not_lt_zero k)⟩)⟩
/-- all that a sheet shows is approved -/
def appr (s : Nat → Nat) (j n : Nat) : Prop := ∀ k, k < plc (s (120 + j)) → s (340 + cOn s j n k) = 1
theorem jb_isApproved {n : Nat} {Q : Int32 → gh_H → Prop} (J : JP κ bd ca pr s j v h) (B : BD bd h) (C : CP ca s h) (I : IV s) (hj : j < s 2) (hw : whole s j) (hn : n < cnt s j) (k1 : appr s j n → Q 1 h) (k0 : ¬ appr s j n → Q 0 h) : wp_X7_isApproved κ v (nI n) Q X h := by
  have hj4 := I.2.1
  have h24 := plc_24 (s (120 + j))
  have J0 := J
  obtain ⟨ag, ai, pa, h1, h2, h3, h4⟩ := J
  have key : ∀ (r i b : Nat), i + r = plc (s (120 + j)) → ((b = 1 ∧ ∀ k, k < i → s (340 + cOn s j n k) = 1) ∨ (b = 0 ∧ ∃ k, k < i ∧ ¬ s (340 + cOn s j n k) = 1)) → wl_X7_isApproved_4 κ Q X (r + 1) v (nI n) (nI b) (nI i) h := by
    intro r
    induction r with
    | zero =>
      intro i b hi hb
      show wb_X7_isApproved_4 κ _ Q X v (nI n) (nI b) (nI i) h
      unfold wb_X7_isApproved_4
      refine gs_GR h1 rfl (bd_places B (I.2.2.2.1 j hj) ⟨fun _ => ?_, fun z => absurd (nI_le (by omega) (n31 (by omega))) z⟩)
      rcases hb with ⟨rfl, hb⟩ | ⟨rfl, k, hk, e⟩
      · exact ⟨nb1, k1 (fun k hk => hb k (by omega))⟩
      · exact ⟨nb0, k0 (fun w => e (w k (by omega)))⟩
    | succ r ih =>
      intro i b hi hb
      show wb_X7_isApproved_4 κ (wl_X7_isApproved_4 κ Q X (r + 1)) Q X v (nI n) (nI b) (nI i) h
      unfold wb_X7_isApproved_4
      have hcc := cOn12 I (show j < 4 by omega) hw hn (k := i) (by omega)
      have hs1 := I.1
      have ha := (I.2.2.2.2.2.1 (cOn s j n i) (by omega)).2
      refine gs_GR h1 rfl (bd_places B (I.2.2.2.1 j hj) ⟨fun z => absurd z (nI_ge (by omega) (n31 (by omega))), fun _ => gs_RC h1 (jb_contentAt J0 B C I hj hw hn (by omega) (gs_GI (C _ hcc) rfl ?_))⟩)
      rw [nI_1]
      rcases (show s (340 + cOn s j n i) = 0 ∨ s (340 + cOn s j n i) = 1 by omega) with e | e
      · have e2 : nI b &&& nI (s (340 + cOn s j n i)) = nI 0 := by rw [e]; rcases hb with ⟨rfl, -⟩ | ⟨rfl, -⟩ <;> rfl
        rw [e2]
        exact ih (i + 1) 0 (by omega) (Or.inr ⟨rfl, i, by omega, by omega⟩)
      · have e2 : nI b &&& nI (s (340 + cOn s j n i)) = nI b := by rw [e]; rcases hb with ⟨rfl, -⟩ | ⟨rfl, -⟩ <;> rfl
        rw [e2]
        refine ih (i + 1) b (by omega) ?_
        rcases hb with ⟨hb, w⟩ | ⟨hb, k, hk, w⟩
        · exact Or.inl ⟨hb, lt_or_at w e⟩
        · exact Or.inr ⟨hb, k, by omega, w⟩
  unfold wp_X7_isApproved
  exact ⟨_, key _ 0 1 (Nat.zero_add _) (Or.inl ⟨rfl, fun k hk => absurd hk (Nat.not_lt_zero k)⟩)⟩
theorem JP.pile {n w : Nat} {Q : gh_H → Prop} (J : JP κ bd ca pr s j v h) (hp : s (130 + j) ≤ 16) (hj : j < 4) (hn : n < 8) (k : ∀ q : Nat, h q = some (105 + 100 * j + n, .inr (3, [.long (lN (s (300 + (8 * j + n)))), va_rf (some pr)])) → JP κ bd ca pr (sU s (300 + (8 * j + n)) w) j v (gh_up h q (105 + 100 * j + n, .inr (3, [.long (lN w), va_rf (some pr)]))) → Q h) : Q h := by
  obtain ⟨ag, ai, pa, h1, h2, h3, h4⟩ := J
  have hq := h4 n hn
  have o : Only (fun t => t = 105 + 100 * j + n) h (gh_up h (pa n) (105 + 100 * j + n, .inr (3, [.long (lN w), va_rf (some pr)]))) := Only.up hq rfl
  have ej : jpg ca (sU s (300 + (8 * j + n)) w) j = jpg ca s j := by
    unfold jpg
    rw [sU_ne (show 130 + j ≠ 300 + (8 * j + n) by omega)]
    refine List.map_congr_left (fun i hi => ?_)
    have := List.mem_range.mp hi
    rw [sU_ne (by omega)]
  refine k (pa n) hq ⟨ag, ai, pa, ?_, ?_, ?_, fun i hi => ?_⟩
  · rw [sU_ne (show 120 + j ≠ 300 + (8 * j + n) by omega)]
    exact o _ _ _ h1 (by omega)
  · rw [ej]
    exact h2.keep o (by omega) (by omega)
  · exact h3.keep o (by omega) (by omega)
  · by_cases e : i = n
    · subst e
      rw [gu_self, sU_self]
    · rw [sU_ne (by omega)]
      exact o _ _ _ (h4 i hi) (by omega)
end
