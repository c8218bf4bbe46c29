/-! PLAIN LAW, part F: taking sheets off, what a job lacks -/
set_option maxRecDepth 100000
/-- alike but for the stocks -/
def sZ (s s' : Nat → Nat) : Prop := ∀ i, (i < 300 ∨ 332 ≤ i) → s' i = s i
theorem tkS_sZ {sel : Nat → Bool} {j r : Nat} {s : Nat → Nat} (hj : j < 4) (hr : r ≤ 8) : sZ s (tkS sel j s r) := fun i hi => tkS_out (by omega)
theorem sZ_whole {s s' : Nat → Nat} (q : sZ s s') {j : Nat} (hj : j < 4) : whole s' j ↔ whole s j := by
  unfold whole
  rw [q _ (by omega), q _ (by omega)]
theorem sZ_cnt {s s' : Nat → Nat} (q : sZ s s') {j : Nat} (hj : j < 4) : cnt s' j = cnt s j := by
  unfold cnt
  rw [q _ (by omega), q _ (by omega)]
theorem sZ_IV {s s' : Nat → Nat} (q : sZ s s') (h : ∀ i, i < 32 → s' (300 + i) ≤ 9999) (I : IV s) : IV s' := by
  unfold IV
  rw [q 1 (by omega), q 2 (by omega), q 10 (by omega), q 11 (by omega)]
  have h2 := I.2.1
  refine ⟨I.1, I.2.1, fun j hj => ?_, fun j hj => ?_, fun j i hj hi => ?_, fun c hc => ?_, h, I.2.2.2.2.2.2.2.1, I.2.2.2.2.2.2.2.2⟩
  · rw [q _ (by omega), q _ (by omega)]
    exact I.2.2.1 j hj
  · rw [q _ (by omega)]
    exact I.2.2.2.1 j hj
  · rw [q _ (by omega)] at hi
    have := (I.2.2.1 j hj).2
    rw [q _ (by omega)]
    exact I.2.2.2.2.1 j i hj hi
  · rw [q _ (by omega), q _ (by omega)]
    exact I.2.2.2.2.2.1 c hc
theorem tkS_le {sel : Nat → Bool} {j : Nat} {s : Nat → Nat} (h : ∀ i, i < 32 → s (300 + i) ≤ 9999) : ∀ (r : Nat), ∀ i, i < 32 → tkS sel j s r (300 + i) ≤ 9999
  | 0 => h
  | r + 1 => fun i hi => by
    unfold tkS
    split
    · unfold sU
      split
      · omega
      · exact tkS_le h r i hi
    · exact tkS_le h r i hi
theorem tkS_IV {sel : Nat → Bool} {j r : Nat} {s : Nat → Nat} (I : IV s) (hj : j < 4) (hr : r ≤ 8) : IV (tkS sel j s r) := sZ_IV (tkS_sZ hj hr) (tkS_le I.2.2.2.2.2.2.1 r) I
theorem sZ_CP {ca s s' : Nat → Nat} {h : gh_H} (q : sZ s s') (hs : s 1 ≤ 12) (C : CP ca s h) : CP ca s' h := by
  intro c hc
  rw [q 1 (by omega)] at hc
  rw [q _ (by omega), q _ (by omega)]
  exact C c hc
theorem sZ_cOn {s s' : Nat → Nat} (q : sZ s s') {j n k : Nat} (hj : j < 4) (hp : s (130 + j) ≤ 16) (hg : pgOn (s (120 + j)) (s (130 + j)) n k ≤ s (130 + j)) : cOn s' j n k = cOn s j n k := by
  unfold cOn
  rw [q (120 + j) (by omega), q (130 + j) (by omega), q _ (by omega)]
theorem sZ_shown {s s' : Nat → Nat} (q : sZ s s') {j n c : Nat} (I : IV s) (hj : j < 4) (hw : whole s j) (hn : n < cnt s j) : shown s' j n c ↔ shown s j n c := by
  unfold shown
  rw [q (120 + j) (by omega)]
  constructor
  · rintro ⟨k, hk, e⟩
    have hg := pg16 I hj hw hn hk
    rw [sZ_cOn q hj hg.2.2 hg.2.1] at e
    exact ⟨k, hk, e⟩
  · rintro ⟨k, hk, e⟩
    have hg := pg16 I hj hw hn hk
    rw [← sZ_cOn q hj hg.2.2 hg.2.1] at e
    exact ⟨k, hk, e⟩
/-- how many sheets a job has, none if it isn't complete -/
def nSh (s : Nat → Nat) (j : Nat) : Nat := if 0 < s (130 + j) ∧ s (130 + j) % plc (s (120 + j)) = 0 then cnt s j else 0
theorem nSh_w {s : Nat → Nat} {j : Nat} (h : whole s j) : nSh s j = cnt s j := if_pos h
theorem nSh_n {s : Nat → Nat} {j : Nat} (h : ¬ whole s j) : nSh s j = 0 := if_neg h
theorem nSh_8 {s : Nat → Nat} {j : Nat} (I : IV s) (hj : j < 4) : nSh s j ≤ 8 := by
  unfold nSh
  split
  · exact cnt8 I hj
  · omega
/-- a job's labels -/
def Jo (j t : Nat) : Prop := 100 + 100 * j ≤ t ∧ t < 200 + 100 * j
section
variable {κ bd ca : Nat → Nat} {pr j v : Nat} {s : Nat → Nat} {h : gh_H} {X : String → gh_H → Prop}
theorem JPx_pile {ag ai n w : Nat} {pa : Nat → Nat} (J : h v = some (100 + 100 * j, .inr (7, [va_rf (some (bd (bx (s (120 + j))))), va_rf (some ag), va_rf (some ai)])) ∧ GL κ (101 + 100 * j) ag (jpg ca s j) h ∧ GL κ (103 + 100 * j) ai ((List.range 8).map pa) h ∧ ∀ n, n < 8 → h (pa n) = some (105 + 100 * j + n, .inr (3, [.long (lN (s (300 + (8 * j + n)))), va_rf (some pr)]))) (hp : s (130 + j) ≤ 16) (hj : j < 4) (hn : n < 8) : JP κ bd ca pr (sU s (300 + (8 * j + n)) w) j v (gh_up h (pa n) (105 + 100 * j + n, .inr (3, [.long (lN w), va_rf (some pr)]))) := by
  obtain ⟨h1, h2, h3, h4⟩ := J
  have hq := h4 n hn
  have o : Only (fun t => t = 105 + 100 * j + n) h (gh_up h (pa n) (105 + 100 * j + n, .inr (3, [.long (lN w), va_rf (some pr)]))) := Only.up hq rfl
  have ej : jpg ca (sU s (300 + (8 * j + n)) w) j = jpg ca s j := by
    unfold jpg
    rw [sU_ne (show 130 + j ≠ 300 + (8 * j + n) by omega)]
    refine List.map_congr_left (fun i hi => ?_)
    have := List.mem_range.mp hi
    rw [sU_ne (by omega)]
  refine ⟨ag, ai, pa, ?_, ?_, ?_, fun i hi => ?_⟩
  · rw [sU_ne (show 120 + j ≠ 300 + (8 * j + n) by omega)]
    exact o _ _ _ h1 (by omega)
  · rw [ej]
    exact h2.keep o (by omega) (by omega)
  · exact h3.keep o (by omega) (by omega)
  · by_cases e : i = n
    · subst e
      rw [gu_self, sU_self]
    · rw [sU_ne (by omega)]
      exact o _ _ _ (h4 i hi) (by omega)
theorem jb_takeOff {ov : Option Nat} {sel : Nat → Bool} {Q : Int32 → gh_H → Prop} (J : JP κ bd ca pr s j v h) (B : BD bd h) (C : CP ca s h) (I : IV s) (hj : j < s 2) (hsel : (ov = none ∧ ∀ n, sel n = true) ∨ ∃ c, c < s 1 ∧ ov = some (ca c) ∧ ∀ n, sel n = shownB s j n c)
    (k : ∀ h', Only (Jo j) h h' → JP κ bd ca pr (tkS sel j s (nSh s j)) j v h' → Q (nI (tkN sel j s (nSh s j))) h') : wp_X7_takeOff κ v ov Q X h := by
  have hj4 : j < 4 := Nat.lt_of_lt_of_le hj I.2.1
  have hs8 := nSh_8 I hj4
  have key : ∀ (r i : Nat) (h1 : gh_H), i + r = nSh s j → Only (Jo j) h h1 → JP κ bd ca pr (tkS sel j s i) j v h1 → wl_X7_takeOff_4 κ Q X (r + 1) v ov (nI (tkN sel j s i)) (nI i) h1 := by
    intro r
    induction r with
    | zero =>
      intro i h1 hi o J1
      have q := tkS_sZ (sel := sel) (s := s) hj4 (show i ≤ 8 by omega)
      have I1 := tkS_IV (sel := sel) I hj4 (show i ≤ 8 by omega)
      have B1 := B.keep o (by unfold Jo; omega)
      obtain ⟨ag, ai, pa, e1, -⟩ := id J1
      have ei : nSh s j = i := by omega
      rw [ei] at k
      show wb_X7_takeOff_4 κ _ Q X v ov _ (nI i) h1
      unfold wb_X7_takeOff_4 wb_X7_takeOff_61
      refine gs_RC e1 (jb_isComplete J1 B1 I1 (by rw [q 2 (by omega)]; exact hj) (fun w => ⟨(fun z => by cases z), fun _ => gs_RC e1 (jb_sheets J1 B1 I1 (by rw [q 2 (by omega)]; exact hj) ⟨fun _ => k h1 o J1, fun z => absurd ?_ z⟩)⟩) (fun w => ⟨fun _ => k h1 o J1, fun z => absurd rfl z⟩))
      have hw : whole s j := (sZ_whole q hj4).mp w
      rw [sZ_cnt q hj4]
      have := nSh_w hw
      exact nI_le (by omega) (n31 (by omega))
    | succ r ih =>
      intro i h1 hi o J1
      have hw : whole s j := by
        refine Classical.byContradiction (fun w => ?_)
        have := nSh_n w
        omega
      have hc := nSh_w hw
      have q := tkS_sZ (sel := sel) (s := s) hj4 (show i ≤ 8 by omega)
      have I1 := tkS_IV (sel := sel) I hj4 (show i ≤ 8 by omega)
      have B1 := B.keep o (by unfold Jo; omega)
      have C1 : CP ca (tkS sel j s i) h1 := sZ_CP q I.1 (C.keep o I.1 (by unfold Jo; omega))
      have hj1 : j < tkS sel j s i 2 := by rw [q 2 (by omega)]; exact hj
      have hw1 : whole (tkS sel j s i) j := (sZ_whole q hj4).mpr hw
      have hc1 := sZ_cnt q hj4
      obtain ⟨ag, ai, pa, e1, e2, ⟨mc, e3⟩, e4⟩ := id J1
      have hp16 := (I1.2.2.1 j hj4).2
      show wb_X7_takeOff_4 κ (wl_X7_takeOff_4 κ Q X (r + 1)) Q X v ov _ (nI i) h1
      unfold wb_X7_takeOff_4
      have L := e3.lr
      obtain ⟨al, hal, -⟩ := id L
      have sv : tkS sel j s i (300 + (8 * j + i)) = s (300 + (8 * j + i)) := tkS_out (by omega)
      have htk := tkN_le (sel := sel) I.2.2.2.2.2.2.1 hj4 i (by omega)
      have hst := I.2.2.2.2.2.2.1 (8 * j + i) (by omega)
      have yes : sel i = true → wb_X7_takeOff_33 κ (wl_X7_takeOff_4 κ Q X (r + 1)) Q X v ov (nI i) (nI (tkN sel j s i)) h1 := by
        intro hy
        unfold wb_X7_takeOff_33 wb_X7_takeOff_53
        refine gs_GR e1 rfl (gs_RC hal (ls_get L (by rw [List.length_map, List.length_range]; omega) ?_))
        rw [List.getElem_map, List.getElem_range]
        have e5 := e4 i (by omega)
        refine gs_CK e5 (by decide) (gs_RC e5 (pl_takeAll e5 (by omega) (n31 (by omega)) ?_))
        rw [sv, nI_add, nI_1]
        have o2 : Only (Jo j) h1 (gh_up h1 (pa i) (105 + 100 * j + i, .inr (3, [.long (lN 0), va_rf (some pr)]))) := Only.up e5 (by unfold Jo; omega)
        have J2 := JPx_pile (w := 0) ⟨e1, e2, ⟨mc, e3⟩, e4⟩ hp16 hj4 (show i < 8 by omega)
        have en : tkN sel j s i + s (300 + (8 * j + i)) = tkN sel j s (i + 1) := by
          show _ = tkN sel j s i + if sel i then s (300 + (8 * j + i)) else 0
          rw [hy]
          rfl
        have es : sU (tkS sel j s i) (300 + (8 * j + i)) 0 = tkS sel j s (i + 1) := by
          show _ = if sel i then sU (tkS sel j s i) (300 + (8 * j + i)) 0 else tkS sel j s i
          rw [hy]
          rfl
        rw [en]
        rw [es] at J2
        exact ih (i + 1) _ (by omega) (o.trans o2) J2
      have no : sel i = false → wb_X7_takeOff_53 κ (wl_X7_takeOff_4 κ Q X (r + 1)) Q X v ov (nI i) (nI (tkN sel j s i)) 0 h1 := by
        intro hy
        unfold wb_X7_takeOff_53
        rw [show nI (tkN sel j s i) + 0 = nI (tkN sel j s i) from nI_add _ 0, nI_1]
        have en : tkN sel j s (i + 1) = tkN sel j s i := by
          show (tkN sel j s i + if sel i then s (300 + (8 * j + i)) else 0) = _
          rw [hy]
          rfl
        have es : tkS sel j s (i + 1) = tkS sel j s i := by
          show (if sel i then sU (tkS sel j s i) (300 + (8 * j + i)) 0 else tkS sel j s i) = _
          rw [hy]
          rfl
        rw [← en]
        rw [← es] at J1
        exact ih (i + 1) h1 (by omega) o J1
      refine gs_RC e1 (jb_isComplete J1 B1 I1 hj1 (fun w => ⟨(fun z => by cases z), fun _ => gs_RC e1 (jb_sheets J1 B1 I1 hj1 ⟨fun z => absurd z (nI_ge (by omega) (n31 (by omega))), fun _ => ?_⟩)⟩) (fun w => absurd hw1 w))
      rcases hsel with ⟨rfl, hs⟩ | ⟨c, hc2, rfl, hs⟩
      · exact ⟨fun _ => yes (hs i), fun z => absurd rfl z⟩
      · refine ⟨(fun z => by cases z), fun _ => gs_RC e1 (jb_shows J1 B1 C1 I1 hj1 hw1 (by omega) (by rw [q 1 (by omega)]; exact hc2) (fun w => ⟨(fun z => by cases z), fun _ => yes ?_⟩) (fun w => ⟨fun _ => no ?_, fun z => absurd rfl z⟩))⟩
        · rw [hs i]
          exact shownB_iff.mpr ((sZ_shown q I hj4 hw (by omega)).mp w)
        · rw [hs i]
          cases hb : shownB s j i c with
          | false => rfl
          | true => exact absurd ((sZ_shown q I hj4 hw (by omega)).mpr (shownB_iff.mp hb)) w
  unfold wp_X7_takeOff
  exact ⟨_, key _ 0 h (Nat.zero_add _) Only.refl J⟩
end
