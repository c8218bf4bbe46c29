/-! PLAIN LAW, part D: the desk's contents and jobs -/
set_option maxRecDepth 100000
def bx (b : Nat) : Nat := if b = 115 then 0 else if b = 112 then 1 else 2
def okB (b : Nat) : Prop := b = 115 ∨ b = 112 ∨ b = 119
/-- the three bindings -/
def BD (bd : Nat → Nat) (h : gh_H) : Prop := h (bd 0) = some (0, .inr (16, [.int (nI 115), .int (nI 4)])) ∧ h (bd 1) = some (0, .inr (17, [.int (nI 112), .int (nI 4)])) ∧ h (bd 2) = some (0, .inr (18, [.int (nI 119), .int (nI 2)]))
/-- the contents -/
def CP (ca s : Nat → Nat) (h : gh_H) : Prop := ∀ c, c < s 1 → h (ca c) = some (70 + c, .inr (4, [.int (nI c), .int (nI (s (100 + c))), .int (nI (s (340 + c)))]))
def jpg (ca s : Nat → Nat) (j : Nat) : List Nat := (List.range (s (130 + j))).map (fun i => ca (s (200 + (16 * j + i))))
/-- job j, at v; pr: the counter of the printed sheets -/
def JP (κ bd ca : Nat → Nat) (pr : Nat) (s : Nat → Nat) (j v : Nat) (h : gh_H) : Prop := ∃ (ag ai : Nat) (pa : Nat → Nat), h v = some (100 + 100 * j, .inr (7, [va_rf (some (bd (bx (s (120 + j))))), va_rf (some ag), va_rf (some ai)])) ∧ GL κ (101 + 100 * j) ag (jpg ca s j) h ∧ GL κ (103 + 100 * j) ai ((List.range 8).map pa) h ∧ ∀ n, n < 8 → h (pa n) = some (105 + 100 * j + n, .inr (3, [.long (lN (s (300 + (8 * j + n)))), va_rf (some pr)]))
theorem BD.keep {bd : Nat → Nat} {h h' : gh_H} {S : Nat → Prop} (B : BD bd h) (o : Only S h h') (n : ¬ S 0) : BD bd h' := ⟨o _ _ _ B.1 n, o _ _ _ B.2.1 n, o _ _ _ B.2.2 n⟩
theorem CP.keep {ca s : Nat → Nat} {h h' : gh_H} {S : Nat → Prop} (C : CP ca s h) (o : Only S h h') (hs : s 1 ≤ 12) (n : ∀ t, 70 ≤ t → t < 82 → ¬ S t) : CP ca s h' := fun c hc => o _ _ _ (C c hc) (n _ (by omega) (by omega))
theorem JP.keep {κ bd ca : Nat → Nat} {pr : Nat} {s : Nat → Nat} {j v : Nat} {h h' : gh_H} {S : Nat → Prop} (J : JP κ bd ca pr s j v h) (o : Only S h h') (n : ∀ t, 100 + 100 * j ≤ t → t < 200 + 100 * j → ¬ S t) : JP κ bd ca pr s j v h' := by
  obtain ⟨ag, ai, pa, h1, h2, h3, h4⟩ := J
  exact ⟨ag, ai, pa, o _ _ _ h1 (n _ (by omega) (by omega)), h2.keep o (n _ (by omega) (by omega)) (n _ (by omega) (by omega)), h3.keep o (n _ (by omega) (by omega)) (n _ (by omega) (by omega)), fun k hk => o _ _ _ (h4 k hk) (n _ (by omega) (by omega))⟩
theorem jpg_len {ca s : Nat → Nat} {j : Nat} : (jpg ca s j).length = s (130 + j) := by
  unfold jpg
  rw [List.length_map, List.length_range]
theorem jpg_at {ca s : Nat → Nat} {j i : Nat} (h : i < (jpg ca s j).length) : (jpg ca s j)[i] = ca (s (200 + (16 * j + i))) := by
  simp only [jpg, List.getElem_map, List.getElem_range]
theorem CP.inj {ca s : Nat → Nat} {h : gh_H} (C : CP ca s h) {c d : Nat} (hc : c < s 1) (hd : d < s 1) (e : ca c = ca d) : c = d := by
  have h1 := C c hc
  rw [e, C d hd] at h1
  have : 70 + d = 70 + c := congrArg Prod.fst (Option.some.inj h1)
  omega
theorem bd_places {bd : Nat → Nat} {b : Nat} {h : gh_H} {K : Int32 → Prop} (B : BD bd h) (hb : okB b) (k : K (nI (plc b))) : gh_GI h (some (bd (bx b))) [(16, 1), (17, 1), (18, 1)] K := by
  rcases hb with rfl | rfl | rfl
  · exact gs_GIm (ci := 16) (k := 1) B.1 (by decide) rfl k
  · exact gs_GIm (ci := 17) (k := 1) B.2.1 (by decide) rfl k
  · exact gs_GIm (ci := 18) (k := 1) B.2.2 (by decide) rfl k
section
variable {κ bd ca : Nat → Nat} {pr j v : Nat} {s : Nat → Nat} {h : gh_H} {X : String → gh_H → Prop}
theorem jb_isComplete {Q : Int32 → gh_H → Prop} (J : JP κ bd ca pr s j v h) (B : BD bd h) (I : IV s) (hj : j < s 2) (k1 : whole s j → Q 1 h) (k0 : ¬ whole s j → Q 0 h) : wp_X7_isComplete κ v Q X h := by
  obtain ⟨ag, ai, pa, h1, ⟨mc, h2⟩, h3, h4⟩ := J
  have hj4 := I.2.1
  have hb := (I.2.2.1 j (by omega)).2
  have hr := mp_rem hb (plc_24 (s (120 + j)))
  have L := h2.lr
  obtain ⟨al, hal, -⟩ := id L
  unfold wp_X7_isComplete wb_X7_isComplete_36 wb_X7_isComplete_37
  refine gs_GR h1 rfl (gs_RC hal (ls_isEmpty L (fun e => ⟨(fun z => by cases z), fun _ => ⟨nb0, k0 (fun w => ?_)⟩⟩) (fun e => ⟨fun _ => ?_, fun z => absurd rfl z⟩)))
  · have := congrArg List.length e
    rw [jpg_len] at this
    have := w.1
    simp at *
    omega
  · have hpos : 0 < s (130 + j) := by
      have := List.length_pos_iff.mpr e
      rw [jpg_len] at this
      exact this
    refine gs_GR h1 rfl (gs_RC hal (ls_size L (gs_GR h1 rfl (bd_places B (I.2.2.2.1 j hj) ?_))))
    rw [jpg_len]
    exact ⟨hr.2, fun w => ⟨nb1, k1 ⟨hpos, hr.1.mp w⟩⟩, fun w => ⟨nb0, k0 (fun y => w (hr.1.mpr y.2))⟩⟩
theorem jb_sheets {Q : Int32 → gh_H → Prop} (J : JP κ bd ca pr s j v h) (B : BD bd h) (I : IV s) (hj : j < s 2) (k : Q (nI (cnt s j)) h) : wp_X7_sheets κ v Q X h := by
  obtain ⟨ag, ai, pa, h1, ⟨mc, h2⟩, h3, h4⟩ := J
  have hj4 := I.2.1
  have hb := (I.2.2.1 j (by omega)).2
  have hp := plc_24 (s (120 + j))
  have L := h2.lr
  obtain ⟨al, hal, -⟩ := id L
  unfold wp_X7_sheets
  refine gs_GR h1 rfl (gs_RC hal (ls_size L (gs_GR h1 rfl (bd_places B (I.2.2.2.1 j hj) ⟨(mp_rem hb hp).2, ?_⟩))))
  rw [jpg_len, show nI (s (130 + j)) / nI (plc (s (120 + j))) = nI (cnt s j) from pk_div (by omega) (by omega) (by omega)]
  exact k
theorem jb_pageAt {n k : Nat} {Q : Int32 → gh_H → Prop} (J : JP κ bd ca pr s j v h) (B : BD bd h) (I : IV s) (hj : j < s 2) (hw : whole s j) (hn : n < cnt s j) (hk : k < plc (s (120 + j))) (kk : Q (nI (pgOn (s (120 + j)) (s (130 + j)) n k)) h) : wp_X7_pageAt κ v (nI n) (nI k) Q X h := by
  obtain ⟨ag, ai, pa, h1, ⟨mc, h2⟩, h3, h4⟩ := J
  have hj4 := I.2.1
  have hb := (I.2.2.1 j (by omega)).2
  have hc8 := cnt8 I (show j < 4 by omega)
  have hp := plc_24 (s (120 + j))
  have L := h2.lr
  obtain ⟨al, hal, -⟩ := id L
  have e2 : (2 : Int32) * nI n = nI (2 * n) := pk_mul 2 n
  have e4 : (4 : Int32) * nI n = nI (4 * n) := pk_mul 4 n
  unfold wp_X7_pageAt wb_X7_pageAt_18
  refine gs_GR h1 rfl (gs_GR h1 rfl (gs_RC hal (ls_size L ?_)))
  rw [jpg_len]
  rcases I.2.2.2.1 j hj with e | e | e
  · have ebx : bx (s (120 + j)) = 0 := by rw [e]; rfl
    have epl : plc (s (120 + j)) = 4 := by rw [e]; rfl
    have hw2 := hw.2
    unfold cnt at hn
    rw [epl] at hw2 hn hk
    rw [ebx]
    refine Or.inl (gs_RC B.1 ?_)
    unfold wp_X11_pageAt
    rw [e2]
    unfold pgOn at kk
    rw [e, if_neg (by decide), if_neg (by decide)] at kk
    have es : nI (s (130 + j)) - nI (2 * n) = nI (s (130 + j) - 2 * n) := pk_sub (by omega)
    have es1 : nI (s (130 + j) - 2 * n) - 1 = nI (s (130 + j) - 2 * n - 1) := pk_sub (b := 1) (by omega)
    rw [es, es1, nI_add]
    rcases (show k = 0 ∨ k = 1 ∨ k = 2 ∨ k = 3 by omega) with rfl | rfl | rfl | rfl
    · exact ⟨fun _ => kk, (fun z => by cases z), fun z => absurd rfl z.1⟩
    · exact ⟨(fun z => by cases z), (fun z => by cases z), fun z => kk⟩
    · exact ⟨(fun z => by cases z), (fun z => by cases z), fun z => kk⟩
    · exact ⟨(fun z => by cases z), fun _ => kk, fun z => absurd rfl z.2⟩
  · have ebx : bx (s (120 + j)) = 1 := by rw [e]; rfl
    rw [ebx]
    refine Or.inr (Or.inl (gs_RC B.2.1 ?_))
    unfold wp_X12_pageAt wb_X12_pageAt_12
    rw [e4]
    unfold pgOn at kk
    rw [e, if_neg (by decide), if_pos rfl] at kk
    rw [nI_add, show nI (4 * n) + 4 = nI (4 * n + 4) from nI_add _ 4]
    refine ⟨fun z => ?_, fun z => ?_⟩
    · rw [if_pos ((nI_eq (b := 0) (n31 (by omega)) (by decide)).mp z)] at kk
      exact kk
    · rw [if_neg (fun w => z (congrArg nI w))] at kk
      exact kk
  · have ebx : bx (s (120 + j)) = 2 := by rw [e]; rfl
    rw [ebx]
    refine Or.inr (Or.inr (gs_RC B.2.2 ?_))
    unfold wp_X13_pageAt
    unfold pgOn at kk
    rw [e, if_pos rfl] at kk
    rw [e2, nI_add, nI_1]
    rw [show 2 * n + 1 + k = 2 * n + k + 1 by omega] at kk
    exact kk
theorem jb_contentAt {n k : Nat} {Q : Option Nat → gh_H → Prop} (J : JP κ bd ca pr s j v h) (B : BD bd h) (C : CP ca s h) (I : IV s) (hj : j < s 2) (hw : whole s j) (hn : n < cnt s j) (hk : k < plc (s (120 + j))) (kk : Q (some (ca (cOn s j n k))) h) : wp_X7_contentAt κ v (nI n) (nI k) Q X h := by
  have J0 := J
  obtain ⟨ag, ai, pa, h1, ⟨mc, h2⟩, h3, h4⟩ := J
  have hj4 := I.2.1
  have hg := pg16 I (show j < 4 by omega) hw hn hk
  have hc := cOn12 I (show j < 4 by omega) hw hn hk
  have L := h2.lr
  obtain ⟨al, hal, -⟩ := id L
  unfold wp_X7_contentAt
  refine gs_GR h1 rfl (gs_RC h1 (jb_pageAt J0 B I hj hw hn hk (gs_RC hal ?_)))
  rw [show nI (pgOn (s (120 + j)) (s (130 + j)) n k) - 1 = nI (pgOn (s (120 + j)) (s (130 + j)) n k - 1) from pk_sub (b := 1) hg.1]
  refine ls_get L (by rw [jpg_len]; omega) ?_
  rw [jpg_at, show 16 * j + (pgOn (s (120 + j)) (s (130 + j)) n k - 1) = 16 * j + pgOn (s (120 + j)) (s (130 + j)) n k - 1 by omega]
  exact gs_CK (C _ hc) (by decide) kk
theorem jb_plate {n k : Nat} {Q : Int32 → gh_H → Prop} (J : JP κ bd ca pr s j v h) (B : BD bd h) (C : CP ca s h) (I : IV s) (hj : j < s 2) (hw : whole s j) (hn : n < cnt s j) (hk : k ≤ 1) (kk : Q (nI (dPl s j n k)) h) : wp_X7_plate κ v (nI n) (nI k) Q X h := by
  have J0 := J
  obtain ⟨ag, ai, pa, h1, h2, h3, h4⟩ := J
  have hj4 := I.2.1
  unfold wp_X7_plate wb_X7_plate_56 wp_X4_sign
  refine gs_GR h1 rfl (bd_places B (I.2.2.2.1 j hj) ⟨(by decide), gs_RC h1 ?_⟩)
  by_cases e : s (120 + j) = 119
  · have hp : plc (s (120 + j)) = 2 := if_pos e
    have hc := cOn12 I (show j < 4 by omega) hw hn (k := k) (by omega)
    rw [hp]
    have e1 : nI k * (nI 2 / 2) = nI k := by
      rw [show nI 2 / 2 = nI 1 from rfl, pk_mul, Nat.mul_one]
    rw [e1]
    refine jb_contentAt J0 B C I hj hw hn (by omega) (gs_RC (C _ hc) (gs_GI (C _ hc) rfl (gs_GI (C _ hc) rfl ⟨fun _ => ?_, fun z => absurd rfl z⟩)))
    unfold dPl cdN at kk
    rw [if_pos e] at kk
    rw [show (100 : Int32) * nI (cOn s j n k) = nI (100 * cOn s j n k) from pk_mul 100 _, nI_add, show (1440000 : Int32) = nI 1440000 from rfl, nI_add]
    exact kk
  · have hp : plc (s (120 + j)) = 4 := if_neg e
    have hc := cOn12 I (show j < 4 by omega) hw hn (k := 2 * k) (by omega)
    have hc2 := cOn12 I (show j < 4 by omega) hw hn (k := 2 * k + 1) (by omega)
    rw [hp]
    have e1 : nI k * (nI 4 / 2) = nI (2 * k) := by
      rw [show nI 4 / 2 = nI 2 from rfl, pk_mul, Nat.mul_comm]
    rw [e1, nI_1]
    refine jb_contentAt J0 B C I hj hw hn (by omega) (gs_RC (C _ hc) (gs_GI (C _ hc) rfl (gs_GI (C _ hc) rfl ⟨(fun z => by cases z), fun _ => gs_RC h1 ?_⟩)))
    refine jb_contentAt J0 B C I hj hw hn (by omega) (gs_RC (C _ hc2) (gs_GI (C _ hc2) rfl (gs_GI (C _ hc2) rfl ?_)))
    unfold dPl cdN at kk
    rw [if_neg e] at kk
    rw [show (100 : Int32) * nI (cOn s j n (2 * k)) = nI (100 * cOn s j n (2 * k)) from pk_mul 100 _, nI_add, show (100 : Int32) * nI (cOn s j n (2 * k + 1)) = nI (100 * cOn s j n (2 * k + 1)) from pk_mul 100 _, nI_add, show (1200 : Int32) * nI (100 * cOn s j n (2 * k) + s (100 + cOn s j n (2 * k))) = nI (1200 * (100 * cOn s j n (2 * k) + s (100 + cOn s j n (2 * k)))) from pk_mul 1200 _, nI_add]
    exact kk
end
