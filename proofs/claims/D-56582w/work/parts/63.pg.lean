/-! PLAIN LAW, part G: the desk's picture; its first calls -/
set_option maxRecDepth 100000
/-- the desk's number of the model's number -/
def un (m : Nat) : Nat := if m ≤ 1200 then 1440000 + (m - 1) else m - 2000
def prsV (m : Nat) : Int32 := if m = 0 then -1 else nI (un m)
def pbV (bd s : Nat → Nat) : Option Nat := if s 9 = 0 then none else some (bd (bx (s 9)))
def DKf (bd A s : Nat → Nat) : List Value := [va_rf (some (A 0)), va_rf (some (A 1)), va_rf (some (A 2)), va_rf (some (A 3)), va_rf (some (A 4)), va_rf (some (A 5)), va_rf (some (A 6)), .int (nI (s 5)), .long (lN (s 6)), va_rf (some (A 7)), va_rf (pbV bd s)]
/-- the log: an event 2c is a correction of content c, 2k + 1 is lot k -/
def EV (ca la : Nat → Nat) (ev xs : List Nat) (h : gh_H) : Prop := xs.length = ev.length ∧ ∀ (i : Nat) (hi : i < ev.length) (hx : i < xs.length), (ev[i] % 2 = 0 → h xs[i] = some (98, .inr (5, [va_rf (some (ca (ev[i] / 2)))]))) ∧ (ev[i] % 2 = 1 → xs[i] = la (ev[i] / 2))
/-- the content at a place of a lot -/
def lCt (s : Nat → Nat) (k i : Nat) : Nat := s (200 + (16 * s (500 + k) + i))
def LOT (κ ca la s : Nat → Nat) (k : Nat) (h : gh_H) : Prop := ∃ (ac ar : Nat) (f : Nat → Int32), h (la k) = some (1000 + 10 * k, .inr (6, [.int (nI (s (600 + k))), va_rf (some ac), va_rf (some ar)])) ∧ LR κ (1001 + 10 * k) ac 0 ((List.range (s (700 + k))).map (fun i => ca (lCt s k i))) h ∧ h ar = some (1003 + 10 * k, .inl (0, s (700 + k), .inl f)) ∧ ∀ i, i < s (700 + k) → f i = nI (s (6000 + (16 * k + i)))
def DP (κ bd ca ja la A : Nat → Nat) (T : Nat → gh_H → Prop) (d : Nat) (s : Nat → Nat) (ev : List Nat) (h : gh_H) : Prop :=
  h d = some (1, .inr (0, DKf bd A s)) ∧ GL κ 2 (A 0) ((List.range (s 1)).map ca) h ∧ CP ca s h ∧ GL κ 4 (A 1) ((List.range (s 2)).map ja) h ∧ (∀ j, j < s 2 → JP κ bd ca (A 5) s j (ja j) h) ∧
  (∃ xs, GL κ 6 (A 2) xs h ∧ EV ca la ev xs h) ∧ GL κ 8 (A 3) ((List.range (s 3)).map la) h ∧ (∀ k, k < s 3 → LOT κ ca la s k h) ∧
  h (A 5) = some (10, .inr (2, [.long (lN (s 11))])) ∧ h (A 6) = some (11, .inr (2, [.long (lN (s 10))])) ∧ (∃ f : Nat → Int32, h (A 7) = some (12, .inl (0, 2, .inl f)) ∧ f 0 = prsV (s 7) ∧ f 1 = prsV (s 8)) ∧ T (A 4) h
/-- what the tree's picture owes: it stands while its own labels (13 .. 17) are kept -/
def TK (T : Nat → gh_H → Prop) : Prop := ∀ (a : Nat) (h h' : gh_H) (S : Nat → Prop), Only S h h' → (¬ S 0) → (∀ t, 13 ≤ t → t ≤ 17 → ¬ S t) → T a h → T a h'
/-- the desk's labels -/
def De (t : Nat) : Prop := (1 ≤ t ∧ t ≤ 17) ∨ (60 ≤ t ∧ t < 82) ∨ 98 ≤ t
theorem LOT.keep {κ ca la s : Nat → Nat} {k : Nat} {h h' : gh_H} {S : Nat → Prop} (L : LOT κ ca la s k h) (o : Only S h h') (n : ∀ t, 1000 ≤ t → ¬ S t) : LOT κ ca la s k h' := by
  obtain ⟨ac, ar, f, h1, h2, h3, h4⟩ := L
  exact ⟨ac, ar, f, o _ _ _ h1 (n _ (by omega)), h2.keep o (n _ (by omega)) (n _ (by omega)), o _ _ _ h3 (n _ (by omega)), h4⟩
theorem EV.keep {ca la : Nat → Nat} {ev xs : List Nat} {h h' : gh_H} {S : Nat → Prop} (E : EV ca la ev xs h) (o : Only S h h') (n : ¬ S 98) : EV ca la ev xs h' :=
  ⟨E.1, fun i hi hx => ⟨fun z => o _ _ _ ((E.2 i hi hx).1 z) n, (E.2 i hi hx).2⟩⟩
theorem DP.keep {κ bd ca ja la A : Nat → Nat} {T : Nat → gh_H → Prop} {d : Nat} {s : Nat → Nat} {ev : List Nat} {h h' : gh_H} {S : Nat → Prop} (P : DP κ bd ca ja la A T d s ev h) (hT : TK T) (I : IV s) (o : Only S h h') (n0 : ¬ S 0) (n : ∀ t, De t → t ≠ 99 → ¬ S t) : DP κ bd ca ja la A T d s ev h' := by
  obtain ⟨p1, p2, p3, p4, p5, ⟨xs, p6, p6b⟩, p7, p8, p9, p10, ⟨f, p11, p12⟩, p13⟩ := P
  have n' : ∀ t, De t → t ≠ 99 → ¬ S t := n
  have q : ∀ t, ((1 ≤ t ∧ t ≤ 17) ∨ (60 ≤ t ∧ t < 82) ∨ t = 98 ∨ 100 ≤ t) → ¬ S t := fun t ht => n t (by unfold De; omega) (by omega)
  exact ⟨o _ _ _ p1 (q _ (by omega)), p2.keep o (q _ (by omega)) (q _ (by omega)), p3.keep o I.1 (fun t h1 h2 => q t (by omega)), p4.keep o (q _ (by omega)) (q _ (by omega)), fun j hj => (p5 j hj).keep o (fun t h1 h2 => q t (by omega)),
    ⟨xs, p6.keep o (q _ (by omega)) (q _ (by omega)), p6b.keep o (q _ (by omega))⟩, p7.keep o (q _ (by omega)) (q _ (by omega)), fun k hk => (p8 k hk).keep o (fun t h1 => q t (by omega)), o _ _ _ p9 (q _ (by omega)), o _ _ _ p10 (q _ (by omega)), ⟨f, o _ _ _ p11 (q _ (by omega)), p12⟩, hT _ _ _ S o n0 (fun t h1 h2 => q t (by omega)) p13⟩
theorem rg_len {f : Nat → Nat} {n : Nat} : ((List.range n).map f).length = n := by rw [List.length_map, List.length_range]
theorem rg_at {f : Nat → Nat} {n i : Nat} (h : i < ((List.range n).map f).length) : ((List.range n).map f)[i] = f i := by simp only [List.getElem_map, List.getElem_range]
theorem rg_succ {f : Nat → Nat} {n : Nat} : (List.range (n + 1)).map f = (List.range n).map f ++ [f n] := by rw [List.range_succ, List.map_append]; rfl
section
variable {κ bd ca ja la A : Nat → Nat} {T : Nat → gh_H → Prop} {d : Nat} {s : Nat → Nat} {ev : List Nat} {h : gh_H} {X : String → gh_H → Prop}
theorem dk_requireIndex {x : Int32} {n : Nat} {Q : gh_H → Prop} (hn : n < 2 ^ 31) (k1 : ∀ c, c < n → x = nI c → Q h) (k0 : x < 0 ∨ nI n ≤ x → X "java/lang/IndexOutOfBoundsException" h) : wp_X1_requireIndex κ x (nI n) Q X h := by
  unfold wp_X1_requireIndex wb_X1_requireIndex_9
  rcases pk_ix x hn with hx | hx | ⟨c, hc, rfl⟩
  · exact ⟨fun _ => k0 (Or.inl hx), fun z => absurd hx z⟩
  · exact ⟨fun _ => k0 (Or.inr hx), fun _ => ⟨fun z => absurd hx (Int32.not_le.mpr z), fun _ => k0 (Or.inr hx)⟩⟩
  · exact ⟨fun z => absurd z (nI_pos (by omega)), fun _ => ⟨fun _ => k1 c hc rfl, fun z => absurd (nI_lt hc hn) z⟩⟩
theorem dk_content {x : Int32} {Q : Option Nat → gh_H → Prop} (P : DP κ bd ca ja la A T d s ev h) (I : IV s) (k1 : ∀ c, c < s 1 → x = nI c → Q (some (ca c)) h) (k0 : x < 0 ∨ nI (s 1) ≤ x → X "java/lang/IndexOutOfBoundsException" h) : wp_X1_contentNumbered κ d x Q X h := by
  obtain ⟨p1, ⟨mc, p2⟩, p3, -⟩ := P
  have h1 := I.1
  have L := p2.lr
  obtain ⟨al, hal, -⟩ := id L
  unfold wp_X1_contentNumbered
  refine gs_GR p1 rfl (gs_RC hal (ls_size L ?_))
  rw [rg_len]
  refine dk_requireIndex (by omega) (fun c hc hx => gs_GR p1 rfl (gs_RC hal ?_)) k0
  rw [hx]
  refine ls_get L (by rw [rg_len]; exact hc) ?_
  rw [rg_at]
  exact gs_CK (p3 c hc) (by decide) (k1 c hc hx)
theorem dk_job {x : Int32} {Q : Option Nat → gh_H → Prop} (P : DP κ bd ca ja la A T d s ev h) (I : IV s) (k1 : ∀ j, j < s 2 → x = nI j → Q (some (ja j)) h) (k0 : x < 0 ∨ nI (s 2) ≤ x → X "java/lang/IndexOutOfBoundsException" h) : wp_X1_jobNumbered κ d x Q X h := by
  obtain ⟨p1, -, -, ⟨mc, p4⟩, p5, -⟩ := P
  have h1 := I.2.1
  have L := p4.lr
  obtain ⟨al, hal, -⟩ := id L
  unfold wp_X1_jobNumbered
  refine gs_GR p1 rfl (gs_RC hal (ls_size L ?_))
  rw [rg_len]
  refine dk_requireIndex (by omega) (fun c hc hx => gs_GR p1 rfl (gs_RC hal ?_)) k0
  rw [hx]
  refine ls_get L (by rw [rg_len]; exact hc) ?_
  rw [rg_at]
  obtain ⟨ag, ai, pa, e1, -⟩ := p5 c hc
  exact gs_CK e1 (by decide) (k1 c hc hx)
theorem dk_state {x : Int32} {Q : Int32 → gh_H → Prop} (P : DP κ bd ca ja la A T d s ev h) (I : IV s) (k1 : ∀ c, c < s 1 → x = nI c → Q (nI (s (100 + c))) h) (k0 : x < 0 ∨ nI (s 1) ≤ x → X "java/lang/IndexOutOfBoundsException" h) : wp_X1_state κ d x Q X h := by
  unfold wp_X1_state
  exact gs_RC P.1 (dk_content P I (fun c hc hx => gs_GI (P.2.2.1 c hc) rfl (k1 c hc hx)) k0)
theorem dk_completeJob {x : Int32} {Q : Option Nat → gh_H → Prop} (P : DP κ bd ca ja la A T d s ev h) (B : BD bd h) (I : IV s) (k1 : ∀ j, j < s 2 → x = nI j → whole s j → Q (some (ja j)) h) (k2 : ∀ j, j < s 2 → x = nI j → ¬ whole s j → X "java/lang/IllegalStateException" h) (k0 : x < 0 ∨ nI (s 2) ≤ x → X "java/lang/IndexOutOfBoundsException" h) : wp_X1_completeJob κ d x Q X h := by
  unfold wp_X1_completeJob
  refine gs_RC P.1 (dk_job P I (fun j hj hx => ?_) k0)
  obtain ⟨ag, ai, pa, e1, -⟩ := id (P.2.2.2.2.1 j hj)
  refine gs_RC e1 (jb_isComplete (P.2.2.2.2.1 j hj) B I hj (fun w => ?_) (fun w => ?_))
  · unfold wp_X1_requireState
    exact ⟨(fun z => by cases z), fun _ => k1 j hj hx w⟩
  · unfold wp_X1_requireState
    exact ⟨fun _ => k2 j hj hx w, fun z => absurd rfl z⟩
theorem dk_sheets {x : Int32} {Q : Int32 → gh_H → Prop} (P : DP κ bd ca ja la A T d s ev h) (B : BD bd h) (I : IV s) (k1 : ∀ j, j < s 2 → x = nI j → whole s j → Q (nI (cnt s j)) h) (k2 : ∀ j, j < s 2 → x = nI j → ¬ whole s j → X "java/lang/IllegalStateException" h) (k0 : x < 0 ∨ nI (s 2) ≤ x → X "java/lang/IndexOutOfBoundsException" h) : wp_X1_sheets κ d x Q X h := by
  unfold wp_X1_sheets
  refine gs_RC P.1 (dk_completeJob P B I (fun j hj hx w => ?_) k2 k0)
  obtain ⟨ag, ai, pa, e1, -⟩ := id (P.2.2.2.2.1 j hj)
  exact gs_RC e1 (jb_sheets (P.2.2.2.2.1 j hj) B I hj (k1 j hj hx w))
end
