/-! PLAIN LAW, part B: iterators, search and copies of lists -/
set_option maxRecDepth 100000
/-- an iterator (label 99) that stands ahead of place i of the list at a -/
def IT (κ : Nat → Nat) (l a : Nat) (xs : List Nat) (q i : Nat) (h : gh_H) : Prop := ∃ (mc lr : Int32), LR κ l a mc xs h ∧ h q = some (99, .inr (9, [.int (nI i), .int lr, .int mc, va_rf (some a)]))
theorem IT.keep {κ : Nat → Nat} {l a q i : Nat} {xs : List Nat} {h h' : gh_H} {S : Nat → Prop} (I : IT κ l a xs q i h) (o : Only S h h') (n : ¬ S l) (n1 : ¬ S (l + 1)) (n2 : ¬ S 99) : IT κ l a xs q i h' := by
  obtain ⟨mc, lr, h1, h2⟩ := I
  exact ⟨mc, lr, h1.keep o n n1, o _ _ _ h2 n2⟩
theorem it_new {κ : Nat → Nat} {l a : Nat} {mc : Int32} {xs : List Nat} {h : gh_H} {Q : Option Nat → gh_H → Prop} {X : String → gh_H → Prop} (L : LR κ l a mc xs h) (k : ∀ q h', Only (fun _ => False) h h' → IT κ l a xs q 0 h' → Q (some q) h') : wp_J2_iterator κ a Q X h := by
  unfold wp_J2_iterator wp_J19_init
  obtain ⟨b, h1, h2⟩ := id L
  refine gs_NO 99 (by decide) (fun q hq => gs_PV (gu_self _ _ _) (by decide) (Nat.le_of_ble_eq_true rfl) (gs_PV (gu_self _ _ _) (by decide) (Nat.le_of_ble_eq_true rfl) ?_))
  have ea : ∀ x y : gh_E, gh_up (gh_up (gh_up h q x) q y) q = gh_up h q := by
    intro x y
    funext z
    rw [gu_idem, gu_idem]
  refine gs_GR (gu_self _ _ _) rfl ?_
  refine gs_GI (a := a) (x := mc) (k := 0) (by rw [gu_idem, gu_idem]; exact gu_new hq h1) rfl ?_
  refine gs_PV (gu_self _ _ _) (by decide) (Nat.le_of_ble_eq_true rfl) ?_
  rw [gu_idem, gu_idem, gu_idem]
  have o : Only (fun _ => False) h (gh_up h q (99, .inr (9, [.int 0, .int (-1), .int mc, va_rf (some a)]))) := Only.new hq
  exact k q _ o ⟨mc, -1, L.keep o (fun z => z) (fun z => z), gu_self _ _ _⟩
theorem it_hasNext {κ : Nat → Nat} {l a q i : Nat} {xs : List Nat} {h : gh_H} {Q : Int32 → gh_H → Prop} {X : String → gh_H → Prop} (I : IT κ l a xs q i h) (hi : i ≤ xs.length) (k1 : i < xs.length → Q 1 h) (k0 : i = xs.length → Q 0 h) : wp_J19_hasNext κ q Q X h := by
  obtain ⟨mc, lr, L, e⟩ := I
  have hn := L.len
  obtain ⟨b, h1, h2⟩ := L
  unfold wp_J19_hasNext
  refine gs_GI e rfl (gs_GR e rfl (gs_GI h1 rfl ⟨fun z => ⟨nb0, k0 ?_⟩, fun z => ⟨nb1, k1 ?_⟩⟩))
  · exact (nI_eq (gl_31 (Nat.le_trans hi hn)) (gl_31 hn)).mp z
  · exact Nat.lt_of_le_of_ne hi (fun w => z (by rw [w]))
theorem it_next {κ : Nat → Nat} {l a q i : Nat} {xs : List Nat} {h : gh_H} {Q : Option Nat → gh_H → Prop} {X : String → gh_H → Prop} (I : IT κ l a xs q i h) (hl : l ≠ 99) (hl1 : l + 1 ≠ 99) (hi : i < xs.length) (k : ∀ h', Only (fun t => t = 99) h h' → IT κ l a xs q (i + 1) h' → Q (some xs[i]) h') : wp_J19_next κ q Q X h := by
  obtain ⟨mc, lr, L, e⟩ := I
  have hn := L.len
  obtain ⟨b, h1, h2⟩ := id L
  unfold wp_J19_next wp_J19_checkForComodification
  refine gs_RC e (gs_GR e rfl (gs_GI h1 rfl (gs_GI e rfl ⟨fun _ => ?_, fun z => absurd rfl z⟩)))
  refine gs_GI e rfl (gs_GR e rfl (gs_GI h1 rfl ⟨fun _ => ?_, fun z => absurd (nI_lt hi (gl_31 hn)) z⟩))
  refine gs_GR e rfl (gs_GR h1 rfl ?_)
  rcases h2 with ⟨h2, -⟩ | ⟨cap, f, h2, h3⟩
  · subst h2
    exact absurd hi (Nat.not_lt_zero i)
  · have hic : i < cap := Nat.lt_of_lt_of_le hi h2.2.1
    refine gs_LN h2.1 ⟨fun _ => ?_, fun z => absurd (nI_lt hic (gl_31 h3)) z⟩
    refine gs_PV e (by decide) (Nat.le_of_ble_eq_true rfl) (gs_PV (gu_self _ _ _) (by decide) (Nat.le_of_ble_eq_true rfl) ?_)
    rw [gu_idem]
    have o : Only (fun t => t = 99) h (gh_up h q (99, .inr (9, [.int (nI i + 1), .int (nI i), .int mc, va_rf (some a)]))) := Only.up e rfl
    refine gs_LR (o _ _ _ h2.1 hl1) (Nat.le_refl 4) hic (gl_31 h3) ?_
    rw [h2.2.2 i hi]
    refine k _ o ⟨mc, nI i, L.keep o hl hl1, ?_⟩
    rw [← nI_1]
    exact gu_self _ _ _
/-- the first place of x in xs, or their number -/
def gl_ix : List Nat → Nat → Nat
  | [], _ => 0
  | y :: r, x => if y = x then 0 else gl_ix r x + 1
theorem gl_ix_le : ∀ (xs : List Nat) (x : Nat), gl_ix xs x ≤ xs.length
  | [], _ => Nat.le_refl 0
  | y :: r, x => by
    unfold gl_ix
    split
    · exact Nat.zero_le _
    · exact Nat.succ_le_succ (gl_ix_le r x)
theorem gl_ix_at : ∀ (xs : List Nat) (x : Nat) (h : gl_ix xs x < xs.length), xs[gl_ix xs x] = x
  | [], _, h => absurd h (Nat.not_lt_zero _)
  | y :: r, x, h => by
    by_cases e : y = x
    · simp [gl_ix, e]
    · have hr : gl_ix r x < r.length := by
        unfold gl_ix at h
        rw [if_neg e] at h
        exact Nat.lt_of_succ_lt_succ h
      simp only [gl_ix, if_neg e, List.getElem_cons_succ]
      exact gl_ix_at r x hr
theorem gl_ix_ne : ∀ (xs : List Nat) (x i : Nat) (hi : i < xs.length), i < gl_ix xs x → xs[i] ≠ x
  | [], _, _, h, _ => absurd h (Nat.not_lt_zero _)
  | y :: r, x, i, hi, h => by
    unfold gl_ix at h
    split at h
    · exact absurd h (Nat.not_lt_zero _)
    · rename_i e
      cases i with
      | zero => exact e
      | succ i => exact gl_ix_ne r x i (Nat.lt_of_succ_lt_succ hi) (Nat.lt_of_succ_lt_succ h)
theorem ls_indexOf {κ : Nat → Nat} {l a x lx : Nat} {mc : Int32} {xs : List Nat} {fx : List Value} {h : gh_H} {Q : Int32 → gh_H → Prop} {X : String → gh_H → Prop} (L : LR κ l a mc xs h) (hx : h x = some (lx, .inr (4, fx))) (k1 : gl_ix xs x < xs.length → Q (nI (gl_ix xs x)) h) (k0 : gl_ix xs x = xs.length → Q (-1) h) : wp_J2_indexOf κ a (some x) Q X h := by
  have hn := L.len
  obtain ⟨b, h1, h2⟩ := L
  unfold wp_J2_indexOf wp_J2_indexOfRange
  refine gs_GI h1 rfl (gs_RC h1 (gs_GR h1 rfl ⟨(fun z => by cases z), fun _ => ?_⟩))
  have key : ∀ (n i : Nat), i + n = xs.length + 1 → i ≤ gl_ix xs x → wl_J2_indexOfRange_42 κ (fun r3 h4 => Q r3 h4) X n (some x) (nI xs.length) (some b) (nI i) h := by
    intro n
    induction n with
    | zero =>
      intro i hi hle
      have := gl_ix_le xs x
      omega
    | succ n ih =>
      intro i hi hle
      have hle2 := gl_ix_le xs x
      unfold wl_J2_indexOfRange_42 wb_J2_indexOfRange_42
      refine ⟨fun z => ?_, fun z => ?_⟩
      · unfold wb_J2_indexOfRange_69
        refine k0 ?_
        have := (nI_leI (gl_31 hn) (gl_31 (by omega))).mp z
        omega
      · have hlt : i < xs.length := by
          have : ¬ xs.length ≤ i := fun w => z ((nI_leI (gl_31 hn) (gl_31 (by omega))).mpr w)
          omega
        rcases h2 with ⟨h2, -⟩ | ⟨cap, f, h2, h3⟩
        · subst h2
          exact absurd hlt (Nat.not_lt_zero i)
        · refine gs_LR h2.1 (Nat.le_refl 4) (Nat.lt_of_lt_of_le hlt h2.2.1) (gl_31 h3) (gs_RC hx ?_)
          unfold wp_J32_equals
          rw [h2.2.2 i hlt]
          refine ⟨fun e => ⟨nb1, (fun w => by cases w), fun _ => ?_⟩, fun e => ⟨nb0, fun _ => ?_, fun w => absurd rfl w⟩⟩
          · have e2 : xs[i] = x := (Option.some.inj e).symm
            have : i = gl_ix xs x := by
              rcases Nat.lt_or_ge i (gl_ix xs x) with w | w
              · exact absurd e2 (gl_ix_ne xs x i hlt w)
              · omega
            rw [this] at hlt ⊢
            exact k1 hlt
          · rw [nI_1]
            refine ih (i + 1) (by omega) ?_
            rcases Nat.lt_or_ge i (gl_ix xs x) with w | w
            · exact w
            · exfalso
              have : i = gl_ix xs x := by omega
              subst this
              exact e (congrArg some (gl_ix_at xs x hlt).symm)
  exact ⟨xs.length + 1, key _ 0 (by omega) (Nat.zero_le _)⟩
/-- new ArrayList(list): a list of its own, of the same objects -/
theorem ls_copy {κ : Nat → Nat} {l a l2 a2 : Nat} {mc : Int32} {x y : Value} {xs : List Nat} {h : gh_H} {Q : gh_H → Prop} {X : String → gh_H → Prop} (L : LR κ l a mc xs h) (hne : xs ≠ []) (hl : l ≠ 0) (e : h a2 = some (l2, .inr (8, [x, y, .int 0]))) (ha : a ≠ a2) (hl2 : l2 ≠ 0) (ho : ∀ y ∈ xs, OB h y) (k : ∀ h', Only (fun t => t = l2) h h' → LR κ l2 a2 0 xs h' → Q h') : wp_J2_init_2 κ a2 (some a) Q X h := by
  have hn := L.len
  obtain ⟨b, h1, h2⟩ := id L
  have hpos : 0 < xs.length := List.length_pos_iff.mpr hne
  rcases h2 with ⟨h2, -⟩ | ⟨cap, f, h2, h3⟩
  · exact absurd h2 hne
  unfold wp_J2_init_2 wp_J1_init wp_J0_init
  have hos : ∀ (z : Value) (ci : Nat) (fs : List Value), (Sum.inr (8, [z, y, .int 0]) : gh_C) = .inr (ci, fs) → ci ∉ gh_os := fun z ci fs w => by cases w; decide
  refine gs_PV e hl2 (Nat.le_of_ble_eq_true rfl) ?_
  have e1 := gu_self h a2 (l2, .inr (8, [.int 0, y, .int 0]))
  have o1 : Only (fun t => t = l2) h (gh_up h a2 (l2, .inr (8, [.int 0, y, .int 0]))) := Only.up e rfl
  have ha1 : gh_up h a2 (l2, .inr (8, [.int 0, y, .int 0])) a = some (l, .inr (8, [.int mc, va_rf (some b), .int (nI xs.length)])) := by
    rw [gu_ne ha]
    exact h1
  have hb1 : gh_up h a2 (l2, .inr (8, [.int 0, y, .int 0])) b = some (l + 1, .inl (4, cap, gu_r f)) := gu_of e h2.1 (fun z => by cases z)
  refine gs_RC ha1 ?_
  unfold wp_J2_toArray
  refine gs_GR ha1 rfl (gs_GI ha1 rfl ?_)
  refine ls_copyOf (ln := l2 + 1) hb1 (Nat.succ_ne_zero l) (Nat.succ_ne_zero l2) hn h3 (fun i hi hic z hz => ?_) (fun q hq => ?_)
  · rw [h2.2.2 i hi] at hz
    cases hz
    exact (ho _ (List.getElem_mem hi)).up e (hos x)
  refine gs_LN (gu_self _ _ _) ?_
  have e2 : gh_up (gh_up h a2 (l2, .inr (8, [.int 0, y, .int 0]))) q (l2 + 1, .inl (4, xs.length, gu_r (fun i => if i < xs.length ∧ i < cap then f i else none))) a2 = some (l2, .inr (8, [.int 0, y, .int 0])) := gu_new hq e1
  refine gs_PV e2 hl2 (Nat.le_of_ble_eq_true rfl) ⟨fun z => absurd z (nI_ne0 hpos (gl_31 hn)), fun _ => ?_⟩
  refine ⟨a, l, _, rfl, by rw [gu_ne ha]; exact gu_new hq ha1, ⟨fun _ => ?_, fun z => absurd rfl z⟩⟩
  refine gs_PV (gu_self _ _ _) hl2 (Nat.le_of_ble_eq_true rfl) ?_
  rw [gu_idem]
  unfold wb_J2_init_2_64
  refine k _ ((o1.trans (Only.new hq)).trans (Only.up e2 rfl)) ⟨q, gu_self _ _ _, Or.inr ⟨xs.length, fun i => if i < xs.length ∧ i < cap then f i else none, ⟨?_, Nat.le_refl _, fun i hi => ?_⟩, hn⟩⟩
  · rw [gu_ne (fun z => by rw [z] at hq; cases hq.symm.trans e1)]
    exact gu_self _ _ _
  · exact (if_pos ⟨hi, Nat.lt_of_lt_of_le hi h2.2.1⟩).trans (h2.2.2 i hi)
