/-! PLAIN LAW, part MM: print on the desk -/
set_option maxRecDepth 100000
/-- a number is put into a set -/
def A1 (F : Nat → Prop) (sz d : Nat) (F' : Nat → Prop) (sz' : Nat) : Prop := (F d ∧ F' = F ∧ sz' = sz) ∨ (¬ F d ∧ F' = (fun e => e = d ∨ F e) ∧ sz' = sz + 1)
theorem tr_put {κ : Nat → Nat} {X : String → gh_H → Prop} {t a d b sz : Nat} {F : Nat → Prop} {h : gh_H} {Q : Int32 → gh_H → Prop} (ht : okT t) (P : TR κ t a F sz h) (hd : d < 2000000) (hb : BX h b d) (k : ∀ (r : Int32) (h' : gh_H) (F' : Nat → Prop) (sz' : Nat), A1 F sz d F' sz' → Only (TS t) h h' → TR κ t a F' sz' h' → Q r h') : wp_J4_add κ a (some b) Q X h :=
  tr_add ht P hd hb (fun f h' o P' => k 0 h' F sz (Or.inl ⟨f, rfl, rfl⟩) o P') (fun f h' o P' => k 1 h' _ _ (Or.inr ⟨f, rfl, rfl⟩) o P')
theorem TR_tk {κ : Nat → Nat} {F : Nat → Prop} {sz : Nat} : TK (fun a h => TR κ 13 a F sz h) := fun a h h' S o n0 n P => TR.keep P o n0 (fun l h1 h2 => n l h1 (by omega)) (n 17 (by decide) (by decide))
theorem TR.ki {κ : Nat → Nat} {t a sz : Nat} {F : Nat → Prop} {h : gh_H} (P : TR κ t a F sz h) : KI κ h := by
  obtain ⟨am, mc, nk, N, kf, ix, h1, h2, h3, h4, h5⟩ := P
  exact h4
/-- the desk behind a print, but for the plates' set -/
def prS (s : Nat → Nat) (j n v : Nat) : Nat → Nat := sU (sU (sU (sU (sU (sU (sU s 7 (mu (dPl s j n 0))) 8 (mu (dPl s j n 1))) 9 (s (120 + j))) (300 + (8 * j + n)) (s (300 + (8 * j + n)) + v)) 11 (s 11 + v)) 5 (s 5 + 1)) 6 (s 6 + readyM s j n)
theorem prS_ne {s : Nat → Nat} {j n v i : Nat} (h5 : i ≠ 5) (h6 : i ≠ 6) (h7 : i ≠ 7) (h8 : i ≠ 8) (h9 : i ≠ 9) (h11 : i ≠ 11) (hs : i ≠ 300 + (8 * j + n)) : prS s j n v i = s i := by
  unfold prS
  rw [sU_ne h6, sU_ne h5, sU_ne h11, sU_ne hs, sU_ne h9, sU_ne h8, sU_ne h7]
theorem prS_6 {s : Nat → Nat} {j n v : Nat} : prS s j n v 6 = s 6 + readyM s j n := sU_self _ _ _
theorem prS_5 {s : Nat → Nat} {j n v : Nat} : prS s j n v 5 = s 5 + 1 := by
  unfold prS
  rw [sU_ne (by decide), sU_self]
theorem prS_11 {s : Nat → Nat} {j n v : Nat} : prS s j n v 11 = s 11 + v := by
  unfold prS
  rw [sU_ne (by decide), sU_ne (by decide), sU_self]
theorem prS_s {s : Nat → Nat} {j n v : Nat} : prS s j n v (300 + (8 * j + n)) = s (300 + (8 * j + n)) + v := by
  unfold prS
  rw [sU_ne (by omega), sU_ne (by omega), sU_ne (by omega), sU_self]
theorem prS_9 {s : Nat → Nat} {j n v : Nat} : prS s j n v 9 = s (120 + j) := by
  unfold prS
  rw [sU_ne (by decide), sU_ne (by decide), sU_ne (by decide), sU_ne (by omega), sU_self]
theorem prS_8 {s : Nat → Nat} {j n v : Nat} : prS s j n v 8 = mu (dPl s j n 1) := by
  unfold prS
  rw [sU_ne (by decide), sU_ne (by decide), sU_ne (by decide), sU_ne (by omega), sU_ne (by decide), sU_self]
theorem prS_7 {s : Nat → Nat} {j n v : Nat} : prS s j n v 7 = mu (dPl s j n 0) := by
  unfold prS
  rw [sU_ne (by decide), sU_ne (by decide), sU_ne (by decide), sU_ne (by omega), sU_ne (by decide), sU_ne (by decide), sU_self]
/-- the labels that a print touches -/
def SP (j n t : Nat) : Prop := t = 1 ∨ t = 10 ∨ t = 12 ∨ (13 ≤ t ∧ t ≤ 16) ∨ t = 105 + 100 * j + n
section
variable {κ bd ca ja la A : Nat → Nat} {F : Nat → Prop} {sz : Nat} {d : Nat} {s : Nat → Nat} {ev : List Nat} {h : gh_H} {X : String → gh_H → Prop}
theorem dj_print {x y z : Int32} {Q : Int32 → gh_H → Prop} (P : DP κ bd ca ja la A (fun a h => TR κ 13 a F sz h) d s ev h) (B : BD bd h) (I : IV s) (J : IW s)
    (k1 : ∀ j n c, j < s 2 → x = nI j → whole s j → y = nI n → n < cnt s j → c < 500 → z = nI (c + 1) → appr s j n → s (300 + (8 * j + n)) + (c + 1) ≤ 9999 → ∀ (h' : gh_H) (F1 F2 : Nat → Prop) (z1 z2 : Nat), Only De h h' → A1 F sz (dPl s j n 0) F1 z1 → A1 F1 z1 (dPl s j n 1) F2 z2 → DP κ bd ca ja la A (fun a h => TR κ 13 a F2 z2 h) d (prS s j n (c + 1)) ev h' → Q (nI (readyM s j n)) h')
    (k5 : ∀ j n c, j < s 2 → x = nI j → whole s j → y = nI n → n < cnt s j → c < 500 → z = nI (c + 1) → ¬ (appr s j n ∧ s (300 + (8 * j + n)) + (c + 1) ≤ 9999) → X "java/lang/UnsupportedOperationException" h)
    (k4 : ∀ j n, j < s 2 → x = nI j → whole s j → y = nI n → n < cnt s j → (z < 1 ∨ nI 500 < z) → X "java/lang/IllegalArgumentException" h)
    (k3 : ∀ j, j < s 2 → x = nI j → whole s j → (y < 0 ∨ nI (cnt s j) ≤ y) → X "java/util/NoSuchElementException" h)
    (k2 : ∀ j, j < s 2 → x = nI j → ¬ whole s j → X "java/lang/IllegalStateException" h) (k0 : x < 0 ∨ nI (s 2) ≤ x → X "java/lang/IndexOutOfBoundsException" h) : wp_X1_print κ d x y z Q X h := by
  have i1 := I.1
  have i2 := I.2.1
  unfold wp_X1_print
  refine gs_RC P.1 (dk_jobWithSheet P B I (fun j n hj hx hw hy hn => dk_count (fun c hc hz => ?_) (k4 j n hj hx hw hy hn)) k3 k2 k0)
  have q1 := k1 j n c hj hx hw hy hn hc hz
  have q5 := k5 j n c hj hx hw hy hn hc hz
  have hj4 : j < 4 := by omega
  have h8 := cnt8 I hj4
  have Jb := P.2.2.2.2.1 j hj
  obtain ⟨ag, ai, pa, e1, e2, ⟨mc3, e3⟩, e4⟩ := id Jb
  obtain ⟨al, hal, -⟩ := id e3
  have hst := I.2.2.2.2.2.2.1 (8 * j + n) (by omega)
  rw [hy, hz]
  refine gs_GR e1 rfl (gs_RC hal (ls_get e3.lr (by rw [rg_len]; omega) ?_))
  rw [rg_at]
  have e5 := e4 n (by omega)
  have bad : ¬ (appr s j n ∧ s (300 + (8 * j + n)) + (c + 1) ≤ 9999) → wb_X1_print_54 κ Q X d (nI n) (nI (c + 1)) (some (ja j)) (some (pa n)) h := by
    intro w
    unfold wb_X1_print_54 wb_X1_print_55 wp_X1_requirePossible
    exact ⟨fun _ => q5 w, fun w => absurd rfl w⟩
  refine gs_CK e5 (by decide) (gs_RC e1 (jb_isApproved Jb B P.2.2.1 I hj hw hn (fun ha => ⟨(fun z => by cases z), fun _ => gs_RC e5 (pl_stock e5 ?_)⟩) (fun ha => ⟨fun _ => bad (fun w => ha w.1), fun z => absurd rfl z⟩)))
  rw [nI_add]
  refine ⟨fun w => bad (fun v => absurd (show nI 9999 < _ from w) (nI_nlt v.2 (n31 (by omega)))), fun w => ?_⟩
  have hle : s (300 + (8 * j + n)) + (c + 1) ≤ 9999 := by
    have : ¬ 9999 < s (300 + (8 * j + n)) + (c + 1) := fun v => w (nI_lt v (n31 (by omega)))
    omega
  have q6 := q1 ha hle
  unfold wb_X1_print_55 wp_X1_requirePossible
  refine ⟨(fun z => by cases z), fun _ => gs_RC P.1 (dk_ready P B I J hj hw hn ?_)⟩
  obtain ⟨f, ef, ef0, ef1⟩ := P.2.2.2.2.2.2.2.2.2.2.1
  have PT : TR κ 13 (A 4) F sz h := P.2.2.2.2.2.2.2.2.2.2.2
  have o13 : okT 13 := Or.inl rfl
  have step : ∀ (r p it : Nat) (f2 : Nat → Int32) (F2 : Nat → Prop) (z2 : Nat) (h2 : gh_H), p < 2 → it ≤ 2 → Only (fun t => t = 12 ∨ (13 ≤ t ∧ t ≤ 16)) h h2 → h2 (A 7) = some (12, .inl (0, 2, .inl f2)) → TR κ 13 (A 4) F2 z2 h2 → (∀ (h3 : gh_H) (F3 : Nat → Prop) (z3 : Nat), Only (fun t => t = 12 ∨ (13 ≤ t ∧ t ≤ 16)) h h3 → h3 (A 7) = some (12, .inl (0, 2, .inl (upd f2 p (nI (dPl s j n p))))) → TR κ 13 (A 4) F3 z3 h3 → A1 F2 z2 (dPl s j n p) F3 z3 → wl_X1_print_70 κ Q X r (it + 1) d (nI n) (nI (c + 1)) (some (ja j)) (some (pa n)) (nI (readyM s j n)) (nI (p + 1)) h3) → wl_X1_print_70 κ Q X (r + 1) it d (nI n) (nI (c + 1)) (some (ja j)) (some (pa n)) (nI (readyM s j n)) (nI p) h2 := by
    intro r p it f2 F2 z2 h2 hp hit o2 a2 T2 kk
    show it ≤ 2 ∧ wb_X1_print_70 κ (wl_X1_print_70 κ Q X r) it Q X d (nI n) (nI (c + 1)) (some (ja j)) (some (pa n)) (nI (readyM s j n)) (nI p) h2
    refine ⟨hit, ?_⟩
    unfold wb_X1_print_70
    have ed := o2 _ _ _ P.1 (by omega)
    have Jb2 := Jb.keep o2 (fun t a b => by omega)
    have B2 : BD bd h2 := B.keep o2 (by omega)
    have C2 := P.2.2.1.keep o2 I.1 (fun t a b => by omega)
    have dl := dPl_lt I hj4 hw hn (k := p) (by omega)
    refine gs_GR ed rfl (gs_LN a2 ⟨fun w => absurd w (nI_ge (show p < 2 by omega) (show 2 < 2 ^ 31 by decide)), fun _ => gs_GR ed rfl (gs_RC (o2 _ _ _ e1 (by omega)) (jb_plate Jb2 B2 C2 I hj hw hn (by omega) (gs_SI a2 (by decide) hp (by decide) ?_)))⟩)
    obtain ⟨h3, eh3⟩ : ∃ h3, h3 = gh_up h2 (A 7) (12, .inl (0, 2, .inl (upd f2 p (nI (dPl s j n p))))) := ⟨_, rfl⟩
    rw [← eh3]
    have o3 : Only (fun t => t = 12) h2 h3 := by rw [eh3]; exact Only.up a2 rfl
    have a3 : h3 (A 7) = some (12, .inl (0, 2, .inl (upd f2 p (nI (dPl s j n p))))) := by rw [eh3]; exact gu_self _ _ _
    have T3 : TR κ 13 (A 4) F2 z2 h3 := T2.keep o3 (by decide) (fun l a b => by omega) (by decide)
    have ed3 := o3 _ _ _ ed (by decide)
    refine gs_GR ed3 rfl (gs_GR ed3 rfl (gs_LI a3 hp (by decide) ?_))
    have eu : upd f2 p (nI (dPl s j n p)) p = nI (dPl s j n p) := by simp [upd]
    rw [eu]
    refine bx_of T3.ki (by omega) (fun b h4 o4 hb => ?_)
    have T4 := T3.keep o4 (fun w => w) (fun l a b w => w) (fun w => w)
    obtain ⟨fs, ec⟩ := T4.cell
    refine gs_RC ec (tr_put o13 T4 (by omega) hb (fun rr h5 F5 z5 ha5 o5 T5 => ?_))
    rw [nI_1]
    exact kk h5 F5 z5 (((o2.trans (o3.mono (fun t ht => Or.inl ht))).trans (o4.mono (fun t w => w.elim))).trans (o5.mono (fun t ht => by unfold TS at ht; omega))) (o5 _ _ _ (o4 _ _ _ a3 (fun w => w)) (by unfold TS; omega)) T5 ha5
  refine ⟨3, step 2 0 0 f F sz h (by decide) (by decide) Only.refl ef PT (fun h3 F1 z1 o3 a3 T3 r1 => step 1 1 1 _ F1 z1 h3 (by decide) (by decide) o3 a3 T3 (fun h4 F2 z2 o4 a4 T4 r2 => ?_))⟩
  show 2 ≤ 2 ∧ wb_X1_print_70 κ (wl_X1_print_70 κ Q X 0) 2 Q X d (nI n) (nI (c + 1)) (some (ja j)) (some (pa n)) (nI (readyM s j n)) (nI 2) h4
  refine ⟨Nat.le_refl 2, ?_⟩
  unfold wb_X1_print_70
  have ed := o4 _ _ _ P.1 (by omega)
  refine gs_GR ed rfl (gs_LN a4 ⟨fun _ => gs_GR (o4 _ _ _ e1 (by omega)) rfl (gs_PV ed (by decide) (Nat.le_of_ble_eq_true rfl) ?_), fun w => absurd (nI_le (Nat.le_refl 2) (show 2 < 2 ^ 31 by decide)) w⟩)
  obtain ⟨h5, eh5⟩ : ∃ h5, h5 = gh_up h4 d (1, .inr (0, (DKf bd A s).set 10 (va_rf (some (bd (bx (s (120 + j)))))))) := ⟨_, rfl⟩
  rw [← eh5]
  have o5 : Only (fun t => t = 1) h4 h5 := by rw [eh5]; exact Only.up ed rfl
  have e5d : h5 d = some (1, .inr (0, (DKf bd A s).set 10 (va_rf (some (bd (bx (s (120 + j)))))))) := by rw [eh5]; exact gu_self _ _ _
  have e5p := o5 _ _ _ (o4 _ _ _ e5 (by omega)) (by omega)
  have e5c := o5 _ _ _ (o4 _ _ _ P.2.2.2.2.2.2.2.2.1 (by omega)) (by decide)
  refine gs_RC e5p (pl_add e5p e5c (by omega) (by decide) (n31 (by omega)) ?_)
  obtain ⟨h6, eh6⟩ : ∃ h6, h6 = gh_up (gh_up h5 (pa n) (105 + 100 * j + n, .inr (3, [.long (lN (s (300 + (8 * j + n)) + (c + 1))), va_rf (some (A 5))]))) (A 5) (10, .inr (2, [.long (lN (s 11 + (c + 1)))])) := ⟨_, rfl⟩
  rw [← eh6]
  have nep : pa n ≠ A 5 := lb_ne e5p e5c (by omega)
  have o6 : Only (fun t => t = 10 ∨ t = 105 + 100 * j + n) h5 h6 := by
    rw [eh6]
    refine (Only.up e5p (Or.inr rfl)).trans (Only.up (lb := 10) (c := .inr (2, [.long (lN (s 11))])) ?_ (Or.inl rfl))
    rw [gu_ne (fun w => nep w.symm)]
    exact e5c
  have e6p : h6 (pa n) = some (105 + 100 * j + n, .inr (3, [.long (lN (s (300 + (8 * j + n)) + (c + 1))), va_rf (some (A 5))])) := by
    rw [eh6, gu_ne nep]
    exact gu_self _ _ _
  have e6c : h6 (A 5) = some (10, .inr (2, [.long (lN (s 11 + (c + 1)))])) := by rw [eh6]; exact gu_self _ _ _
  have e6d := o6 _ _ _ e5d (by omega)
  refine gs_GI e6d rfl (gs_PV e6d (by decide) (Nat.le_of_ble_eq_true rfl) (gs_GJ (gu_self _ _ _) rfl (gs_PV (gu_self _ _ _) (by decide) (Nat.le_of_ble_eq_true rfl) ?_)))
  have rl : readyM s j n ≤ 55 := by
    unfold readyM
    split <;> split <;> split <;> omega
  rw [gu_idem, nI_1, nI_l (n31 (by omega)), lN_add]
  have fin : gh_up h6 d (1, .inr (0, ((((DKf bd A s).set 10 (va_rf (some (bd (bx (s (120 + j))))))).set 7 (.int (nI (s 5 + 1)))).set 8 (.long (lN (s 6 + readyM s j n)))))) = gh_up h6 d (1, .inr (0, DKf bd A (prS s j n (c + 1)))) := by
    have ob := I.2.2.2.1 j hj
    have e9 : pbV bd (prS s j n (c + 1)) = some (bd (bx (s (120 + j)))) := by
      unfold pbV
      rw [prS_9, if_neg (by rcases ob with w | w | w <;> omega)]
    unfold DKf
    rw [e9, prS_5, prS_6]
    rfl
  have o7 : Only (fun t => t = 1) h6 (gh_up h6 d (1, .inr (0, DKf bd A (prS s j n (c + 1))))) := Only.up e6d rfl
  have e7d := gu_self h6 d (1, .inr (0, DKf bd A (prS s j n (c + 1))))
  have go : ∀ h7, h7 = gh_up h6 d (1, .inr (0, DKf bd A (prS s j n (c + 1)))) → Q (nI (readyM s j n)) h7 := by
    intro h7 eh7
    rw [← eh7] at o7 e7d
    have o47 : Only (fun t => t = 1 ∨ t = 10 ∨ t = 105 + 100 * j + n) h4 h7 := ((o5.mono (fun t ht => Or.inl ht)).trans (o6.mono (fun t ht => Or.inr ht))).trans (o7.mono (fun t ht => Or.inl ht))
    have oo : Only (SP j n) h h7 := (o4.mono (fun t ht => by unfold SP; omega)).trans (o47.mono (fun t ht => by unfold SP; omega))
    refine q6 h7 F1 F2 z1 z2 (oo.mono (fun t ht => by unfold SP at ht; unfold De; omega)) r1 r2 ?_
    have e7p := o7 _ _ _ e6p (by omega)
    have e7c := o7 _ _ _ e6c (by decide)
    have e7a := o47 _ _ _ a4 (by omega)
    obtain ⟨p1, p2, p3, p4, p5, ⟨xs, p6, p6b⟩, p7, p8, p9, p10, p11, p12⟩ := P
    have lw : ∀ i, i < 340 → i ≠ 5 → i ≠ 6 → i ≠ 7 → i ≠ 8 → i ≠ 9 → i ≠ 11 → i ≠ 300 + (8 * j + n) → prS s j n (c + 1) i = s i := fun i _ a b c d e f g => prS_ne a b c d e f g
    have hi : ∀ i, 340 ≤ i → prS s j n (c + 1) i = s i := fun i hi => prS_ne (by omega) (by omega) (by omega) (by omega) (by omega) (by omega) (by omega)
    unfold DP
    rw [prS_ne (i := 1) (by decide) (by decide) (by decide) (by decide) (by decide) (by decide) (by omega), prS_ne (i := 2) (by decide) (by decide) (by decide) (by decide) (by decide) (by decide) (by omega), prS_ne (i := 3) (by decide) (by decide) (by decide) (by decide) (by decide) (by decide) (by omega), prS_ne (i := 10) (by decide) (by decide) (by decide) (by decide) (by decide) (by decide) (by omega), prS_11, prS_7, prS_8]
    refine ⟨e7d, p2.keep oo (by unfold SP; omega) (by unfold SP; omega), fun q hq => ?_, p4.keep oo (by unfold SP; omega) (by unfold SP; omega), fun i hi => ?_, ⟨xs, p6.keep oo (by unfold SP; omega) (by unfold SP; omega), p6b.keep oo (by unfold SP; omega)⟩, p7.keep oo (by unfold SP; omega) (by unfold SP; omega), fun k hk => ?_, e7c, oo _ _ _ p10 (by unfold SP; omega), ⟨_, e7a, ?_, ?_⟩, T4.keep o47 (by omega) (fun l a b => by omega) (by omega)⟩
    · have hq2 : q < s 1 := by
        have := hq
        rw [prS_ne (i := 1) (by decide) (by decide) (by decide) (by decide) (by decide) (by decide) (by omega)] at this
        exact this
      rw [lw (100 + q) (by omega) (by omega) (by omega) (by omega) (by omega) (by omega) (by omega) (by omega), hi (340 + q) (by omega)]
      exact oo _ _ _ (p3 q hq2) (by unfold SP; omega)
    · by_cases w : i = j
      · rw [w]
        refine ⟨ag, ai, pa, ?_, ?_, (show GL κ (103 + 100 * j) ai ((List.range 8).map pa) h from ⟨mc3, e3⟩).keep oo (by unfold SP; omega) (by unfold SP; omega), fun n' hn' => ?_⟩
        · rw [lw (120 + j) (by omega) (by omega) (by omega) (by omega) (by omega) (by omega) (by omega) (by omega)]
          exact oo _ _ _ e1 (by unfold SP; omega)
        · have ej : jpg ca (prS s j n (c + 1)) j = jpg ca s j := by
            have hp16 := (I.2.2.1 j hj4).2
            unfold jpg
            rw [lw (130 + j) (by omega) (by omega) (by omega) (by omega) (by omega) (by omega) (by omega) (by omega)]
            refine List.map_congr_left (fun t ht => ?_)
            have ht2 := List.mem_range.mp ht
            rw [lw _ (by omega) (by omega) (by omega) (by omega) (by omega) (by omega) (by omega) (by omega)]
          rw [ej]
          exact e2.keep oo (by unfold SP; omega) (by unfold SP; omega)
        · by_cases v : n' = n
          · rw [v, prS_s]
            exact e7p
          · rw [lw _ (by omega) (by omega) (by omega) (by omega) (by omega) (by omega) (by omega) (by omega)]
            exact oo _ _ _ (e4 n' hn') (by unfold SP; omega)
      · exact JP_cg3 (fun t ht => lw t (by omega) (by omega) (by omega) (by omega) (by omega) (by omega) (by omega) (by omega)) (I.2.2.1 i (by omega)).2 ((p5 i hi).keep oo (fun t a b => by unfold SP; omega))
    · exact LOT_cg (fun i hi => prS_ne (by omega) (by omega) (by omega) (by omega) (by omega) (by omega) (by omega)) I J hk ((p8 k hk).keep oo (fun t a => by unfold SP; omega))
    · show upd (upd f 0 (nI (dPl s j n 0))) 1 (nI (dPl s j n 1)) 0 = _
      have d0 := dPl_lt I hj4 hw hn (k := 0) (by decide)
      unfold prsV
      rw [if_neg (by have := mu_pos (d := dPl s j n 0); omega), un_mu d0]
      simp [upd]
    · show upd (upd f 0 (nI (dPl s j n 0))) 1 (nI (dPl s j n 1)) 1 = _
      have d1 := dPl_lt I hj4 hw hn (k := 1) (by decide)
      unfold prsV
      rw [if_neg (by have := mu_pos (d := dPl s j n 1); omega), un_mu d1]
      simp [upd]
  exact go _ fin
end
