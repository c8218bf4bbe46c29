/-! PLAIN LAW, part MG: correct in the model and on both sides -/
set_option maxRecDepth 100000
theorem IV_10 {s : Nat → Nat} {v : Nat} (I : IV s) (h : v ≤ 30000000) : IV (sU s 10 v) := by
  have e : ∀ i, i ≠ 10 → sU s 10 v i = s i := fun i hi => sU_ne hi
  unfold IV
  rw [e 1 (by decide), e 2 (by decide), e 11 (by decide), sU_self]
  refine ⟨I.1, I.2.1, fun j hj => ?_, fun j hj => ?_, fun j i hj hi => ?_, fun c hc => ?_, fun i hi => ?_, h, I.2.2.2.2.2.2.2.2⟩
  · rw [e _ (by omega), e _ (by omega)]
    exact I.2.2.1 j hj
  · rw [e _ (by omega)]
    exact I.2.2.2.1 j hj
  · rw [e _ (by omega)] at hi
    rw [e _ (by omega)]
    exact I.2.2.2.2.1 j i hj hi
  · rw [e _ (by omega), e _ (by omega)]
    exact I.2.2.2.2.2.1 c hc
  · rw [e _ (by omega)]
    exact I.2.2.2.2.2.2.1 i hi
theorem sQ_shownB {s s' : Nat → Nat} (q : sQ s s') (j n c : Nat) : shownB s' j n c = shownB s j n c := by
  unfold shownB
  rw [q (120 + j) (by omega)]
  congr 1
  funext k
  rw [sQ_cOn q]
theorem sQ_nSh {s s' : Nat → Nat} (q : sQ s s') (j : Nat) : nSh s' j = nSh s j := by
  unfold nSh
  rw [sQ_cnt q, q (130 + j) (by omega), q (120 + j) (by omega)]
theorem sU_10 {X : Nat → Nat} {k v w u : Nat} (h : k ≠ 10) : sU (sU (sU X 10 v) k w) 10 u = sU (sU X k w) 10 u := by
  funext i
  unfold sU
  split
  · rfl
  · split
    · rfl
    · rfl
section
variable {κ : Nat → Nat} {m : Nat} {a s : Nat → Nat} {h : gh_H} {X : String → gh_H → Prop}
theorem mp_correct {x : Int32} {Q : Int32 → gh_H → Prop} (P : MP m a s h) (I : IV s) (h10 : s 10 ≤ 29000000)
    (k1 : ∀ c, c < s 1 → x = nI c → s (100 + c) < 99 → ∀ h', Only Mo h h' → MP m a (sU (csS (fun j n => shownB (coS (sU s 0 0) c) j n c) (coS (sU s 0 0) c) (s 2)) 10 (s 10 + csN (fun j n => shownB (coS (sU s 0 0) c) j n c) (coS (sU s 0 0) c) (s 2))) h' → Q (nI (csN (fun j n => shownB (coS (sU s 0 0) c) j n c) (coS (sU s 0 0) c) (s 2))) h')
    (k2 : ∀ c, c < s 1 → x = nI c → ¬ s (100 + c) < 99 → ∀ h', Only Mo h h' → MP m a (sU s 0 2) h' → Q 0 h') (k0 : x < 0 ∨ nI (s 1) ≤ x → ∀ h', Only Mo h h' → MP m a (sU s 0 1) h' → Q 0 h') : wp_X3_correct κ m x Q X h := by
  have i1 := I.1
  have i2 := I.2.1
  unfold wp_X3_correct
  refine gs_RC P.1 (mp_isContent P I (fun c hc hx h1 o1 P1 => ⟨(fun z => by cases z), fun _ => ?_⟩) (fun hx h1 o1 P1 => ⟨fun _ => k0 hx h1 o1 P1, fun z => absurd rfl z⟩))
  have e0 : ∀ i, i ≠ 0 → sU s 0 0 i = s i := fun i hi => sU_ne hi
  have b2 := (I.2.2.2.2.2.1 c (by omega)).1
  have q1 := k1 c hc hx
  have q2 := k2 c hc hx
  rw [hx]
  refine gs_GR P1.1 rfl (mp_LI (k := 0) P1 (by decide) rfl (show c < 12 by omega) ?_)
  have ec : sU s 0 0 (mB 0 + c) = s (100 + c) := e0 _ (by show 100 + c ≠ 0; omega)
  rw [ec]
  refine ⟨fun z => gs_RC P1.1 (mp_fails (v := 2) P1 (fun h3 o3 P3 => ?_)), fun z => ?_⟩
  · have hz := (nI_eq (b := 99) (n31 (by omega)) (by decide)).mp z
    rw [sU_idem] at P3
    exact q2 (by omega) h3 (o1.trans o3) P3
  have h99 : s (100 + c) < 99 := by
    have : s (100 + c) ≠ 99 := fun w => z (by rw [w]; rfl)
    omega
  have q3 := q1 h99
  have I0 : IV (sU s 0 0) := IV0 I
  have hc0 : c < sU s 0 0 1 := by rw [e0 1 (by decide)]; exact hc
  have I1 : IV (coS (sU s 0 0) c) := coS_IV I0 hc0 (by rw [e0 _ (by omega)]; exact h99)
  refine gs_GR P1.1 rfl (mp_LI (k := 0) P1 (by decide) rfl (show c < 12 by omega) ?_)
  rw [nI_1]
  refine mp_SI (k := 0) P1 (by decide) rfl (show c < 12 by omega) (fun h2 o2 P2 => gs_GR P2.1 rfl (mp_SZ (v := 0) P2 (show c < 12 by omega) (by decide) (fun h3 o3 P3 => ?_)))
  have P4 : MP m a (coS (sU s 0 0) c) h3 := P3
  have o13 := (o1.trans o2).trans o3
  generalize hb : coS (sU s 0 0) c = b at I1 P4 q3
  generalize hsel : (fun j n => shownB b j n c) = sel at q3
  have hsel' : ∀ j n, sel j n = shownB b j n c := fun j n => by rw [← hsel]
  have bb2 : b 2 = s 2 := by rw [← hb, coS_ne (by omega) (by omega), e0 2 (by decide)]
  have bb1 : b 1 = s 1 := by rw [← hb, coS_ne (by omega) (by omega), e0 1 (by decide)]
  have bb10 : b 10 = s 10 := by rw [← hb, coS_ne (by omega) (by omega), e0 10 (by decide)]
  have key : ∀ (r j : Nat) (h5 : gh_H), j + r = s 2 → Only Mo h h5 → MP m a (sU (csS sel b j) 10 (s 10 + csN sel b j)) h5 → wl_X3_correct_48 κ Q X (r + 1) m (nI c) (nI (csN sel b j)) (nI j) h5 := by
    intro r
    induction r with
    | zero =>
      intro j h5 hj o5 P5
      show wb_X3_correct_48 κ _ Q X m (nI c) _ (nI j) h5
      unfold wb_X3_correct_48
      refine gs_GI P5.1 rfl ?_
      rw [sU_ne (show 2 ≠ 10 by decide), csS_out I1 (show j ≤ 4 by omega) (by omega), bb2]
      have ej : j = s 2 := by omega
      rw [ej] at P5 ⊢
      exact ⟨fun _ => q3 h5 o5 P5, fun z => absurd (nI_le (Nat.le_refl _) (n31 (by omega))) z⟩
    | succ r ih =>
      intro j h5 hj o5 P5
      have hj4 : j < 4 := by omega
      show wb_X3_correct_48 κ (wl_X3_correct_48 κ Q X (r + 1)) Q X m (nI c) _ (nI j) h5
      unfold wb_X3_correct_48
      refine gs_GI P5.1 rfl ?_
      rw [sU_ne (show 2 ≠ 10 by decide), csS_out I1 (show j ≤ 4 by omega) (by omega), bb2]
      refine ⟨fun z => absurd z (nI_ge (by omega) (n31 (by omega))), fun _ => ?_⟩
      have h8 := nSh_8 I1 hj4
      have hsum := csN_le (sel := sel) I1 j (by omega)
      have key2 : ∀ (r2 n : Nat) (h6 : gh_H), n + r2 = nSh b j → Only Mo h h6 → MP m a (sU (tkS (sel j) j (csS sel b j) n) 10 (s 10 + (csN sel b j + tkN (sel j) j b n))) h6 → wl_X3_correct_59 κ (wl_X3_correct_48 κ Q X (r + 1)) Q X (r2 + 1) m (nI c) (nI (csN sel b j + tkN (sel j) j b n)) (nI j) (nI n) h6 := by
        intro r2
        induction r2 with
        | zero =>
          intro n h6 hn o6 P6
          show wb_X3_correct_59 κ (wl_X3_correct_48 κ Q X (r + 1)) _ Q X m (nI c) _ (nI j) (nI n) h6
          have hk := tkN_le (sel := sel j) I1.2.2.2.2.2.2.1 hj4 n (by omega)
          have I6 : IV (sU (tkS (sel j) j (csS sel b j) n) 10 (s 10 + (csN sel b j + tkN (sel j) j b n))) := IV_10 (tkS_IV (csS_IV I1 (by omega)) hj4 (by omega)) (by omega)
          have qa : sQ (tkS (sel j) j (csS sel b j) n) (sU (tkS (sel j) j (csS sel b j) n) 10 (s 10 + (csN sel b j + tkN (sel j) j b n))) := sQ.low (by decide)
          have za : sZ b (tkS (sel j) j (csS sel b j) n) := fun i hi => by rw [tkS_out (by omega)]; exact csS_out I1 (by omega) (by omega)
          have en : n = nSh b j := by omega
          have nx := ih (j + 1) h6 (by omega) o6 (by
            show MP m a (sU (tkS (sel j) j (csS sel b j) (nSh b j)) 10 (s 10 + (csN sel b j + tkN (sel j) j b (nSh b j)))) h6
            rw [← en]
            exact P6)
          have nx2 : wl_X3_correct_48 κ Q X (r + 1) m (nI c) (nI (csN sel b j + tkN (sel j) j b n)) (nI j + 1) h6 := by
            rw [nI_1, en]
            exact nx
          unfold wb_X3_correct_59 wb_X3_correct_108
          refine gs_RC P6.1 (mp_isWhole P6 I6 hj4 (fun w => ⟨(fun z => by cases z), fun _ => gs_RC P6.1 (mp_count P6 I6 hj4 ?_)⟩) (fun w => ⟨fun _ => nx2, fun z => absurd rfl z⟩))
          have w2 : whole b j := (sZ_whole za hj4).mp ((sQ_whole qa j).mp w)
          rw [sQ_cnt qa, sZ_cnt za hj4]
          rw [nSh_w w2] at en h8
          exact ⟨fun _ => nx2, fun z => absurd (nI_le (by omega) (n31 (by omega))) z⟩
        | succ r2 ih2 =>
          intro n h6 hn o6 P6
          show wb_X3_correct_59 κ (wl_X3_correct_48 κ Q X (r + 1)) (wl_X3_correct_59 κ (wl_X3_correct_48 κ Q X (r + 1)) Q X (r2 + 1)) Q X m (nI c) _ (nI j) (nI n) h6
          have hk := tkN_le (sel := sel j) I1.2.2.2.2.2.2.1 hj4 n (by omega)
          have I6 : IV (sU (tkS (sel j) j (csS sel b j) n) 10 (s 10 + (csN sel b j + tkN (sel j) j b n))) := IV_10 (tkS_IV (csS_IV I1 (by omega)) hj4 (by omega)) (by omega)
          have qa : sQ (tkS (sel j) j (csS sel b j) n) (sU (tkS (sel j) j (csS sel b j) n) 10 (s 10 + (csN sel b j + tkN (sel j) j b n))) := sQ.low (by decide)
          have za : sZ b (tkS (sel j) j (csS sel b j) n) := fun i hi => by rw [tkS_out (by omega)]; exact csS_out I1 (by omega) (by omega)
          have hw : whole b j := by
            refine Classical.byContradiction (fun w => ?_)
            have := nSh_n w
            omega
          have hcn := nSh_w hw
          have hw6 := (sQ_whole qa j).mpr ((sZ_whole za hj4).mpr hw)
          have hc6 : cnt (sU (tkS (sel j) j (csS sel b j) n) 10 (s 10 + (csN sel b j + tkN (sel j) j b n))) j = cnt b j := by rw [sQ_cnt qa, sZ_cnt za hj4]
          have sh : shown (sU (tkS (sel j) j (csS sel b j) n) 10 (s 10 + (csN sel b j + tkN (sel j) j b n))) j n c ↔ sel j n = true := by
            rw [hsel' j n, ← sZ_shownB za I1 hj4 (show n < nSh b j by omega), ← sQ_shownB qa]
            exact shownB_iff.symm
          unfold wb_X3_correct_59 wb_X3_correct_108 wb_X3_correct_100
          refine gs_RC P6.1 (mp_isWhole P6 I6 hj4 (fun w => ⟨(fun z => by cases z), fun _ => gs_RC P6.1 (mp_count P6 I6 hj4 ?_)⟩) (fun w => absurd hw6 w))
          rw [hc6]
          refine ⟨fun z => absurd z (nI_ge (by omega) (n31 (by omega))), fun _ => gs_RC P6.1 (mp_isShown P6 I6 hj4 hw6 (by rw [hc6]; omega) (by omega) (fun w => ⟨(fun z => by cases z), fun _ => gs_RC P6.1 (mp_voids P6 I6 hj4 (by omega) (fun h7 o7 P7 => ?_))⟩) (fun w => ⟨fun _ => ?_, fun z => absurd rfl z⟩))⟩
          · have hs := sh.mp w
            have est : sU (tkS (sel j) j (csS sel b j) n) 10 (s 10 + (csN sel b j + tkN (sel j) j b n)) (300 + (8 * j + n)) = b (300 + (8 * j + n)) := by
              rw [sU_ne (by omega), tkS_out (by omega)]
              exact csS_out I1 (by omega) (by omega)
            have e1 : tkS (sel j) j (csS sel b j) (n + 1) = sU (tkS (sel j) j (csS sel b j) n) (300 + (8 * j + n)) 0 := by
              show (if sel j n then _ else _) = _
              rw [hs]
              rfl
            have e2 : tkN (sel j) j b (n + 1) = tkN (sel j) j b n + b (300 + (8 * j + n)) := by
              show (tkN (sel j) j b n + if sel j n then _ else _) = _
              rw [hs]
              rfl
            rw [est, sU_10 (by omega), sU_self] at P7
            have nx := ih2 (n + 1) h7 (by omega) (o6.trans o7) (by
              rw [e1, e2, show s 10 + (csN sel b j + (tkN (sel j) j b n + b (300 + (8 * j + n)))) = s 10 + (csN sel b j + tkN (sel j) j b n) + b (300 + (8 * j + n)) by omega]
              exact P7)
            rw [est, nI_add, nI_1]
            rw [e2, ← Nat.add_assoc] at nx
            exact nx
          · have hs : sel j n = false := by
              cases e : sel j n with
              | false => rfl
              | true => exact absurd (sh.mpr e) w
            have e1 : tkS (sel j) j (csS sel b j) (n + 1) = tkS (sel j) j (csS sel b j) n := by
              show (if sel j n then _ else _) = _
              rw [hs]
              rfl
            have e2 : tkN (sel j) j b (n + 1) = tkN (sel j) j b n := by
              show (tkN (sel j) j b n + if sel j n then _ else _) = _
              rw [hs]
              rfl
            have nx := ih2 (n + 1) h6 (by omega) o6 (by rw [e1, e2]; exact P6)
            rw [show nI (csN sel b j + tkN (sel j) j b n) + 0 = nI (csN sel b j + tkN (sel j) j b n) from nI_add _ 0, nI_1]
            rw [e2] at nx
            exact nx
      exact ⟨_, key2 _ 0 h5 (Nat.zero_add _) o5 P5⟩
  refine ⟨_, key _ 0 h3 (Nat.zero_add _) o13 ?_⟩
  have e9 : sU b 10 (s 10 + 0) = b := by
    funext i
    unfold sU
    split
    · rename_i hi
      rw [hi, bb10]
      rfl
    · rfl
  show MP m a (sU b 10 (s 10 + 0)) h3
  rw [e9]
  exact P4
end
theorem csS_z {sel : Nat → Nat → Bool} {s : Nat → Nat} {i : Nat} (h : s i = 0) : ∀ r, csS sel s r i = 0
  | 0 => h
  | r + 1 => by
    have tz : ∀ (X : Nat → Nat) (q : Nat), X i = 0 → tkS (sel r) r X q i = 0 := by
      intro X q hX
      induction q with
      | zero => exact hX
      | succ q ih =>
        unfold tkS
        split
        · unfold sU
          split
          · rfl
          · exact ih
        · exact ih
    exact tz _ _ (csS_z h r)
theorem cs_cg {sel sel' : Nat → Nat → Bool} {s s' : Nat → Nat} (q : ∀ i, i ≠ 0 → s' i = s i) (qs : ∀ j n, sel' j n = sel j n) : ∀ r, csN sel' s' r = csN sel s r ∧ ∀ i, i ≠ 0 → csS sel' s' r i = csS sel s r i
  | 0 => ⟨rfl, q⟩
  | r + 1 => by
    have ih := cs_cg q qs r
    have en : nSh s' r = nSh s r := sQ_nSh (fun i hi => q i (by omega)) r
    refine ⟨?_, ?_⟩
    · unfold csN
      rw [ih.1, en, tkN_congr (s' := s) (sel' := sel r) _ (fun n _ => ⟨qs r n, q _ (by omega)⟩)]
    · unfold csS
      rw [en]
      have tz : ∀ (k : Nat), ∀ i, i ≠ 0 → tkS (sel' r) r (csS sel' s' r) k i = tkS (sel r) r (csS sel s r) k i := by
        intro k
        induction k with
        | zero => exact ih.2
        | succ k ih2 =>
          intro i hi
          unfold tkS
          rw [qs r k]
          split
          · unfold sU
            split
            · rfl
            · exact ih2 i hi
          · exact ih2 i hi
      exact tz _
section
variable {κ bd : Nat → Nat} {sc : Nat × Nat × (Nat → Int32)} {T : (Nat → Nat) → Nat → gh_H → Prop} {d m vO vD t : Nat} {h : gh_H} {K : gh_H → Prop}
theorem o_correct {x : Int32} {G : Int32 → gh_H → Prop} (hG : ∀ r3 h4, KC κ bd sc h4 → gh_RC h4 (some m) 1 (fun a5 => wp_X3_correct κ a5 x (fun r6 h7 => TLw κ vO K r3 a5 r6 h7) (fun _ _ => False) h4) → G r3 h4) (hT : TKs T) (ht : t < 64) (L : LI κ bd sc T d m vO vD t h) (k : ∀ h', LI κ bd sc T d m vO vD (t + 1) h' → K h') :
    wp_X0_correct κ (some d) x (some vO) G (fun _ _ => False) h := by
  obtain ⟨a, s, ca, ja, la, A, ev, P, M, I, J, Y, E, B, C, O⟩ := L
  have i1 := I.1
  have i2 := I.2.1
  have B0 := B
  unfold IB at B0
  unfold wp_X0_correct
  refine gs_RC P.1 (dk_correct P C.1 C.2.1 (hT.1 s) I J E (by omega) (fun c hc hx h99 h1 o1 P1 => ?_) (fun c hc hx h99 => Or.inr ⟨rfl, fun _ => ?_⟩) (fun hx => Or.inl ⟨rfl, fun _ => ?_⟩))
  · have e0 : ∀ i, i ≠ 0 → coS (sU s 0 0) c i = coS s c i := fun i hi => by
      unfold coS
      rw [sU_ne (show 100 + c ≠ 0 by omega)]
      unfold sU
      split
      · rfl
      · split
        · rfl
        · first | rfl | rw [if_neg hi]
    have qs : ∀ j n, shownB (coS (sU s 0 0) c) j n c = shownB (coS s c) j n c := fun j n => sQ_shownB (fun i hi => e0 i (by omega)) j n c
    have cg := cs_cg (sel := fun j n => shownB (coS s c) j n c) (sel' := fun j n => shownB (coS (sU s 0 0) c) j n c) e0 qs (s 2)
    have I1 := coS_IV I hc h99
    have hc0 : c < sU s 0 0 1 := by rw [sU_ne (by decide)]; exact hc
    have I0 : IV (coS (sU s 0 0) c) := coS_IV (IV0 I) hc0 (by rw [sU_ne (by omega)]; exact h99)
    have J1 := coS_IW I J hc
    have hsum := csN_le (sel := fun j n => shownB (coS s c) j n c) I1 (s 2) i2
    generalize hS : csN (fun j n => shownB (coS s c) j n c) (coS s c) (s 2) = S at cg hsum P1
    generalize hA : csS (fun j n => shownB (coS s c) j n c) (coS s c) (s 2) = SA at cg P1
    have outA : ∀ i, (i < 300 ∨ 332 ≤ i) → SA i = coS s c i := fun i hi => by rw [← hA]; exact csS_out I1 i2 (by omega)
    have IA : IV SA := by rw [← hA]; exact csS_IV I1 i2
    have JA : IW SA := IW_of J1 I1 (fun i hi => outA i (by omega))
    have f : ∀ s' : Nat → Nat, (∀ i, i ≠ 0 → i ≠ 10 → s' i = SA i) → s' 10 = s 10 + S → IV s' ∧ IW s' ∧ IY s' ∧ IE s' (ev ++ [2 * c]) ∧ IB s' (ev ++ [2 * c]) (t + 1) := by
      intro s' f f10
      have f2 : ∀ i, i ≠ 0 → i ≠ 10 → (i < 300 ∨ 332 ≤ i) → i ≠ 100 + c → i ≠ 340 + c → s' i = s i := fun i h1 h2 h3 h4 h5 => by rw [f i h1 h2, outA i h3, coS_ne h4 h5]
      refine ⟨?_, ?_, ?_, ?_, ?_⟩
      · have IA10 := IV_10 (v := s 10 + S) IA (by omega)
        have g : ∀ i, i ≠ 0 → s' i = sU SA 10 (s 10 + S) i := fun i hi => by
          by_cases w : i = 10
          · rw [w, f10, sU_self]
          · rw [f i hi w, sU_ne w]
        unfold IV
        rw [g 1 (by decide), g 2 (by decide), g 10 (by decide), g 11 (by decide)]
        refine ⟨IA10.1, IA10.2.1, fun j hj => ?_, fun j hj => ?_, fun j i hj hi => ?_, fun q hq => ?_, fun i hi => ?_, IA10.2.2.2.2.2.2.2.1, IA10.2.2.2.2.2.2.2.2⟩
        · rw [g _ (by omega), g _ (by omega)]
          exact IA10.2.2.1 j hj
        · rw [g _ (by omega)]
          exact IA10.2.2.2.1 j hj
        · rw [g _ (by omega)] at hi
          rw [g _ (by omega)]
          exact IA10.2.2.2.2.1 j i hj hi
        · rw [g _ (by omega), g _ (by omega)]
          exact IA10.2.2.2.2.2.1 q hq
        · rw [g _ (by omega)]
          exact IA10.2.2.2.2.2.2.1 i hi
      · exact IW_of JA IA (fun i hi => f i (by omega) (by omega))
      · refine ⟨fun q h1 h2 => ?_, fun j h1 h2 => ?_, fun j n h1 h2 h3 => ?_⟩
        · rw [f2 1 (by decide) (by decide) (by omega) (by omega) (by omega)] at h1
          rw [f2 (100 + q) (by omega) (by omega) (by omega) (by omega) (by omega), f2 (340 + q) (by omega) (by omega) (by omega) (by omega) (by omega)]
          exact Y.1 q h1 h2
        · rw [f2 2 (by decide) (by decide) (by omega) (by omega) (by omega)] at h1
          rw [f2 (130 + j) (by omega) (by omega) (by omega) (by omega) (by omega)]
          exact Y.2.1 j h1 h2
        · have en : nSh s' j = nSh s j := by
            unfold nSh cnt
            rw [f2 (130 + j) (by omega) (by omega) (by omega) (by omega) (by omega), f2 (120 + j) (by omega) (by omega) (by omega) (by omega) (by omega)]
          rw [en] at h3
          rw [f _ (by omega) (by omega), ← hA]
          refine csS_z ?_ _
          rw [coS_ne (by omega) (by omega)]
          exact Y.2.2 j n h1 h2 h3
      · refine ⟨fun y hy => ?_, fun q hq => ?_, fun l hl => ?_⟩
        · rw [f2 1 (by decide) (by decide) (by omega) (by omega) (by omega), f2 3 (by decide) (by decide) (by omega) (by omega) (by omega)]
          rcases List.mem_append.mp hy with w | w
          · exact E.1 y w
          · have w2 := List.mem_singleton.mp w
            subst w2
            exact ⟨fun _ => by omega, fun w => by omega⟩
        · rw [f2 1 (by decide) (by decide) (by omega) (by omega) (by omega)] at hq
          rw [f _ (by omega) (by omega), outA _ (by omega), List.count_append, List.count_singleton]
          by_cases w : q = c
          · subst w
            unfold coS
            rw [sU_ne (by omega), sU_self, E.2.1 q hq]
            simp
          · rw [coS_ne (by omega) (by omega), E.2.1 q hq]
            have : ¬ (2 * c = 2 * q) := by omega
            simp [this]
        · rw [f2 3 (by decide) (by decide) (by omega) (by omega) (by omega)] at hl
          obtain ⟨pre, suf, h1, h2, h3⟩ := E.2.2 l hl
          have l3 := J.2.2.2.2.2.2.2.2 l hl
          have l4 := ltp16 I J hl
          have j3 := J.1
          refine ⟨pre, suf ++ [2 * c], by rw [h1, List.append_assoc]; rfl, h2, fun i hi => ?_⟩
          rw [f2 (700 + l) (by omega) (by omega) (by omega) (by omega) (by omega)] at hi
          have : lCt s' l i = lCt s l i := by
            unfold lCt
            rw [f2 (500 + l) (by omega) (by omega) (by omega) (by omega) (by omega), f2 _ (by omega) (by omega) (by omega) (by omega) (by omega)]
          rw [f2 _ (by omega) (by omega) (by omega) (by omega) (by omega), this]
          exact h3 i hi
      · unfold IB
        rw [f2 3 (by decide) (by decide) (by omega) (by omega) (by omega), f2 4 (by decide) (by decide) (by omega) (by omega) (by omega), f2 5 (by decide) (by decide) (by omega) (by omega) (by omega), f2 6 (by decide) (by decide) (by omega) (by omega) (by omega), f2 11 (by decide) (by decide) (by omega) (by omega) (by omega), f10, List.length_append, List.length_singleton]
        omega
    have V1 := f (sU SA 10 (s 10 + S)) (fun i _ h1 => sU_ne h1) (sU_self _ _ _)
    have V2 := f (sU (csS (fun j n => shownB (coS (sU s 0 0) c) j n c) (coS (sU s 0 0) c) (s 2)) 10 (s 10 + S)) (fun i h0 h1 => by rw [sU_ne h1]; exact cg.2 i h0) (sU_self _ _ _)
    refine o_do (hG := hG 0) (WM := fun a5 Q h4 => wp_X3_correct κ a5 x Q (fun _ _ => False) h4) hT P1 (M.de o1) V1.1 V1.2.1 (fun i h0 _ _ _ => ?_) ?_ (fun i h1 h2 => ?_) ?_ V2.1 V2.2.1 V2.2.2.1 V2.2.2.2.1 V2.2.2.2.2 (C.de o1) (O.de o1) (fun h2 Q M2 kk => mp_correct M2 I (by omega) (fun c' hc' hx' h99' h3 o3 M3 => ?_) (fun c' hc' hx' h99' => ?_) (fun z => (ix_out (by omega) hc hx z).elim)) k
    · by_cases w : i = 10
      · rw [w, sU_self, sU_self]
      · rw [sU_ne w, sU_ne w]
        exact cg.2 i h0
    · rw [sU_ne (by decide), cg.2 4 (by decide), outA 4 (by omega), coS_ne (by omega) (by omega)]
    · rw [sU_ne (by omega), cg.2 i (by omega), outA i (by omega), coS_ne (by omega) (by omega)]
    · rw [sU_ne (by decide), csS_out I0 i2 (by omega), coS_ne (by omega) (by omega), sU_self]
    · have ej := ix_eq (by omega) hc hc' hx hx'
      subst ej
      rw [cg.1] at M3 ⊢
      exact kk h3 o3 M3
    · have ej := ix_eq (by omega) hc hc' hx hx'
      subst ej
      exact absurd h99 h99'
  · exact o_bad (c := 2) (hG := hG (nI 2)) (WM := fun a5 Q h4 => wp_X3_correct κ a5 x Q (fun _ _ => False) h4) hT P M I J Y E B C O (by decide) (by decide) (fun Q kk => mp_correct M I (by omega) (fun c' hc' hx' h99' => absurd (by rw [← ix_eq (by omega) hc hc' hx hx']; exact h99') h99) (fun c' hc' hx' h99' => kk) (fun z => (ix_out (by omega) hc hx z).elim)) k
  · exact o_bad (c := 1) (hG := hG (nI 1)) (WM := fun a5 Q h4 => wp_X3_correct κ a5 x Q (fun _ _ => False) h4) hT P M I J Y E B C O (by decide) (by decide) (fun Q kk => mp_correct M I (by omega) (fun c' hc' hx' h99' => (ix_out (by omega) hc' hx' hx).elim) (fun c' hc' hx' h99' => (ix_out (by omega) hc' hx' hx).elim) (fun _ => kk)) k
end
