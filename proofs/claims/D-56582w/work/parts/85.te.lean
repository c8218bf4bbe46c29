/-! THE TREE, part E: after a deletion -/
set_option maxRecDepth 100000
section
variable {N : Nat → Prop} {n : Nat} {rt rt' : Option Nat} {lf rg pa lf' rg' pa' : Nat → Option Nat} {ix lo hi : Nat → Nat}
/-- a leaf stays one -/
theorem RL.leaf {p r z : Nat} (T : TI N n rt lf rg pa ix lo hi) (hp : N p) (hr : rg p = some r) (R : RL p r rt lf rg pa rt' lf' rg' pa') (hl : lf z = none ∧ rg z = none) (hz : z ≠ r) : lf' z = none ∧ rg' z = none := by
  obtain ⟨r1, r2, r3, r4, r5, r6, r7, r8, r9, r10, r11, r12⟩ := R
  have hzp : z ≠ p := by intro w; rw [w, hr] at hl; exact nomatch hl.2
  refine ⟨(r10 z hz (fun w => by rw [hl.1] at w; exact nomatch w.2)).trans hl.1, (r12 z hzp (fun w => ?_)).trans hl.2⟩
  rcases (T.2.2.2.2.2.1 p z hp w.1).2 with e | e
  · exact w.2 e
  · rw [hl.2] at e
    exact nomatch e
theorem RR.leaf {p r z : Nat} (T : TI N n rt lf rg pa ix lo hi) (hp : N p) (hr : lf p = some r) (R : RR p r rt lf rg pa rt' lf' rg' pa') (hl : lf z = none ∧ rg z = none) (hz : z ≠ r) : lf' z = none ∧ rg' z = none := by
  obtain ⟨r1, r2, r3, r4, r5, r6, r7, r8, r9, r10, r11, r12⟩ := R
  have hzp : z ≠ p := by intro w; rw [w, hr] at hl; exact nomatch hl.1
  refine ⟨(r12 z hzp (fun w => ?_)).trans hl.1, (r10 z hz (fun w => by rw [hl.2] at w; exact nomatch w.2)).trans hl.2⟩
  rcases (T.2.2.2.2.2.1 p z hp w.1).2 with e | e
  · rw [hl.1] at e
    exact nomatch e
  · exact w.2 e
end
/-- what stands behind fixAfterDeletion: z, if it is there, has kept no children -/
def FDk (t a : Nat) (N : Nat → Prop) (kb : Nat → Nat) (v : Nat) (nk : Option Nat) (n : Nat) (ix : Nat → Nat) (sz : Nat) (mc : Int32) (z : Nat) (Q : gh_H → Prop) (h0 : gh_H) : Prop :=
  ∀ (h' : gh_H) (rt' : Option Nat) (lf' rg' pa' : Nat → Option Nat) (co' : Nat → Int32) (lo' hi' : Nat → Nat), TI N n rt' lf' rg' pa' ix lo' hi' → (N z → lf' z = none ∧ rg' z = none) → Only (TL t) h0 h' → TW t a N kb v nk rt' lf' rg' pa' co' sz mc h' → Q h'
section
variable {κ : Nat → Nat} {X : String → gh_H → Prop} {t a : Nat} {N : Nat → Prop} {kb : Nat → Nat} {v : Nat} {nk rt : Option Nat} {lf rg pa : Nat → Option Nat} {co : Nat → Int32} {sz : Nat} {mc : Int32} {h h0 : gh_H} {n : Nat} {ix lo hi : Nat → Nat} {z f : Nat} {Q : gh_H → Prop}
theorem fd_345 {x : Nat} (k : FDk t a N kb v nk n ix sz mc z Q h0) (o : Only (TL t) h0 h) (W : TW t a N kb v nk rt lf rg pa co sz mc h) (T : TI N n rt lf rg pa ix lo hi) (hx : N x) (hz : N z → lf z = none ∧ rg z = none) : wb_J6_fixAfterDeletion_345 κ Q X (some x) h := by
  unfold wb_J6_fixAfterDeletion_345
  exact tw_sc W hx (Or.inr rfl) (fun h1 o1 W1 => k h1 _ _ _ _ _ _ _ T hz (o.trans o1) W1)
theorem fd_root {r : Nat} (k : FDk t a N kb v nk n ix sz mc z Q h0) (o : Only (TL t) h0 h) (W : TW t a N kb v nk rt lf rg pa co sz mc h) (T : TI N n rt lf rg pa ix lo hi) (hr : rt = some r) (hz : N z → lf z = none ∧ rg z = none) : wl_J6_fixAfterDeletion_0 κ Q X (f + 1) a (some r) h := by
  show wb_J6_fixAfterDeletion_0 κ (wl_J6_fixAfterDeletion_0 κ Q X f) Q X a (some r) h
  unfold wb_J6_fixAfterDeletion_0
  exact W.root ⟨fun _ => fd_345 k o W T (T.2.2.2.2.2.2.2.2.1 r hr).1 hz, fun w => absurd hr.symm w⟩
theorem fd_143 {x p s : Nat} (k : FDk t a N kb v nk n ix sz mc z Q h0) (o : Only (TL t) h0 h) (W : TW t a N kb v nk rt lf rg pa co sz mc h) (T : TI N n rt lf rg pa ix lo hi) (hx : N x) (hp : pa x = some p) (hl : lf p = some x) (hs : rg p = some s) (hz : N z → (lf z = none ∧ rg z = none) ∧ lo x ≤ ix z ∧ ix z < hi x) : wb_J6_fixAfterDeletion_143 κ (wl_J6_fixAfterDeletion_0 κ Q X (f + 1)) Q X a (some x) (some s) h := by
  have hp0 := T.2.2.2.2.2.1 x p hx hp
  have hs0 := T.2.2.2.2.1 p s hp0.1 hs
  have hx0 := T.2.2.1 p x hp0.1 hl
  have ls := T.1 s hs0.1
  have lx := T.1 x hx
  have lp := T.1 p hp0.1
  have zs : N z → z ≠ s := fun w e => by
    have := (hz w).2
    subst e
    omega
  unfold wb_J6_fixAfterDeletion_143 wb_J6_fixAfterDeletion_183
  refine tw_pa W hx hp (tw_colorOf W (fun q hq => by cases hq; exact hp0.1) (tw_sc W hs0.1 (oc01 W (fun q hq => by cases hq; exact hp0.1)) (fun h1 o1 W1 => tw_pa W1 hx hp (tw_sc W1 hp0.1 (Or.inr rfl) (fun h2 o2 W2 => tw_rg W2 hs0.1 rfl (tw_setColor W2 (fun q hq => (T.2.2.2.2.1 s q hs0.1 hq).1) (Or.inr rfl) (fun h3 o3 W3 => tw_pa W3 hx hp (W3.rc (tw_rotL W3 T hp0.1 hs (fun h4 rt' lf' rg' pa' R o4 W4 => W4.root ?_))))))))))
  have T4 := RL.ti T hp0.1 hs R
  have hz4 : N z → lf' z = none ∧ rg' z = none := fun w => RL.leaf T hp0.1 hs R (hz w).1 (zs w)
  cases hr : rt' with
  | none => exact absurd hx ((T4.2.2.2.2.2.2.2.1 hr).2 x)
  | some r => exact fd_root k ((((o.trans o1).trans o2).trans o3).trans o4) W4 T4 hr hz4
theorem fd_106 {x p s : Nat} (k : FDk t a N kb v nk n ix sz mc z Q h0) (o : Only (TL t) h0 h) (W : TW t a N kb v nk rt lf rg pa co sz mc h) (T : TI N n rt lf rg pa ix lo hi) (hx : N x) (hp : pa x = some p) (hl : lf p = some x) (hs : rg p = some s) (hz : N z → (lf z = none ∧ rg z = none) ∧ lo x ≤ ix z ∧ ix z < hi x) (hc : oc co (lf s) ≠ 1 ∨ oc co (rg s) ≠ 1) : wb_J6_fixAfterDeletion_106 κ (wl_J6_fixAfterDeletion_0 κ Q X (f + 1)) Q X a (some x) (some s) h := by
  have hp0 := T.2.2.2.2.2.1 x p hx hp
  have hs0 := T.2.2.2.2.1 p s hp0.1 hs
  have hx0 := T.2.2.1 p x hp0.1 hl
  have ls := T.1 s hs0.1
  have lx := T.1 x hx
  have lp := T.1 p hp0.1
  unfold wb_J6_fixAfterDeletion_106
  refine tw_rg W hs0.1 rfl (tw_colorOf W (fun q hq => (T.2.2.2.2.1 s q hs0.1 hq).1) ⟨fun e => tw_lf W hs0.1 rfl ?_, fun _ => fd_143 k o W T hx hp hl hs hz⟩)
  have hcl : oc co (lf s) ≠ 1 := by
    rcases hc with w | w
    · exact w
    · exact absurd e w
  cases hll : lf s with
  | none => rw [hll] at hcl; exact absurd rfl hcl
  | some l =>
    have hl0 := T.2.2.1 s l hs0.1 hll
    have ll := T.1 l hl0.1
    refine tw_sc W hl0.1 (Or.inr rfl) (fun h1 o1 W1 => tw_sc W1 hs0.1 (Or.inl rfl) (fun h2 o2 W2 => W2.rc (tw_rotR W2 T hs0.1 hll (fun h3 rt' lf' rg' pa' R o3 W3 => ?_))))
    have T3 := RR.ti T hs0.1 hll R
    have hz3 : N z → (lf' z = none ∧ rg' z = none) ∧ lo x ≤ ix z ∧ ix z < hi x := fun w => ⟨RR.leaf T hs0.1 hll R (hz w).1 (fun e => by have := (hz w).2; subst e; omega), (hz w).2⟩
    obtain ⟨r1, r2, r3, r4, r5, r6, r7, r8, r9, r10, r11, r12⟩ := R
    have exs : x ≠ s := by intro w; subst w; omega
    have exl : x ≠ l := by intro w; subst w; omega
    have eps : p ≠ s := by intro w; subst w; omega
    have epx : pa' x = some p := by
      rw [r6 x exs exl (fun w => ?_), hp]
      have := (T.2.2.2.2.1 l x hl0.1 w).2.1
      rw [hp] at this
      cases this
      omega
    have elp : lf' p = some x := by rw [r12 p eps (fun w => w.2 hs), hl]
    have erp : rg' p = some l := r9 p hs0.2.1 hs
    have lo3 : sO lo s (ix l + 1) x = lo x := sO_ne exs
    have hi3 : sO hi l (hi s) x = hi x := sO_ne exl
    refine tw_pa W3 hx epx (tw_rg W3 hp0.1 erp (fd_143 k (((o.trans o1).trans o2).trans o3) W3 T3 hx epx elp erp (fun w => ?_)))
    rw [lo3, hi3]
    exact hz3 w
theorem fd_71 {x p : Nat} (k : FDk t a N kb v nk n ix sz mc z Q h0) (o : Only (TL t) h0 h) (W : TW t a N kb v nk rt lf rg pa co sz mc h) (T : TI N n rt lf rg pa ix lo hi) (hx : N x) (hp : pa x = some p) (hl : lf p = some x) (hz : N z → (lf z = none ∧ rg z = none) ∧ lo x ≤ ix z ∧ ix z < hi x) (kp : ∀ (h1 : gh_H) (co1 : Nat → Int32), Only (TL t) h0 h1 → TW t a N kb v nk rt lf rg pa co1 sz mc h1 → wl_J6_fixAfterDeletion_0 κ Q X (f + 1) a (some p) h1) : wb_J6_fixAfterDeletion_71 κ (wl_J6_fixAfterDeletion_0 κ Q X (f + 1)) Q X a (some x) (rg p) h := by
  have hp0 := T.2.2.2.2.2.1 x p hx hp
  unfold wb_J6_fixAfterDeletion_71 wb_J6_fixAfterDeletion_183
  cases hs : rg p with
  | none => exact tw_lf0 (tw_co0 ⟨fun _ => tw_rg0 (tw_co0 ⟨fun _ => tw_sc0 (tw_pa W hx hp (kp h co o W)), fun w => absurd rfl w⟩), fun w => absurd rfl w⟩)
  | some s =>
    have hs0 := T.2.2.2.2.1 p s hp0.1 hs
    refine tw_lf W hs0.1 rfl (tw_colorOf W (fun q hq => (T.2.2.1 s q hs0.1 hq).1) ⟨fun _ => tw_rg W hs0.1 rfl (tw_colorOf W (fun q hq => (T.2.2.2.2.1 s q hs0.1 hq).1) ⟨fun _ => tw_sc W hs0.1 (Or.inl rfl) (fun h1 o1 W1 => tw_pa W1 hx hp (kp h1 _ (o.trans o1) W1)), fun e => ?_⟩), fun e => ?_⟩)
    · exact fd_106 k o W T hx hp hl hs hz (Or.inr e)
    · exact fd_106 k o W T hx hp hl hs hz (Or.inl e)
/-- the left child's turn -/
theorem fd_left {x p : Nat} (k : FDk t a N kb v nk n ix sz mc z Q h0) (o : Only (TL t) h0 h) (W : TW t a N kb v nk rt lf rg pa co sz mc h) (T : TI N n rt lf rg pa ix lo hi) (hx : N x) (hp : pa x = some p) (hl : lf p = some x) (hz : N z → (lf z = none ∧ rg z = none) ∧ lo x ≤ ix z ∧ ix z < hi x)
    (kp : ∀ (h1 : gh_H) (rt1 : Option Nat) (lf1 rg1 pa1 : Nat → Option Nat) (co1 : Nat → Int32) (lo1 hi1 : Nat → Nat), TI N n rt1 lf1 rg1 pa1 ix lo1 hi1 → (N z → (lf1 z = none ∧ rg1 z = none) ∧ lo1 p ≤ ix z ∧ ix z < hi1 p) → hi x - lo x < hi1 p - lo1 p → Only (TL t) h0 h1 → TW t a N kb v nk rt1 lf1 rg1 pa1 co1 sz mc h1 → wl_J6_fixAfterDeletion_0 κ Q X (f + 1) a (some p) h1) :
    wp_J6_parentOf κ (some x) (fun r26 h27 => (wp_J6_rightOf κ r26 (fun r28 h29 => (wp_J6_colorOf κ r28 (fun r30 h31 => ((r30 = 0 → (wp_J6_setColor κ r28 (1 : Int32) (fun h32 => (wp_J6_parentOf κ (some x) (fun r33 h34 => (wp_J6_setColor κ r33 (0 : Int32) (fun h35 => (wp_J6_parentOf κ (some x) (fun r36 h37 => (gh_RC h37 (some a) 11 (fun _ => (wp_J6_rotateLeft κ a r36 (fun h39 => (wp_J6_parentOf κ (some x) (fun r40 h41 => (wp_J6_rightOf κ r40 (fun r42 h43 => wb_J6_fixAfterDeletion_71 κ (wl_J6_fixAfterDeletion_0 κ Q X (f + 1)) Q X a (some x) r42 h43) X h41)) X h39)) X h37)))) X h35)) X h34)) X h32)) X h31)) ∧ (¬ r30 = 0 → wb_J6_fixAfterDeletion_71 κ (wl_J6_fixAfterDeletion_0 κ Q X (f + 1)) Q X a (some x) r28 h31))) X h29)) X h27)) X h := by
  have hp0 := T.2.2.2.2.2.1 x p hx hp
  have hx0 := T.2.2.1 p x hp0.1 hl
  have lx := T.1 x hx
  have lp := T.1 p hp0.1
  have go : ∀ (h1 : gh_H) (co1 : Nat → Int32), Only (TL t) h0 h1 → TW t a N kb v nk rt lf rg pa co1 sz mc h1 → wl_J6_fixAfterDeletion_0 κ Q X (f + 1) a (some p) h1 := fun h1 co1 o1 W1 => kp h1 _ _ _ _ _ _ _ T (fun w => ⟨(hz w).1, by have := (hz w).2; omega, by have := (hz w).2; omega⟩) (by omega) o1 W1
  refine tw_pa W hx hp (tw_rg W hp0.1 rfl ?_)
  cases hs : rg p with
  | none =>
    refine tw_co0 ⟨fun w => absurd w (by decide), fun _ => ?_⟩
    have := fd_71 (f := f) (X := X) k o W T hx hp hl hz go
    rw [hs] at this
    exact this
  | some s =>
    have hs0 := T.2.2.2.2.1 p s hp0.1 hs
    have ls := T.1 s hs0.1
    refine tw_colorOf W (fun q hq => by cases hq; exact hs0.1) ⟨fun _ => ?_, fun _ => ?_⟩
    · refine tw_sc W hs0.1 (Or.inr rfl) (fun h1 o1 W1 => tw_pa W1 hx hp (tw_sc W1 hp0.1 (Or.inl rfl) (fun h2 o2 W2 => tw_pa W2 hx hp (W2.rc (tw_rotL W2 T hp0.1 hs (fun h3 rt' lf' rg' pa' R o3 W3 => ?_))))))
      have T3 := RL.ti T hp0.1 hs R
      have exs : x ≠ s := by intro w; subst w; omega
      have exp : x ≠ p := by intro w; subst w; omega
      have eps : p ≠ s := by intro w; subst w; omega
      have hz3 : N z → (lf' z = none ∧ rg' z = none) ∧ lo x ≤ ix z ∧ ix z < hi x := fun w => ⟨RL.leaf T hp0.1 hs R (hz w).1 (fun e => by have := (hz w).2; subst e; omega), (hz w).2⟩
      obtain ⟨r1, r2, r3, r4, r5, r6, r7, r8, r9, r10, r11, r12⟩ := R
      have epx : pa' x = some p := by
        rw [r6 x exp exs (fun w => ?_), hp]
        have := (T.2.2.1 s x hs0.1 w).2.1
        rw [hp] at this
        cases this
        exact eps rfl
      have elp : lf' p = some x := by
        rw [r10 p eps (fun w => ?_), hl]
        rw [hl] at w
        cases w.2
        exact exp rfl
      have lo3 : sO lo s (lo p) x = lo x := sO_ne exs
      have hi3 : sO hi p (ix s) x = hi x := sO_ne exp
      have lo4 : sO lo s (lo p) p = lo p := sO_ne eps
      have hi4 : sO hi p (ix s) p = ix s := sO_self _ _ _
      have oo := ((o.trans o1).trans o2).trans o3
      refine tw_pa W3 hx epx (tw_rg W3 hp0.1 rfl (fd_71 k oo W3 T3 hx epx elp (fun w => ?_) (fun h4 co4 o4 W4 => kp h4 _ _ _ _ _ _ _ T3 (fun w => ?_) ?_ o4 W4)))
      · rw [lo3, hi3]
        exact hz3 w
      · rw [lo4, hi4]
        have := (hz w).2
        exact ⟨(hz3 w).1, by omega, by omega⟩
      · rw [lo4, hi4]
        omega
    · have := fd_71 (f := f) (X := X) k o W T hx hp hl hz go
      rw [hs] at this
      exact this
/-! the mirror image -/
theorem fd_302 {x p s : Nat} (k : FDk t a N kb v nk n ix sz mc z Q h0) (o : Only (TL t) h0 h) (W : TW t a N kb v nk rt lf rg pa co sz mc h) (T : TI N n rt lf rg pa ix lo hi) (hx : N x) (hp : pa x = some p) (hl : rg p = some x) (hs : lf p = some s) (hz : N z → (lf z = none ∧ rg z = none) ∧ lo x ≤ ix z ∧ ix z < hi x) : wb_J6_fixAfterDeletion_302 κ (wl_J6_fixAfterDeletion_0 κ Q X (f + 1)) Q X a (some x) (some s) h := by
  have hp0 := T.2.2.2.2.2.1 x p hx hp
  have hs0 := T.2.2.1 p s hp0.1 hs
  have hx0 := T.2.2.2.2.1 p x hp0.1 hl
  have ls := T.1 s hs0.1
  have lx := T.1 x hx
  have lp := T.1 p hp0.1
  have zs : N z → z ≠ s := fun w e => by
    have := (hz w).2
    subst e
    omega
  unfold wb_J6_fixAfterDeletion_302 wb_J6_fixAfterDeletion_342
  refine tw_pa W hx hp (tw_colorOf W (fun q hq => by cases hq; exact hp0.1) (tw_sc W hs0.1 (oc01 W (fun q hq => by cases hq; exact hp0.1)) (fun h1 o1 W1 => tw_pa W1 hx hp (tw_sc W1 hp0.1 (Or.inr rfl) (fun h2 o2 W2 => tw_lf W2 hs0.1 rfl (tw_setColor W2 (fun q hq => (T.2.2.1 s q hs0.1 hq).1) (Or.inr rfl) (fun h3 o3 W3 => tw_pa W3 hx hp (W3.rc (tw_rotR W3 T hp0.1 hs (fun h4 rt' lf' rg' pa' R o4 W4 => W4.root ?_))))))))))
  have T4 := RR.ti T hp0.1 hs R
  have hz4 : N z → lf' z = none ∧ rg' z = none := fun w => RR.leaf T hp0.1 hs R (hz w).1 (zs w)
  cases hr : rt' with
  | none => exact absurd hx ((T4.2.2.2.2.2.2.2.1 hr).2 x)
  | some r => exact fd_root k ((((o.trans o1).trans o2).trans o3).trans o4) W4 T4 hr hz4
theorem fd_265 {x p s : Nat} (k : FDk t a N kb v nk n ix sz mc z Q h0) (o : Only (TL t) h0 h) (W : TW t a N kb v nk rt lf rg pa co sz mc h) (T : TI N n rt lf rg pa ix lo hi) (hx : N x) (hp : pa x = some p) (hl : rg p = some x) (hs : lf p = some s) (hz : N z → (lf z = none ∧ rg z = none) ∧ lo x ≤ ix z ∧ ix z < hi x) (hc : oc co (rg s) ≠ 1 ∨ oc co (lf s) ≠ 1) : wb_J6_fixAfterDeletion_265 κ (wl_J6_fixAfterDeletion_0 κ Q X (f + 1)) Q X a (some x) (some s) h := by
  have hp0 := T.2.2.2.2.2.1 x p hx hp
  have hs0 := T.2.2.1 p s hp0.1 hs
  have hx0 := T.2.2.2.2.1 p x hp0.1 hl
  have ls := T.1 s hs0.1
  have lx := T.1 x hx
  have lp := T.1 p hp0.1
  unfold wb_J6_fixAfterDeletion_265
  refine tw_lf W hs0.1 rfl (tw_colorOf W (fun q hq => (T.2.2.1 s q hs0.1 hq).1) ⟨fun e => tw_rg W hs0.1 rfl ?_, fun _ => fd_302 k o W T hx hp hl hs hz⟩)
  have hcl : oc co (rg s) ≠ 1 := by
    rcases hc with w | w
    · exact w
    · exact absurd e w
  cases hll : rg s with
  | none => rw [hll] at hcl; exact absurd rfl hcl
  | some l =>
    have hl0 := T.2.2.2.2.1 s l hs0.1 hll
    have ll := T.1 l hl0.1
    refine tw_sc W hl0.1 (Or.inr rfl) (fun h1 o1 W1 => tw_sc W1 hs0.1 (Or.inl rfl) (fun h2 o2 W2 => W2.rc (tw_rotL W2 T hs0.1 hll (fun h3 rt' lf' rg' pa' R o3 W3 => ?_))))
    have T3 := RL.ti T hs0.1 hll R
    have hz3 : N z → (lf' z = none ∧ rg' z = none) ∧ lo x ≤ ix z ∧ ix z < hi x := fun w => ⟨RL.leaf T hs0.1 hll R (hz w).1 (fun e => by have := (hz w).2; subst e; omega), (hz w).2⟩
    obtain ⟨r1, r2, r3, r4, r5, r6, r7, r8, r9, r10, r11, r12⟩ := R
    have exs : x ≠ s := by intro w; subst w; omega
    have exl : x ≠ l := by intro w; subst w; omega
    have eps : p ≠ s := by intro w; subst w; omega
    have epx : pa' x = some p := by
      rw [r6 x exs exl (fun w => ?_), hp]
      have := (T.2.2.1 l x hl0.1 w).2.1
      rw [hp] at this
      cases this
      omega
    have elp : rg' p = some x := by rw [r12 p eps (fun w => w.2 hs), hl]
    have erp : lf' p = some l := r9 p hs0.2.1 hs
    have lo3 : sO lo l (lo s) x = lo x := sO_ne exl
    have hi3 : sO hi s (ix l) x = hi x := sO_ne exs
    refine tw_pa W3 hx epx (tw_lf W3 hp0.1 erp (fd_302 k (((o.trans o1).trans o2).trans o3) W3 T3 hx epx elp erp (fun w => ?_)))
    rw [lo3, hi3]
    exact hz3 w
theorem fd_230 {x p : Nat} (k : FDk t a N kb v nk n ix sz mc z Q h0) (o : Only (TL t) h0 h) (W : TW t a N kb v nk rt lf rg pa co sz mc h) (T : TI N n rt lf rg pa ix lo hi) (hx : N x) (hp : pa x = some p) (hl : rg p = some x) (hz : N z → (lf z = none ∧ rg z = none) ∧ lo x ≤ ix z ∧ ix z < hi x) (kp : ∀ (h1 : gh_H) (co1 : Nat → Int32), Only (TL t) h0 h1 → TW t a N kb v nk rt lf rg pa co1 sz mc h1 → wl_J6_fixAfterDeletion_0 κ Q X (f + 1) a (some p) h1) : wb_J6_fixAfterDeletion_230 κ (wl_J6_fixAfterDeletion_0 κ Q X (f + 1)) Q X a (some x) (lf p) h := by
  have hp0 := T.2.2.2.2.2.1 x p hx hp
  unfold wb_J6_fixAfterDeletion_230 wb_J6_fixAfterDeletion_342
  cases hs : lf p with
  | none => exact tw_rg0 (tw_co0 ⟨fun _ => tw_lf0 (tw_co0 ⟨fun _ => tw_sc0 (tw_pa W hx hp (kp h co o W)), fun w => absurd rfl w⟩), fun w => absurd rfl w⟩)
  | some s =>
    have hs0 := T.2.2.1 p s hp0.1 hs
    refine tw_rg W hs0.1 rfl (tw_colorOf W (fun q hq => (T.2.2.2.2.1 s q hs0.1 hq).1) ⟨fun _ => tw_lf W hs0.1 rfl (tw_colorOf W (fun q hq => (T.2.2.1 s q hs0.1 hq).1) ⟨fun _ => tw_sc W hs0.1 (Or.inl rfl) (fun h1 o1 W1 => tw_pa W1 hx hp (kp h1 _ (o.trans o1) W1)), fun e => ?_⟩), fun e => ?_⟩)
    · exact fd_265 k o W T hx hp hl hs hz (Or.inr e)
    · exact fd_265 k o W T hx hp hl hs hz (Or.inl e)
/-- the right child's turn -/
theorem fd_right {x p : Nat} (k : FDk t a N kb v nk n ix sz mc z Q h0) (o : Only (TL t) h0 h) (W : TW t a N kb v nk rt lf rg pa co sz mc h) (T : TI N n rt lf rg pa ix lo hi) (hx : N x) (hp : pa x = some p) (hl : rg p = some x) (hz : N z → (lf z = none ∧ rg z = none) ∧ lo x ≤ ix z ∧ ix z < hi x)
    (kp : ∀ (h1 : gh_H) (rt1 : Option Nat) (lf1 rg1 pa1 : Nat → Option Nat) (co1 : Nat → Int32) (lo1 hi1 : Nat → Nat), TI N n rt1 lf1 rg1 pa1 ix lo1 hi1 → (N z → (lf1 z = none ∧ rg1 z = none) ∧ lo1 p ≤ ix z ∧ ix z < hi1 p) → hi x - lo x < hi1 p - lo1 p → Only (TL t) h0 h1 → TW t a N kb v nk rt1 lf1 rg1 pa1 co1 sz mc h1 → wl_J6_fixAfterDeletion_0 κ Q X (f + 1) a (some p) h1) :
    wp_J6_parentOf κ (some x) (fun r26 h27 => (wp_J6_leftOf κ r26 (fun r28 h29 => (wp_J6_colorOf κ r28 (fun r30 h31 => ((r30 = 0 → (wp_J6_setColor κ r28 (1 : Int32) (fun h32 => (wp_J6_parentOf κ (some x) (fun r33 h34 => (wp_J6_setColor κ r33 (0 : Int32) (fun h35 => (wp_J6_parentOf κ (some x) (fun r36 h37 => (gh_RC h37 (some a) 11 (fun _ => (wp_J6_rotateRight κ a r36 (fun h39 => (wp_J6_parentOf κ (some x) (fun r40 h41 => (wp_J6_leftOf κ r40 (fun r42 h43 => wb_J6_fixAfterDeletion_230 κ (wl_J6_fixAfterDeletion_0 κ Q X (f + 1)) Q X a (some x) r42 h43) X h41)) X h39)) X h37)))) X h35)) X h34)) X h32)) X h31)) ∧ (¬ r30 = 0 → wb_J6_fixAfterDeletion_230 κ (wl_J6_fixAfterDeletion_0 κ Q X (f + 1)) Q X a (some x) r28 h31))) X h29)) X h27)) X h := by
  have hp0 := T.2.2.2.2.2.1 x p hx hp
  have hx0 := T.2.2.2.2.1 p x hp0.1 hl
  have lx := T.1 x hx
  have lp := T.1 p hp0.1
  have go : ∀ (h1 : gh_H) (co1 : Nat → Int32), Only (TL t) h0 h1 → TW t a N kb v nk rt lf rg pa co1 sz mc h1 → wl_J6_fixAfterDeletion_0 κ Q X (f + 1) a (some p) h1 := fun h1 co1 o1 W1 => kp h1 _ _ _ _ _ _ _ T (fun w => ⟨(hz w).1, by have := (hz w).2; omega, by have := (hz w).2; omega⟩) (by omega) o1 W1
  refine tw_pa W hx hp (tw_lf W hp0.1 rfl ?_)
  cases hs : lf p with
  | none =>
    refine tw_co0 ⟨fun w => absurd w (by decide), fun _ => ?_⟩
    have := fd_230 (f := f) (X := X) k o W T hx hp hl hz go
    rw [hs] at this
    exact this
  | some s =>
    have hs0 := T.2.2.1 p s hp0.1 hs
    have ls := T.1 s hs0.1
    refine tw_colorOf W (fun q hq => by cases hq; exact hs0.1) ⟨fun _ => ?_, fun _ => ?_⟩
    · refine tw_sc W hs0.1 (Or.inr rfl) (fun h1 o1 W1 => tw_pa W1 hx hp (tw_sc W1 hp0.1 (Or.inl rfl) (fun h2 o2 W2 => tw_pa W2 hx hp (W2.rc (tw_rotR W2 T hp0.1 hs (fun h3 rt' lf' rg' pa' R o3 W3 => ?_))))))
      have T3 := RR.ti T hp0.1 hs R
      have exs : x ≠ s := by intro w; subst w; omega
      have exp : x ≠ p := by intro w; subst w; omega
      have eps : p ≠ s := by intro w; subst w; omega
      have hz3 : N z → (lf' z = none ∧ rg' z = none) ∧ lo x ≤ ix z ∧ ix z < hi x := fun w => ⟨RR.leaf T hp0.1 hs R (hz w).1 (fun e => by have := (hz w).2; subst e; omega), (hz w).2⟩
      obtain ⟨r1, r2, r3, r4, r5, r6, r7, r8, r9, r10, r11, r12⟩ := R
      have epx : pa' x = some p := by
        rw [r6 x exp exs (fun w => ?_), hp]
        have := (T.2.2.2.2.1 s x hs0.1 w).2.1
        rw [hp] at this
        cases this
        exact eps rfl
      have elp : rg' p = some x := by
        rw [r10 p eps (fun w => ?_), hl]
        rw [hl] at w
        cases w.2
        exact exp rfl
      have lo3 : sO lo p (ix s + 1) x = lo x := sO_ne exp
      have hi3 : sO hi s (hi p) x = hi x := sO_ne exs
      have lo4 : sO lo p (ix s + 1) p = ix s + 1 := sO_self _ _ _
      have hi4 : sO hi s (hi p) p = hi p := sO_ne eps
      have oo := ((o.trans o1).trans o2).trans o3
      refine tw_pa W3 hx epx (tw_lf W3 hp0.1 rfl (fd_230 k oo W3 T3 hx epx elp (fun w => ?_) (fun h4 co4 o4 W4 => kp h4 _ _ _ _ _ _ _ T3 (fun w => ?_) ?_ o4 W4)))
      · rw [lo3, hi3]
        exact hz3 w
      · rw [lo4, hi4]
        have := (hz w).2
        exact ⟨(hz3 w).1, by omega, by omega⟩
      · rw [lo4, hi4]
        omega
    · have := fd_230 (f := f) (X := X) k o W T hx hp hl hz go
      rw [hs] at this
      exact this
theorem fd_loop (k : FDk t a N kb v nk n ix sz mc z Q h0) : ∀ (f x : Nat) (rt : Option Nat) (lf rg pa : Nat → Option Nat) (co : Nat → Int32) (lo hi : Nat → Nat) (h : gh_H), N x → TI N n rt lf rg pa ix lo hi → (N z → (lf z = none ∧ rg z = none) ∧ lo x ≤ ix z ∧ ix z < hi x) → Only (TL t) h0 h → TW t a N kb v nk rt lf rg pa co sz mc h → n + 1 - (hi x - lo x) ≤ f → wl_J6_fixAfterDeletion_0 κ Q X (f + 1) a (some x) h := by
  intro f
  induction f with
  | zero =>
    intro x rt lf rg pa co lo hi h hx T hz o W hf
    have := T.1 x hx
    omega
  | succ f ih =>
    intro x rt lf rg pa co lo hi h hx T hz o W hf
    have hz0 : N z → lf z = none ∧ rg z = none := fun w => (hz w).1
    have lx := T.1 x hx
    show wb_J6_fixAfterDeletion_0 κ (wl_J6_fixAfterDeletion_0 κ Q X (f + 1)) Q X a (some x) h
    unfold wb_J6_fixAfterDeletion_0
    refine W.root ⟨fun _ => fd_345 k o W T hx hz0, fun hne => tw_colorOf W (fun q hq => by cases hq; exact hx) ⟨fun _ => ?_, fun _ => fd_345 k o W T hx hz0⟩⟩
    cases hp : pa x with
    | none => exact absurd (T.2.2.2.2.2.2.1 x hx hp).symm hne
    | some p =>
      have hp0 := T.2.2.2.2.2.1 x p hx hp
      have kp : ∀ (h1 : gh_H) (rt1 : Option Nat) (lf1 rg1 pa1 : Nat → Option Nat) (co1 : Nat → Int32) (lo1 hi1 : Nat → Nat), TI N n rt1 lf1 rg1 pa1 ix lo1 hi1 → (N z → (lf1 z = none ∧ rg1 z = none) ∧ lo1 p ≤ ix z ∧ ix z < hi1 p) → hi x - lo x < hi1 p - lo1 p → Only (TL t) h0 h1 → TW t a N kb v nk rt1 lf1 rg1 pa1 co1 sz mc h1 → wl_J6_fixAfterDeletion_0 κ Q X (f + 1) a (some p) h1 :=
        fun h1 rt1 lf1 rg1 pa1 co1 lo1 hi1 T1 hz1 hm o1 W1 => ih p rt1 lf1 rg1 pa1 co1 lo1 hi1 h1 hp0.1 T1 hz1 o1 W1 (by omega)
      refine tw_pa W hx hp (tw_lf W hp0.1 rfl ⟨fun e => ?_, fun e => ?_⟩)
      · exact fd_left k o W T hx hp e.symm hz kp
      · have er : rg p = some x := by
          rcases hp0.2 with w | w
          · exact absurd w.symm e
          · exact w
        exact fd_right k o W T hx hp er hz kp
theorem tw_fixD {x : Nat} (k : FDk t a N kb v nk n ix sz mc z Q h) (W : TW t a N kb v nk rt lf rg pa co sz mc h) (T : TI N n rt lf rg pa ix lo hi) (hx : N x) (hz : N z → (lf z = none ∧ rg z = none) ∧ lo x ≤ ix z ∧ ix z < hi x) : wp_J6_fixAfterDeletion κ a (some x) Q X h := by
  unfold wp_J6_fixAfterDeletion
  exact ⟨_, fd_loop k _ x rt lf rg pa co lo hi h hx T hz Only.refl W (Nat.le_refl _)⟩
end
