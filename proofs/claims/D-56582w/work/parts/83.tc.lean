/-! THE TREE, part C: after an insertion -/
set_option maxRecDepth 100000
section
variable {κ : Nat → Nat} {X : String → gh_H → Prop} {t a : Nat} {N : Nat → Prop} {kb : Nat → Nat} {v : Nat} {nk rt : Option Nat} {lf rg pa : Nat → Option Nat} {co : Nat → Int32} {sz : Nat} {mc : Int32} {h : gh_H} {n : Nat} {ix lo hi : Nat → Nat}
theorem tw_pa {x : Nat} {o : Option Nat} (W : TW t a N kb v nk rt lf rg pa co sz mc h) (hx : N x) (e : pa x = o) {Q : Option Nat → gh_H → Prop} (k : Q o h) : wp_J6_parentOf κ (some x) Q X h := tw_parentOf W (fun y hy => by cases hy; exact hx) (by show Q (pa x) h; rw [e]; exact k)
theorem tw_lf {x : Nat} {o : Option Nat} (W : TW t a N kb v nk rt lf rg pa co sz mc h) (hx : N x) (e : lf x = o) {Q : Option Nat → gh_H → Prop} (k : Q o h) : wp_J6_leftOf κ (some x) Q X h := tw_leftOf W (fun y hy => by cases hy; exact hx) (by show Q (lf x) h; rw [e]; exact k)
theorem tw_rg {x : Nat} {o : Option Nat} (W : TW t a N kb v nk rt lf rg pa co sz mc h) (hx : N x) (e : rg x = o) {Q : Option Nat → gh_H → Prop} (k : Q o h) : wp_J6_rightOf κ (some x) Q X h := tw_rightOf W (fun y hy => by cases hy; exact hx) (by show Q (rg x) h; rw [e]; exact k)
theorem tw_pa0 {Q : Option Nat → gh_H → Prop} (k : Q none h) : wp_J6_parentOf κ none Q X h := by
  unfold wp_J6_parentOf wb_J6_parentOf_12
  exact ⟨fun _ => k, fun z => absurd rfl z⟩
theorem tw_lf0 {Q : Option Nat → gh_H → Prop} (k : Q none h) : wp_J6_leftOf κ none Q X h := by
  unfold wp_J6_leftOf wb_J6_leftOf_12
  exact ⟨fun _ => k, fun z => absurd rfl z⟩
theorem tw_rg0 {Q : Option Nat → gh_H → Prop} (k : Q none h) : wp_J6_rightOf κ none Q X h := by
  unfold wp_J6_rightOf wb_J6_rightOf_12
  exact ⟨fun _ => k, fun z => absurd rfl z⟩
theorem tw_co0 {Q : Int32 → gh_H → Prop} (k : Q 1 h) : wp_J6_colorOf κ none Q X h := by
  unfold wp_J6_colorOf wb_J6_colorOf_12
  exact ⟨fun _ => ⟨nb1, k⟩, fun z => absurd rfl z⟩
theorem tw_sc0 {c : Int32} {Q : gh_H → Prop} (k : Q h) : wp_J6_setColor κ none c Q X h := by
  unfold wp_J6_setColor wb_J6_setColor_9
  exact ⟨fun _ => k, fun z => absurd rfl z⟩
theorem tw_sc {x : Nat} {c : Int32} (W : TW t a N kb v nk rt lf rg pa co sz mc h) (hx : N x) (hc : c = 0 ∨ c = 1) {Q : gh_H → Prop} (k : ∀ h', Only (TL t) h h' → TW t a N kb v nk rt lf rg pa (sO co x c) sz mc h' → Q h') : wp_J6_setColor κ (some x) c Q X h := tw_setColor W (fun y hy => by cases hy; exact hx) hc k
theorem tw_rL0 {Q : gh_H → Prop} (k : Q h) : wp_J6_rotateLeft κ a none Q X h := by
  unfold wp_J6_rotateLeft wb_J6_rotateLeft_95
  exact ⟨fun _ => k, fun z => absurd rfl z⟩
/-- the root is made black -/
theorem fi_258 {x : Nat} {Q : gh_H → Prop} (W : TW t a N kb v nk rt lf rg pa co sz mc h) (T : TI N n rt lf rg pa ix lo hi) (hx : N x) (k : ∀ (h' : gh_H) (co' : Nat → Int32), Only (TL t) h h' → TW t a N kb v nk rt lf rg pa co' sz mc h' → Q h') : wb_J6_fixAfterInsertion_258 κ Q X a h := by
  obtain ⟨t1, t2, t3, t4, t5, t6, t7, t8, t9, t10⟩ := T
  unfold wb_J6_fixAfterInsertion_258
  refine W.root ?_
  cases hr : rt with
  | none => exact absurd hx ((t8 hr).2 x)
  | some r =>
    rw [hr] at W
    exact ⟨⟨nb1, rfl⟩, W.sC (t9 r hr).1 (Or.inr rfl) (fun h' o W' => k h' _ o (by rw [hr]; exact W'))⟩
/-- the parent is black: the loop ends -/
theorem fi_exit {f x q : Nat} {Q : gh_H → Prop} (W : TW t a N kb v nk rt lf rg pa co sz mc h) (T : TI N n rt lf rg pa ix lo hi) (hx : N x) (hq : pa x = some q) (hc : co q = 1) (k : ∀ (h' : gh_H) (co' : Nat → Int32), Only (TL t) h h' → TW t a N kb v nk rt lf rg pa co' sz mc h' → Q h') : wl_J6_fixAfterInsertion_5 κ Q X (f + 1) a (some x) h := by
  have hq0 := T.2.2.2.2.2.1 x q hx hq
  show wb_J6_fixAfterInsertion_5 κ (wl_J6_fixAfterInsertion_5 κ Q X f) Q X a (some x) h
  unfold wb_J6_fixAfterInsertion_5
  refine ⟨(fun z => nomatch z), fun _ => W.root ⟨fun _ => fi_258 W T hx k, fun _ => W.gP hx ?_⟩⟩
  rw [hq]
  refine W.gC hq0.1 ⟨fun z => ?_, fun _ => fi_258 W T hx k⟩
  rw [hc] at z
  exact absurd z (by decide)
/-- the turn to the right at the grandparent g -/
theorem fi_118 {f x q g : Nat} {Q : gh_H → Prop} (W : TW t a N kb v nk rt lf rg pa co sz mc h) (T : TI N n rt lf rg pa ix lo hi) (hx : N x) (hq : pa x = some q) (hg : pa q = some g) (hl : lf g = some q) (hn : rg q ≠ some x) (k : ∀ (h' : gh_H) (rt' : Option Nat) (lf' rg' pa' : Nat → Option Nat) (co' : Nat → Int32) (lo' hi' : Nat → Nat), TI N n rt' lf' rg' pa' ix lo' hi' → Only (TL t) h h' → TW t a N kb v nk rt' lf' rg' pa' co' sz mc h' → Q h') : wb_J6_fixAfterInsertion_118 κ (wl_J6_fixAfterInsertion_5 κ Q X (f + 1)) Q X a (some x) h := by
  have hq0 := T.2.2.2.2.2.1 x q hx hq
  have hg0 := T.2.2.2.2.2.1 q g hq0.1 hg
  have l1 := T.2.2.1 g q hg0.1 hl
  have l0 := T.1 g hg0.1
  have lq := T.1 q hq0.1
  have lx := T.1 x hx
  have ne : x ≠ g ∧ x ≠ q := by
    have a1 := T.2.2.1 q x hq0.1
    have a2 := T.2.2.2.2.1 q x hq0.1
    constructor
    · intro w; subst w; grind
    · intro w; subst w; grind
  unfold wb_J6_fixAfterInsertion_118 wb_J6_fixAfterInsertion_148
  refine tw_pa W hx hq (tw_sc W hq0.1 (Or.inr rfl) (fun h1 o1 W1 => tw_pa W1 hx hq (tw_pa W1 hq0.1 hg (tw_sc W1 hg0.1 (Or.inl rfl) (fun h2 o2 W2 => tw_pa W2 hx hq (tw_pa W2 hq0.1 hg (W2.rc (tw_rotR W2 T hg0.1 hl (fun h3 rt' lf' rg' pa' R o3 W3 => ?_)))))))))
  have T3 := RR.ti T hg0.1 hl R
  obtain ⟨r1, r2, r3, r4, r5, r6, r7, r8, r9, r10, r11, r12⟩ := R
  have ex : pa' x = some q := by rw [r6 x ne.1 ne.2 hn, hq]
  have eqg : q ≠ g := by intro w; subst w; omega
  refine fi_exit W3 T3 hx ex (by rw [sO_ne eqg, sO_self]) (fun h4 co4 o4 W4 => k h4 _ _ _ _ _ _ _ T3 (((o1.trans o2).trans o3).trans o4) W4)
/-- the turn to the left at the grandparent g -/
theorem fi_225 {f x q g : Nat} {Q : gh_H → Prop} (W : TW t a N kb v nk rt lf rg pa co sz mc h) (T : TI N n rt lf rg pa ix lo hi) (hx : N x) (hq : pa x = some q) (hg : pa q = some g) (hl : rg g = some q) (hn : lf q ≠ some x) (k : ∀ (h' : gh_H) (rt' : Option Nat) (lf' rg' pa' : Nat → Option Nat) (co' : Nat → Int32) (lo' hi' : Nat → Nat), TI N n rt' lf' rg' pa' ix lo' hi' → Only (TL t) h h' → TW t a N kb v nk rt' lf' rg' pa' co' sz mc h' → Q h') : wb_J6_fixAfterInsertion_225 κ (wl_J6_fixAfterInsertion_5 κ Q X (f + 1)) Q X a (some x) h := by
  have hq0 := T.2.2.2.2.2.1 x q hx hq
  have hg0 := T.2.2.2.2.2.1 q g hq0.1 hg
  have l1 := T.2.2.2.2.1 g q hg0.1 hl
  have l0 := T.1 g hg0.1
  have lq := T.1 q hq0.1
  have lx := T.1 x hx
  have ne : x ≠ g ∧ x ≠ q := by
    have a1 := T.2.2.2.2.1 q x hq0.1
    have a2 := T.2.2.1 q x hq0.1
    constructor
    · intro w; subst w; grind
    · intro w; subst w; grind
  unfold wb_J6_fixAfterInsertion_225 wb_J6_fixAfterInsertion_255
  refine tw_pa W hx hq (tw_sc W hq0.1 (Or.inr rfl) (fun h1 o1 W1 => tw_pa W1 hx hq (tw_pa W1 hq0.1 hg (tw_sc W1 hg0.1 (Or.inl rfl) (fun h2 o2 W2 => tw_pa W2 hx hq (tw_pa W2 hq0.1 hg (W2.rc (tw_rotL W2 T hg0.1 hl (fun h3 rt' lf' rg' pa' R o3 W3 => ?_)))))))))
  have T3 := RL.ti T hg0.1 hl R
  obtain ⟨r1, r2, r3, r4, r5, r6, r7, r8, r9, r10, r11, r12⟩ := R
  have ex : pa' x = some q := by rw [r6 x ne.1 ne.2 hn, hq]
  have eqg : q ≠ g := by intro w; subst w; omega
  refine fi_exit W3 T3 hx ex (by rw [sO_ne eqg, sO_self]) (fun h4 co4 o4 W4 => k h4 _ _ _ _ _ _ _ T3 (((o1.trans o2).trans o3).trans o4) W4)
/-- .. where there is no grandparent -/
theorem fi_225n {f x q : Nat} {Q : gh_H → Prop} (W : TW t a N kb v nk rt lf rg pa co sz mc h) (T : TI N n rt lf rg pa ix lo hi) (hx : N x) (hq : pa x = some q) (hg : pa q = none) (k : ∀ (h' : gh_H) (rt' : Option Nat) (lf' rg' pa' : Nat → Option Nat) (co' : Nat → Int32) (lo' hi' : Nat → Nat), TI N n rt' lf' rg' pa' ix lo' hi' → Only (TL t) h h' → TW t a N kb v nk rt' lf' rg' pa' co' sz mc h' → Q h') : wb_J6_fixAfterInsertion_225 κ (wl_J6_fixAfterInsertion_5 κ Q X (f + 1)) Q X a (some x) h := by
  have hq0 := T.2.2.2.2.2.1 x q hx hq
  unfold wb_J6_fixAfterInsertion_225 wb_J6_fixAfterInsertion_255
  refine tw_pa W hx hq (tw_sc W hq0.1 (Or.inr rfl) (fun h1 o1 W1 => tw_pa W1 hx hq (tw_pa W1 hq0.1 hg (tw_sc0 (tw_pa W1 hx hq (tw_pa W1 hq0.1 hg (W1.rc (tw_rL0 ?_))))))))
  exact fi_exit W1 T hx hq (sO_self _ _ _) (fun h4 co4 o4 W4 => k h4 _ _ _ _ _ _ _ T (o1.trans o4) W4)
/-- fixAfterInsertion's loop -/
theorem fi_loop {Q : gh_H → Prop} {h0 : gh_H} (k : ∀ (h' : gh_H) (rt' : Option Nat) (lf' rg' pa' : Nat → Option Nat) (co' : Nat → Int32) (lo' hi' : Nat → Nat), TI N n rt' lf' rg' pa' ix lo' hi' → Only (TL t) h0 h' → TW t a N kb v nk rt' lf' rg' pa' co' sz mc h' → Q h') :
    ∀ (f x : Nat) (rt : Option Nat) (lf rg pa : Nat → Option Nat) (co : Nat → Int32) (lo hi : Nat → Nat) (h : gh_H), N x → TI N n rt lf rg pa ix lo hi → Only (TL t) h0 h → TW t a N kb v nk rt lf rg pa co sz mc h → n + 1 - (hi x - lo x) ≤ f → wl_J6_fixAfterInsertion_5 κ Q X (f + 1) a (some x) h := by
  intro f
  induction f with
  | zero =>
    intro x rt lf rg pa co lo hi h hx T o W hf
    have := T.1 x hx
    omega
  | succ f ih =>
    intro x rt lf rg pa co lo hi h hx T o W hf
    have k0 : ∀ (h' : gh_H) (co' : Nat → Int32), Only (TL t) h h' → TW t a N kb v nk rt lf rg pa co' sz mc h' → Q h' := fun h' co' o' W' => k h' _ _ _ _ _ _ _ T (o.trans o') W'
    show wb_J6_fixAfterInsertion_5 κ (wl_J6_fixAfterInsertion_5 κ Q X (f + 1)) Q X a (some x) h
    unfold wb_J6_fixAfterInsertion_5
    refine ⟨(fun z => nomatch z), fun _ => W.root ⟨fun _ => fi_258 W T hx k0, fun hne => W.gP hx ?_⟩⟩
    cases hp : pa x with
    | none => exact absurd (T.2.2.2.2.2.2.1 x hx hp).symm hne
    | some p =>
      have hp0 := T.2.2.2.2.2.1 x p hx hp
      refine W.gC hp0.1 ⟨fun red => ?_, fun _ => fi_258 W T hx k0⟩
      refine tw_pa W hx hp (tw_pa W hx hp ?_)
      cases hg : pa p with
      | none =>
        refine tw_pa W hp0.1 hg (tw_lf0 ⟨(fun z => nomatch z), fun _ => ?_⟩)
        refine tw_pa W hx hp (tw_pa W hp0.1 hg (tw_lf0 (tw_co0 ⟨fun z => absurd z (by decide), fun _ => tw_pa W hx hp ?_⟩)))
        refine tw_lf W hp0.1 rfl ⟨fun e => tw_pa W hx hp (W.rc (tw_rotR W T hp0.1 e.symm (fun h1 rt' lf' rg' pa' R o1 W1 => ?_))), fun _ => ?_⟩
        · have T1 := RR.ti T hp0.1 e.symm R
          exact fi_225n W1 T1 hp0.1 R.2.2.1 (by rw [R.2.2.2.1, hg]) (fun h' _ _ _ _ _ _ _ T' o' W' => k h' _ _ _ _ _ _ _ T' ((o.trans o1).trans o') W')
        · exact fi_225n W T hx hp hg (fun h' _ _ _ _ _ _ _ T' o' W' => k h' _ _ _ _ _ _ _ T' (o.trans o') W')
      | some g =>
        have hg0 := T.2.2.2.2.2.1 p g hp0.1 hg
        have lg := T.1 g hg0.1
        have lp := T.1 p hp0.1
        have lx := T.1 x hx
        have meas : hi x - lo x < hi g - lo g := by
          have a1 := T.2.2.1 p x hp0.1
          have a2 := T.2.2.2.2.1 p x hp0.1
          have a3 := T.2.2.1 g p hg0.1
          have a4 := T.2.2.2.2.1 g p hg0.1
          grind
        have go : ∀ (y : Nat) (h1 : gh_H) (co1 : Nat → Int32), N y → Only (TL t) h0 h1 → TW t a N kb v nk rt lf rg pa co1 sz mc h1 → wp_J6_setColor κ (some y) (1 : Int32) (fun h59 => wp_J6_parentOf κ (some x) (fun r61 h62 => wp_J6_parentOf κ r61 (fun r63 h64 => wp_J6_setColor κ r63 (0 : Int32) (fun h65 => wp_J6_parentOf κ (some x) (fun r66 h67 => wp_J6_parentOf κ r66 (fun r68 h69 => wl_J6_fixAfterInsertion_5 κ Q X (f + 1) a r68 h69) X h67) X h65) X h64) X h62) X h59) X h1 := by
          intro y h1 co1 hy o1 W1
          refine tw_sc W1 hy (Or.inr rfl) (fun h2 o2 W2 => tw_pa W2 hx hp (tw_pa W2 hp0.1 hg (tw_sc W2 hg0.1 (Or.inl rfl) (fun h3 o3 W3 => tw_pa W3 hx hp (tw_pa W3 hp0.1 hg ?_)))))
          exact ih g rt lf rg pa _ lo hi h3 hg0.1 T ((o1.trans o2).trans o3) W3 (by omega)
        refine tw_pa W hp0.1 hg (tw_lf W hg0.1 rfl ⟨fun e => ?_, fun e => ?_⟩)
        · have el : lf g = some p := e.symm
          refine tw_pa W hx hp (tw_pa W hp0.1 hg (tw_rg W hg0.1 rfl ?_))
          have rest : wp_J6_parentOf κ (some x) (fun r49 h50 => (wp_J6_rightOf κ r49 (fun r51 h52 => ((some x = r51 → (wp_J6_parentOf κ (some x) (fun r53 h54 => (gh_RC h54 (some a) 11 (fun _ => (wp_J6_rotateLeft κ a r53 (fun h56 => wb_J6_fixAfterInsertion_118 κ (wl_J6_fixAfterInsertion_5 κ Q X (f + 1)) Q X a r53 h56) X h54)))) X h52)) ∧ (¬ some x = r51 → wb_J6_fixAfterInsertion_118 κ (wl_J6_fixAfterInsertion_5 κ Q X (f + 1)) Q X a (some x) h52))) X h50)) X h := by
            refine tw_pa W hx hp (tw_rg W hp0.1 rfl ⟨fun e2 => tw_pa W hx hp (W.rc (tw_rotL W T hp0.1 e2.symm (fun h1 rt' lf' rg' pa' R o1 W1 => ?_))), fun e2 => ?_⟩)
            · have T1 := RL.ti T hp0.1 e2.symm R
              exact fi_118 W1 T1 hp0.1 R.2.2.1 (by rw [R.2.2.2.1, hg]) (R.2.2.2.2.2.2.2.2.1 g hg el) (T1.lr hx R.1) (fun h' _ _ _ _ _ _ _ T' o' W' => k h' _ _ _ _ _ _ _ T' ((o.trans o1).trans o') W')
            · exact fi_118 W T hx hp hg el (fun w => e2 w.symm) (fun h' _ _ _ _ _ _ _ T' o' W' => k h' _ _ _ _ _ _ _ T' (o.trans o') W')
          cases hy : rg g with
          | none => exact tw_co0 ⟨fun z => absurd z (by decide), fun _ => rest⟩
          | some y =>
            have hy0 := T.2.2.2.2.1 g y hg0.1 hy
            refine tw_colorOf W (fun q hq => by cases hq; exact hy0.1) ⟨fun _ => ?_, fun _ => rest⟩
            exact tw_pa W hx hp (tw_sc W hp0.1 (Or.inr rfl) (fun h1 o1 W1 => go y h1 _ hy0.1 (o.trans o1) W1))
        · have er : rg g = some p := by
            rcases hg0.2 with w | w
            · exact absurd w.symm e
            · exact w
          refine tw_pa W hx hp (tw_pa W hp0.1 hg (tw_lf W hg0.1 rfl ?_))
          have rest : wp_J6_parentOf κ (some x) (fun r20 h21 => (wp_J6_leftOf κ r20 (fun r22 h23 => ((some x = r22 → (wp_J6_parentOf κ (some x) (fun r24 h25 => (gh_RC h25 (some a) 11 (fun _ => (wp_J6_rotateRight κ a r24 (fun h27 => wb_J6_fixAfterInsertion_225 κ (wl_J6_fixAfterInsertion_5 κ Q X (f + 1)) Q X a r24 h27) X h25)))) X h23)) ∧ (¬ some x = r22 → wb_J6_fixAfterInsertion_225 κ (wl_J6_fixAfterInsertion_5 κ Q X (f + 1)) Q X a (some x) h23))) X h21)) X h := by
            refine tw_pa W hx hp (tw_lf W hp0.1 rfl ⟨fun e2 => tw_pa W hx hp (W.rc (tw_rotR W T hp0.1 e2.symm (fun h1 rt' lf' rg' pa' R o1 W1 => ?_))), fun e2 => ?_⟩)
            · have T1 := RR.ti T hp0.1 e2.symm R
              exact fi_225 W1 T1 hp0.1 R.2.2.1 (by rw [R.2.2.2.1, hg]) (R.2.2.2.2.2.2.2.2.1 g hg er) (fun w => T1.lr hx w R.1) (fun h' _ _ _ _ _ _ _ T' o' W' => k h' _ _ _ _ _ _ _ T' ((o.trans o1).trans o') W')
            · exact fi_225 W T hx hp hg er (fun w => e2 w.symm) (fun h' _ _ _ _ _ _ _ T' o' W' => k h' _ _ _ _ _ _ _ T' (o.trans o') W')
          cases hy : lf g with
          | none => exact tw_co0 ⟨fun z => absurd z (by decide), fun _ => rest⟩
          | some y =>
            have hy0 := T.2.2.1 g y hg0.1 hy
            refine tw_colorOf W (fun q hq => by cases hq; exact hy0.1) ⟨fun _ => ?_, fun _ => rest⟩
            exact tw_pa W hx hp (tw_sc W hp0.1 (Or.inr rfl) (fun h1 o1 W1 => go y h1 _ hy0.1 (o.trans o1) W1))
theorem tw_fixI {x : Nat} {Q : gh_H → Prop} (W : TW t a N kb v nk rt lf rg pa co sz mc h) (T : TI N n rt lf rg pa ix lo hi) (hx : N x) (k : ∀ (h' : gh_H) (rt' : Option Nat) (lf' rg' pa' : Nat → Option Nat) (co' : Nat → Int32) (lo' hi' : Nat → Nat), TI N n rt' lf' rg' pa' ix lo' hi' → Only (TL t) h h' → TW t a N kb v nk rt' lf' rg' pa' co' sz mc h' → Q h') : wp_J6_fixAfterInsertion κ a (some x) Q X h := by
  unfold wp_J6_fixAfterInsertion
  exact ⟨⟨nb0, rfl⟩, W.sC hx (Or.inl rfl) (fun h1 o1 W1 => ⟨_, fi_loop k _ x rt lf rg pa _ lo hi h1 hx T o1 W1 (Nat.le_refl _)⟩)⟩
end
