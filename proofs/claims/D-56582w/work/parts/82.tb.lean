/-! THE TREE, part B: the map's and the entries' cells, the small methods -/
set_option maxRecDepth 100000
/-- the labels of a tree's map and entries -/
def TL (t : Nat) (l : Nat) : Prop := l = t + 1 ∨ l = t + 3
def MO (t a : Nat) (rt : Option Nat) (sz : Nat) (mc : Int32) (nk : Option Nat) (h : gh_H) : Prop := h a = some (t + 1, .inr (11, [va_rf none, va_rf none, va_rf none, va_rf rt, .int (nI sz), .int mc, va_rf none, va_rf nk, va_rf none]))
def HP (t : Nat) (N : Nat → Prop) (kb : Nat → Nat) (v : Nat) (lf rg pa : Nat → Option Nat) (co : Nat → Int32) (h : gh_H) : Prop := ∀ x, N x → (co x = 0 ∨ co x = 1) ∧ h x = some (t + 3, .inr (12, [va_rf (some (kb x)), va_rf (some v), va_rf (lf x), va_rf (rg x), va_rf (pa x), .int (co x)]))
def TW (t a : Nat) (N : Nat → Prop) (kb : Nat → Nat) (v : Nat) (nk rt : Option Nat) (lf rg pa : Nat → Option Nat) (co : Nat → Int32) (sz : Nat) (mc : Int32) (h : gh_H) : Prop := MO t a rt sz mc nk h ∧ HP t N kb v lf rg pa co h
theorem TW.keep {t a : Nat} {N : Nat → Prop} {kb : Nat → Nat} {v : Nat} {nk rt : Option Nat} {lf rg pa : Nat → Option Nat} {co : Nat → Int32} {sz : Nat} {mc : Int32} {h h' : gh_H} {S : Nat → Prop} (W : TW t a N kb v nk rt lf rg pa co sz mc h) (o : Only S h h') (n1 : ¬ S (t + 1)) (n3 : ¬ S (t + 3)) : TW t a N kb v nk rt lf rg pa co sz mc h' :=
  ⟨o _ _ _ W.1 n1, fun x hx => ⟨(W.2 x hx).1, o _ _ _ (W.2 x hx).2 n3⟩⟩
section
variable {κ : Nat → Nat} {t a : Nat} {N : Nat → Prop} {kb : Nat → Nat} {v : Nat} {nk rt : Option Nat} {lf rg pa : Nat → Option Nat} {co : Nat → Int32} {sz : Nat} {mc : Int32} {h : gh_H}
theorem TW.rc (W : TW t a N kb v nk rt lf rg pa co sz mc h) {K : Nat → Prop} (k : K a) : gh_RC h (some a) 11 K := gs_RC W.1 k
theorem TW.cmp (W : TW t a N kb v nk rt lf rg pa co sz mc h) {K : Option Nat → Prop} (k : K none) : gh_GR h (some a) [(11, 2)] K := gs_GR W.1 rfl k
theorem TW.root (W : TW t a N kb v nk rt lf rg pa co sz mc h) {K : Option Nat → Prop} (k : K rt) : gh_GR h (some a) [(11, 3)] K := gs_GR W.1 rfl k
theorem TW.size (W : TW t a N kb v nk rt lf rg pa co sz mc h) {K : Int32 → Prop} (k : K (nI sz)) : gh_GI h (some a) [(11, 4)] K := gs_GI W.1 rfl k
theorem TW.mods (W : TW t a N kb v nk rt lf rg pa co sz mc h) {K : Int32 → Prop} (k : K mc) : gh_GI h (some a) [(11, 5)] K := gs_GI W.1 rfl k
theorem TW.ks (W : TW t a N kb v nk rt lf rg pa co sz mc h) {K : Option Nat → Prop} (k : K nk) : gh_GR h (some a) [(11, 7)] K := gs_GR W.1 rfl k
theorem TW.map {rt' nk' : Option Nat} {sz' : Nat} {mc' : Int32} (W : TW t a N kb v nk rt lf rg pa co sz mc h) : TW t a N kb v nk' rt' lf rg pa co sz' mc' (gh_up h a (t + 1, .inr (11, [va_rf none, va_rf none, va_rf none, va_rf rt', .int (nI sz'), .int mc', va_rf none, va_rf nk', va_rf none]))) :=
  ⟨gu_self _ _ _, fun x hx => ⟨(W.2 x hx).1, gu_of W.1 (W.2 x hx).2 (fun z => by have := congrArg Prod.fst z; simp at this)⟩⟩
theorem TW.setRoot (W : TW t a N kb v nk rt lf rg pa co sz mc h) {r : Option Nat} {K : gh_H → Prop} (k : ∀ h', Only (TL t) h h' → TW t a N kb v nk r lf rg pa co sz mc h' → K h') : gh_PV h (some a) [(11, 3)] (va_rf r) K :=
  gs_PV W.1 (Nat.succ_ne_zero t) (Nat.le_of_ble_eq_true rfl) (k _ (Only.up W.1 (Or.inl rfl)) W.map)
theorem TW.setSize (W : TW t a N kb v nk rt lf rg pa co sz mc h) {r : Nat} {K : gh_H → Prop} (k : ∀ h', Only (TL t) h h' → TW t a N kb v nk rt lf rg pa co r mc h' → K h') : gh_PV h (some a) [(11, 4)] (.int (nI r)) K :=
  gs_PV W.1 (Nat.succ_ne_zero t) (Nat.le_of_ble_eq_true rfl) (k _ (Only.up W.1 (Or.inl rfl)) W.map)
theorem TW.setMods (W : TW t a N kb v nk rt lf rg pa co sz mc h) {r : Int32} {K : gh_H → Prop} (k : ∀ h', Only (TL t) h h' → TW t a N kb v nk rt lf rg pa co sz r h' → K h') : gh_PV h (some a) [(11, 5)] (.int r) K :=
  gs_PV W.1 (Nat.succ_ne_zero t) (Nat.le_of_ble_eq_true rfl) (k _ (Only.up W.1 (Or.inl rfl)) W.map)
theorem TW.setKs (W : TW t a N kb v nk rt lf rg pa co sz mc h) {r : Option Nat} {K : gh_H → Prop} (k : ∀ h', Only (TL t) h h' → TW t a N kb v r rt lf rg pa co sz mc h' → K h') : gh_PV h (some a) [(11, 7)] (va_rf r) K :=
  gs_PV W.1 (Nat.succ_ne_zero t) (Nat.le_of_ble_eq_true rfl) (k _ (Only.up W.1 (Or.inl rfl)) W.map)
theorem TW.gK {x : Nat} (W : TW t a N kb v nk rt lf rg pa co sz mc h) (hx : N x) {K : Option Nat → Prop} (k : K (some (kb x))) : gh_GR h (some x) [(12, 0)] K := gs_GR (W.2 x hx).2 rfl k
theorem TW.gV {x : Nat} (W : TW t a N kb v nk rt lf rg pa co sz mc h) (hx : N x) {K : Option Nat → Prop} (k : K (some v)) : gh_GR h (some x) [(12, 1)] K := gs_GR (W.2 x hx).2 rfl k
theorem TW.gL {x : Nat} (W : TW t a N kb v nk rt lf rg pa co sz mc h) (hx : N x) {K : Option Nat → Prop} (k : K (lf x)) : gh_GR h (some x) [(12, 2)] K := gs_GR (W.2 x hx).2 rfl k
theorem TW.gR {x : Nat} (W : TW t a N kb v nk rt lf rg pa co sz mc h) (hx : N x) {K : Option Nat → Prop} (k : K (rg x)) : gh_GR h (some x) [(12, 3)] K := gs_GR (W.2 x hx).2 rfl k
theorem TW.gP {x : Nat} (W : TW t a N kb v nk rt lf rg pa co sz mc h) (hx : N x) {K : Option Nat → Prop} (k : K (pa x)) : gh_GR h (some x) [(12, 4)] K := gs_GR (W.2 x hx).2 rfl k
theorem TW.gC {x : Nat} (W : TW t a N kb v nk rt lf rg pa co sz mc h) (hx : N x) {K : Int32 → Prop} (k : K (co x)) : gh_GI h (some x) [(12, 5)] K := gs_GI (W.2 x hx).2 rfl k
theorem TW.ent {x : Nat} {kb' : Nat → Nat} {lf' rg' pa' : Nat → Option Nat} {co' : Nat → Int32} (W : TW t a N kb v nk rt lf rg pa co sz mc h) (hx : N x) (hc : co' x = 0 ∨ co' x = 1) (he : ∀ y, y ≠ x → kb' y = kb y ∧ lf' y = lf y ∧ rg' y = rg y ∧ pa' y = pa y ∧ co' y = co y) : TW t a N kb' v nk rt lf' rg' pa' co' sz mc (gh_up h x (t + 3, .inr (12, [va_rf (some (kb' x)), va_rf (some v), va_rf (lf' x), va_rf (rg' x), va_rf (pa' x), .int (co' x)]))) := by
  refine ⟨gu_of (W.2 x hx).2 W.1 (fun z => by have := congrArg Prod.fst z; simp at this), fun y hy => ?_⟩
  by_cases e : y = x
  · subst e
    exact ⟨hc, gu_self _ _ _⟩
  · obtain ⟨e1, e2, e3, e4, e5⟩ := he y e
    rw [e1, e2, e3, e4, e5, gu_ne e]
    exact W.2 y hy
theorem TW.sL {x : Nat} {r : Option Nat} (W : TW t a N kb v nk rt lf rg pa co sz mc h) (hx : N x) {K : gh_H → Prop} (k : ∀ h', Only (TL t) h h' → TW t a N kb v nk rt (sO lf x r) rg pa co sz mc h' → K h') : gh_PV h (some x) [(12, 2)] (va_rf r) K := by
  have w := W.ent (lf' := sO lf x r) hx (W.2 x hx).1 (fun y hy => ⟨rfl, sO_ne hy, rfl, rfl, rfl⟩)
  rw [sO_self] at w
  exact gs_PV (W.2 x hx).2 (Nat.succ_ne_zero _) (Nat.le_of_ble_eq_true rfl) (k _ (Only.up (W.2 x hx).2 (Or.inr rfl)) w)
theorem TW.sR {x : Nat} {r : Option Nat} (W : TW t a N kb v nk rt lf rg pa co sz mc h) (hx : N x) {K : gh_H → Prop} (k : ∀ h', Only (TL t) h h' → TW t a N kb v nk rt lf (sO rg x r) pa co sz mc h' → K h') : gh_PV h (some x) [(12, 3)] (va_rf r) K := by
  have w := W.ent (rg' := sO rg x r) hx (W.2 x hx).1 (fun y hy => ⟨rfl, rfl, sO_ne hy, rfl, rfl⟩)
  rw [sO_self] at w
  exact gs_PV (W.2 x hx).2 (Nat.succ_ne_zero _) (Nat.le_of_ble_eq_true rfl) (k _ (Only.up (W.2 x hx).2 (Or.inr rfl)) w)
theorem TW.sP {x : Nat} {r : Option Nat} (W : TW t a N kb v nk rt lf rg pa co sz mc h) (hx : N x) {K : gh_H → Prop} (k : ∀ h', Only (TL t) h h' → TW t a N kb v nk rt lf rg (sO pa x r) co sz mc h' → K h') : gh_PV h (some x) [(12, 4)] (va_rf r) K := by
  have w := W.ent (pa' := sO pa x r) hx (W.2 x hx).1 (fun y hy => ⟨rfl, rfl, rfl, sO_ne hy, rfl⟩)
  rw [sO_self] at w
  exact gs_PV (W.2 x hx).2 (Nat.succ_ne_zero _) (Nat.le_of_ble_eq_true rfl) (k _ (Only.up (W.2 x hx).2 (Or.inr rfl)) w)
theorem TW.sC {x : Nat} {r : Int32} (W : TW t a N kb v nk rt lf rg pa co sz mc h) (hx : N x) (hr : r = 0 ∨ r = 1) {K : gh_H → Prop} (k : ∀ h', Only (TL t) h h' → TW t a N kb v nk rt lf rg pa (sO co x r) sz mc h' → K h') : gh_PV h (some x) [(12, 5)] (.int r) K := by
  have w := W.ent (co' := sO co x r) hx (by rw [sO_self]; exact hr) (fun y hy => ⟨rfl, rfl, rfl, rfl, sO_ne hy⟩)
  rw [sO_self] at w
  exact gs_PV (W.2 x hx).2 (Nat.succ_ne_zero _) (Nat.le_of_ble_eq_true rfl) (k _ (Only.up (W.2 x hx).2 (Or.inr rfl)) w)
theorem TW.sK {x r : Nat} (W : TW t a N kb v nk rt lf rg pa co sz mc h) (hx : N x) {K : gh_H → Prop} (k : ∀ h', Only (TL t) h h' → TW t a N (sO kb x r) v nk rt lf rg pa co sz mc h' → K h') : gh_PV h (some x) [(12, 0)] (va_rf (some r)) K := by
  have w := W.ent (kb' := sO kb x r) hx (W.2 x hx).1 (fun y hy => ⟨sO_ne hy, rfl, rfl, rfl, rfl⟩)
  rw [sO_self] at w
  exact gs_PV (W.2 x hx).2 (Nat.succ_ne_zero _) (Nat.le_of_ble_eq_true rfl) (k _ (Only.up (W.2 x hx).2 (Or.inr rfl)) w)
theorem TW.sV {x : Nat} (W : TW t a N kb v nk rt lf rg pa co sz mc h) (hx : N x) {K : gh_H → Prop} (k : ∀ h', Only (TL t) h h' → TW t a N kb v nk rt lf rg pa co sz mc h' → K h') : gh_PV h (some x) [(12, 1)] (va_rf (some v)) K :=
  gs_PV (W.2 x hx).2 (Nat.succ_ne_zero _) (Nat.le_of_ble_eq_true rfl) (k _ (Only.up (W.2 x hx).2 (Or.inr rfl)) (W.ent hx (W.2 x hx).1 (fun y hy => ⟨rfl, rfl, rfl, rfl, rfl⟩)))
/-! parentOf and its like -/
def oc (co : Nat → Int32) : Option Nat → Int32
  | none => 1
  | some x => co x
def sOc (co : Nat → Int32) (o : Option Nat) (c : Int32) : Nat → Int32 := match o with
  | none => co
  | some x => sO co x c
theorem nar01 {c : Int32} (h : c = 0 ∨ c = 1) : narrow .boolean (.int c) = .int c := by
  rcases h with rfl | rfl <;> rfl
theorem fit01 {c : Int32} (h : c = 0 ∨ c = 1) : fits .boolean (.int c) = true := by
  rcases h with rfl | rfl <;> rfl
theorem tw_parentOf {X : String → gh_H → Prop} (W : TW t a N kb v nk rt lf rg pa co sz mc h) {o : Option Nat} (ho : ∀ x, o = some x → N x) {Q : Option Nat → gh_H → Prop} (k : Q (o.bind pa) h) : wp_J6_parentOf κ o Q X h := by
  unfold wp_J6_parentOf wb_J6_parentOf_12
  cases o with
  | none => exact ⟨fun _ => k, fun z => absurd rfl z⟩
  | some x => exact ⟨(fun z => nomatch z), fun _ => W.gP (ho x rfl) k⟩
theorem tw_leftOf {X : String → gh_H → Prop} (W : TW t a N kb v nk rt lf rg pa co sz mc h) {o : Option Nat} (ho : ∀ x, o = some x → N x) {Q : Option Nat → gh_H → Prop} (k : Q (o.bind lf) h) : wp_J6_leftOf κ o Q X h := by
  unfold wp_J6_leftOf wb_J6_leftOf_12
  cases o with
  | none => exact ⟨fun _ => k, fun z => absurd rfl z⟩
  | some x => exact ⟨(fun z => nomatch z), fun _ => W.gL (ho x rfl) k⟩
theorem tw_rightOf {X : String → gh_H → Prop} (W : TW t a N kb v nk rt lf rg pa co sz mc h) {o : Option Nat} (ho : ∀ x, o = some x → N x) {Q : Option Nat → gh_H → Prop} (k : Q (o.bind rg) h) : wp_J6_rightOf κ o Q X h := by
  unfold wp_J6_rightOf wb_J6_rightOf_12
  cases o with
  | none => exact ⟨fun _ => k, fun z => absurd rfl z⟩
  | some x => exact ⟨(fun z => nomatch z), fun _ => W.gR (ho x rfl) k⟩
theorem oc01 (W : TW t a N kb v nk rt lf rg pa co sz mc h) {o : Option Nat} (ho : ∀ x, o = some x → N x) : oc co o = 0 ∨ oc co o = 1 := by
  cases o with
  | none => exact Or.inr rfl
  | some x => exact (W.2 x (ho x rfl)).1
theorem tw_colorOf {X : String → gh_H → Prop} (W : TW t a N kb v nk rt lf rg pa co sz mc h) {o : Option Nat} (ho : ∀ x, o = some x → N x) {Q : Int32 → gh_H → Prop} (k : Q (oc co o) h) : wp_J6_colorOf κ o Q X h := by
  have h01 := oc01 W ho
  unfold wp_J6_colorOf wb_J6_colorOf_12
  cases o with
  | none => exact ⟨fun _ => ⟨nb1, k⟩, fun z => absurd rfl z⟩
  | some x => exact ⟨(fun z => nomatch z), fun _ => W.gC (ho x rfl) ⟨nar01 h01, k⟩⟩
theorem tw_setColor {X : String → gh_H → Prop} (W : TW t a N kb v nk rt lf rg pa co sz mc h) {o : Option Nat} (ho : ∀ x, o = some x → N x) {c : Int32} (hc : c = 0 ∨ c = 1) {Q : gh_H → Prop} (k : ∀ h', Only (TL t) h h' → TW t a N kb v nk rt lf rg pa (sOc co o c) sz mc h' → Q h') : wp_J6_setColor κ o c Q X h := by
  unfold wp_J6_setColor wb_J6_setColor_9
  cases o with
  | none => exact ⟨fun _ => k h Only.refl W, fun z => absurd rfl z⟩
  | some x => exact ⟨(fun z => nomatch z), fun _ => ⟨⟨nar01 hc, fit01 hc⟩, W.sC (ho x rfl) hc k⟩⟩
/-! rotations -/
variable {n : Nat} {ix lo hi : Nat → Nat}
theorem tw_rotL {X : String → gh_H → Prop} {p r : Nat} (W : TW t a N kb v nk rt lf rg pa co sz mc h) (T : TI N n rt lf rg pa ix lo hi) (hp : N p) (hr : rg p = some r) {Q : gh_H → Prop} (k : ∀ (h' : gh_H) (rt' : Option Nat) (lf' rg' pa' : Nat → Option Nat), RL p r rt lf rg pa rt' lf' rg' pa' → Only (TL t) h h' → TW t a N kb v nk rt' lf' rg' pa' co sz mc h' → Q h') : wp_J6_rotateLeft κ a (some p) Q X h := by
  obtain ⟨t1, t2, t3, t4, t5, t6, t7, t8, t9, t10⟩ := T
  have hr0 := t5 p r hp hr
  have hp1 := t1 p hp
  have hr1 := t1 r hr0.1
  have hpr : p ≠ r := by intro z; subst z; omega
  unfold wp_J6_rotateLeft
  refine ⟨(fun z => nomatch z), fun _ => W.gR hp ?_⟩
  rw [hr]
  refine W.gL hr0.1 (W.sR hp (fun h1 o1 W1 => W1.gL hr0.1 ?_))
  have main : ∀ (pa1 : Nat → Option Nat) (h2 : gh_H), Only (TL t) h h2 → TW t a N kb v nk rt lf (sO rg p (lf r)) pa1 co sz mc h2 → (∀ b, lf r = some b → pa1 b = some p) → (∀ z, lf r ≠ some z → pa1 z = pa z) → wb_J6_rotateLeft_32 κ Q X a (some p) (some r) h2 := by
    intro pa1 h2 o2 W2 e1 e2
    have epp : pa1 p = pa p := e2 p (fun z => by
      have := t3 r p hr0.1 z
      grind)
    unfold wb_J6_rotateLeft_32
    refine W2.gP hp (W2.sP hr0.1 (fun h3 o3 W3 => W3.gP hp ?_))
    rw [sO_ne hpr, epp]
    have fin : ∀ (rt' : Option Nat) (lf1 rg1 : Nat → Option Nat) (h4 : gh_H), Only (TL t) h h4 → TW t a N kb v nk rt' lf1 rg1 (sO pa1 r (pa p)) co sz mc h4 → RL p r rt lf rg pa rt' (sO lf1 r (some p)) rg1 (sO (sO pa1 r (pa p)) p (some r)) → wb_J6_rotateLeft_85 κ Q X (some p) (some r) h4 := by
      intro rt' lf1 rg1 h4 o4 W4 R
      unfold wb_J6_rotateLeft_85 wb_J6_rotateLeft_95
      exact W4.sL hr0.1 (fun h5 o5 W5 => W5.sP hp (fun h6 o6 W6 => k h6 _ _ _ _ R ((o4.trans o5).trans o6) W6))
    rw [epp] at W3
    refine ⟨fun z => W3.setRoot (fun h4 o4 W4 => fin _ _ _ h4 (((o2.trans o3)).trans o4) W4 ?_), fun z => ?_⟩
    · unfold RL sO
      refine ⟨?_, ?_, ?_, ?_, ?_, ?_, ?_, ?_, ?_, ?_, ?_, ?_⟩ <;> grind
    · obtain ⟨g, hg⟩ := Option.ne_none_iff_exists'.mp z
      have hg0 := t6 p g hp hg
      have hgr : g ≠ r := by
        intro w
        subst w
        rcases hg0.2 with w | w
        · have := t3 g p hg0.1 w
          omega
        · have := t5 g p hg0.1 w
          omega
      have hgp : g ≠ p := by
        intro w
        subst w
        rcases hg0.2 with w | w
        · have := t3 g g hg0.1 w
          omega
        · have := t5 g g hg0.1 w
          omega
      refine W3.gP hp ?_
      rw [sO_ne hpr, epp, hg]
      refine W3.gL hg0.1 ⟨fun e => W3.gP hp ?_, fun e => W3.gP hp ?_⟩
      · rw [sO_ne hpr, epp, hg]
        refine W3.sL hg0.1 (fun h4 o4 W4 => fin _ _ _ h4 (((o2.trans o3)).trans o4) W4 ?_)
        unfold RL sO
        refine ⟨?_, ?_, ?_, ?_, ?_, ?_, ?_, ?_, ?_, ?_, ?_, ?_⟩ <;> grind
      · rw [sO_ne hpr, epp, hg]
        refine W3.sR hg0.1 (fun h4 o4 W4 => fin _ _ _ h4 (((o2.trans o3)).trans o4) W4 ?_)
        unfold RL sO
        refine ⟨?_, ?_, ?_, ?_, ?_, ?_, ?_, ?_, ?_, ?_, ?_, ?_⟩ <;> grind
  refine ⟨fun e => main pa h1 o1 W1 (fun b hb => by rw [e] at hb; cases hb) (fun _ _ => rfl), fun e => ?_⟩
  obtain ⟨b, hb⟩ := Option.ne_none_iff_exists'.mp e
  refine W1.gL hr0.1 ?_
  rw [hb]
  have hb0 := t3 r b hr0.1 hb
  refine W1.sP hb0.1 (fun h2 o2 W2 => main _ h2 (o1.trans o2) W2 (fun b' hb' => ?_) (fun z hz => sO_ne (fun w => hz (by rw [w]; exact hb))))
  rw [hb] at hb'
  cases hb'
  exact sO_self _ _ _
theorem tw_rotR {X : String → gh_H → Prop} {p r : Nat} (W : TW t a N kb v nk rt lf rg pa co sz mc h) (T : TI N n rt lf rg pa ix lo hi) (hp : N p) (hr : lf p = some r) {Q : gh_H → Prop} (k : ∀ (h' : gh_H) (rt' : Option Nat) (lf' rg' pa' : Nat → Option Nat), RR p r rt lf rg pa rt' lf' rg' pa' → Only (TL t) h h' → TW t a N kb v nk rt' lf' rg' pa' co sz mc h' → Q h') : wp_J6_rotateRight κ a (some p) Q X h := by
  obtain ⟨t1, t2, t3, t4, t5, t6, t7, t8, t9, t10⟩ := T
  have hr0 := t3 p r hp hr
  have hp1 := t1 p hp
  have hr1 := t1 r hr0.1
  have hpr : p ≠ r := by intro z; subst z; omega
  unfold wp_J6_rotateRight
  refine ⟨(fun z => nomatch z), fun _ => W.gL hp ?_⟩
  rw [hr]
  refine W.gR hr0.1 (W.sL hp (fun h1 o1 W1 => W1.gR hr0.1 ?_))
  have main : ∀ (pa1 : Nat → Option Nat) (h2 : gh_H), Only (TL t) h h2 → TW t a N kb v nk rt (sO lf p (rg r)) rg pa1 co sz mc h2 → (∀ b, rg r = some b → pa1 b = some p) → (∀ z, rg r ≠ some z → pa1 z = pa z) → wb_J6_rotateRight_32 κ Q X a (some p) (some r) h2 := by
    intro pa1 h2 o2 W2 e1 e2
    have epp : pa1 p = pa p := e2 p (fun z => by
      have := t5 r p hr0.1 z
      grind)
    unfold wb_J6_rotateRight_32
    refine W2.gP hp (W2.sP hr0.1 (fun h3 o3 W3 => W3.gP hp ?_))
    rw [sO_ne hpr, epp]
    have fin : ∀ (rt' : Option Nat) (lf1 rg1 : Nat → Option Nat) (h4 : gh_H), Only (TL t) h h4 → TW t a N kb v nk rt' lf1 rg1 (sO pa1 r (pa p)) co sz mc h4 → RR p r rt lf rg pa rt' lf1 (sO rg1 r (some p)) (sO (sO pa1 r (pa p)) p (some r)) → wb_J6_rotateRight_85 κ Q X (some p) (some r) h4 := by
      intro rt' lf1 rg1 h4 o4 W4 R
      unfold wb_J6_rotateRight_85 wb_J6_rotateRight_95
      exact W4.sR hr0.1 (fun h5 o5 W5 => W5.sP hp (fun h6 o6 W6 => k h6 _ _ _ _ R ((o4.trans o5).trans o6) W6))
    rw [epp] at W3
    refine ⟨fun z => W3.setRoot (fun h4 o4 W4 => fin _ _ _ h4 (((o2.trans o3)).trans o4) W4 ?_), fun z => ?_⟩
    · unfold RR sO
      refine ⟨?_, ?_, ?_, ?_, ?_, ?_, ?_, ?_, ?_, ?_, ?_, ?_⟩ <;> grind
    · obtain ⟨g, hg⟩ := Option.ne_none_iff_exists'.mp z
      have hg0 := t6 p g hp hg
      have hgr : g ≠ r := by
        intro w
        subst w
        rcases hg0.2.symm with w | w
        · have := t5 g p hg0.1 w
          omega
        · have := t3 g p hg0.1 w
          omega
      have hgp : g ≠ p := by
        intro w
        subst w
        rcases hg0.2.symm with w | w
        · have := t5 g g hg0.1 w
          omega
        · have := t3 g g hg0.1 w
          omega
      refine W3.gP hp ?_
      rw [sO_ne hpr, epp, hg]
      refine W3.gR hg0.1 ⟨fun e => W3.gP hp ?_, fun e => W3.gP hp ?_⟩
      · rw [sO_ne hpr, epp, hg]
        refine W3.sR hg0.1 (fun h4 o4 W4 => fin _ _ _ h4 (((o2.trans o3)).trans o4) W4 ?_)
        unfold RR sO
        refine ⟨?_, ?_, ?_, ?_, ?_, ?_, ?_, ?_, ?_, ?_, ?_, ?_⟩ <;> grind
      · rw [sO_ne hpr, epp, hg]
        refine W3.sL hg0.1 (fun h4 o4 W4 => fin _ _ _ h4 (((o2.trans o3)).trans o4) W4 ?_)
        unfold RR sO
        refine ⟨?_, ?_, ?_, ?_, ?_, ?_, ?_, ?_, ?_, ?_, ?_, ?_⟩ <;> grind
  refine ⟨fun e => main pa h1 o1 W1 (fun b hb => by rw [e] at hb; cases hb) (fun _ _ => rfl), fun e => ?_⟩
  obtain ⟨b, hb⟩ := Option.ne_none_iff_exists'.mp e
  refine W1.gR hr0.1 ?_
  rw [hb]
  have hb0 := t5 r b hr0.1 hb
  refine W1.sP hb0.1 (fun h2 o2 W2 => main _ h2 (o1.trans o2) W2 (fun b' hb' => ?_) (fun z hz => sO_ne (fun w => hz (by rw [w]; exact hb))))
  rw [hb] at hb'
  cases hb'
  exact sO_self _ _ _
end
