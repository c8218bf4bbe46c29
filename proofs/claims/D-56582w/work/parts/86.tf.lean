/-! THE TREE, part F: deleting an entry -/
set_option maxRecDepth 100000
section
variable {κ : Nat → Nat} {X : String → gh_H → Prop} {t a : Nat} {N : Nat → Prop} {kb : Nat → Nat} {v : Nat} {nk rt : Option Nat} {lf rg pa : Nat → Option Nat} {co : Nat → Int32} {sz : Nat} {mc : Int32} {h h0 : gh_H} {n : Nat} {ix lo hi kf : Nat → Nat} {z : Nat} {Q : gh_H → Prop}
theorem TW.sub {N' : Nat → Prop} (W : TW t a N kb v nk rt lf rg pa co sz mc h) (hs : ∀ x, N' x → N x) : TW t a N' kb v nk rt lf rg pa co sz mc h := ⟨W.1, fun x hx => W.2 x (hs x hx)⟩
/-- what stands behind a deletion of the entry z -/
def DLk (t a : Nat) (N : Nat → Prop) (kb : Nat → Nat) (v : Nat) (nk : Option Nat) (n : Nat) (ix : Nat → Nat) (sz : Nat) (mc : Int32) (z : Nat) (Q : gh_H → Prop) (h0 : gh_H) : Prop :=
  ∀ (h' : gh_H) (rt' : Option Nat) (lf' rg' pa' : Nat → Option Nat) (co' : Nat → Int32) (lo' hi' : Nat → Nat), TI (fun y => N y ∧ y ≠ z) (n - 1) rt' lf' rg' pa' (fun y => dn (ix z) (ix y)) lo' hi' → Only (TL t) h0 h' → TW t a (fun y => N y ∧ y ≠ z) kb v nk rt' lf' rg' pa' co' sz mc h' → Q h'
theorem dl_192 (k : DLk t a N kb v nk n ix sz mc z Q h0) (o : Only (TL t) h0 h) (W : TW t a N kb v nk rt lf rg pa co sz mc h) (T : TI N n rt lf rg pa ix lo hi) (hz : N z) (hl : lf z = none) (hr : rg z = none) (hne : ∃ g, N g ∧ g ≠ z) : wb_J6_deleteEntry_192 κ Q X (some z) h := by
  unfold wb_J6_deleteEntry_192
  refine W.gP hz ?_
  cases hp : pa z with
  | none =>
    exfalso
    obtain ⟨g, hg, hgz⟩ := hne
    have h1 := T.2.2.2.2.2.2.2.2.1 z (T.2.2.2.2.2.2.1 z hz hp)
    have h2 := T.2.1 z hz hl
    have h3 := T.2.2.2.1 z hz hr
    have h4 := T.1 g hg
    exact hgz (T.2.2.2.2.2.2.2.2.2 g z hg hz (by omega))
  | some g =>
    have hg0 := T.2.2.2.2.2.1 z g hz hp
    refine ⟨(fun w => nomatch w), fun _ => W.gP hz ?_⟩
    rw [hp]
    refine W.gL hg0.1 ⟨fun e => W.gP hz ?_, fun e => W.gP hz ?_⟩
    · rw [hp]
      refine W.sL hg0.1 (fun h1 o1 W1 => ?_)
      unfold wb_J6_deleteEntry_240 wb_J6_deleteEntry_245
      refine W1.sP hz (fun h2 o2 W2 => ?_)
      refine k h2 rt _ _ _ co _ _ (T.delLeaf hz hl hr hp (fun _ => sO_self _ _ _) (fun y hy hn => sO_ne (fun w => hn ⟨w, e.symm⟩)) (fun w => absurd e.symm w) (fun y _ _ => rfl) (fun y hy => sO_ne hy)) ((o.trans o1).trans o2) (W2.sub (fun x hx => hx.1))
    · rw [hp]
      have er : rg g = some z := hg0.2.resolve_left (fun w => e w.symm)
      refine W.gR hg0.1 ⟨fun _ => W.gP hz ?_, fun w => absurd er.symm w⟩
      rw [hp]
      refine W.sR hg0.1 (fun h1 o1 W1 => ?_)
      unfold wb_J6_deleteEntry_240 wb_J6_deleteEntry_245
      refine W1.sP hz (fun h2 o2 W2 => ?_)
      refine k h2 rt _ _ _ co _ _ (T.delLeaf hz hl hr hp (fun w => absurd w.symm e) (fun y _ _ => rfl) (fun _ => sO_self _ _ _) (fun y hy hn => sO_ne (fun w => hn ⟨w, fun q => e q.symm⟩)) (fun y hy => sO_ne hy)) ((o.trans o1).trans o2) (W2.sub (fun x hx => hx.1))
theorem dl_leaf (k : DLk t a N kb v nk n ix sz mc z Q h0) (o : Only (TL t) h0 h) (W : TW t a N kb v nk rt lf rg pa co sz mc h) (T : TI N n rt lf rg pa ix lo hi) (hz : N z) (hl : lf z = none) (hr : rg z = none) : wb_J6_deleteEntry_75 κ Q X a (some z) none h := by
  unfold wb_J6_deleteEntry_75
  refine ⟨fun _ => W.gP hz ?_, fun w => absurd rfl w⟩
  cases hp : pa z with
  | none =>
    obtain ⟨hn, hall, T1⟩ := T.delRoot (lf' := lf) (rg' := rg) (pa' := pa) hz hl hr hp
    refine ⟨fun _ => W.setRoot (fun h1 o1 W1 => ?_), fun w => absurd rfl w⟩
    unfold wb_J6_deleteEntry_245
    refine k h1 none lf rg pa co (fun y => dn (ix z) (lo y)) (fun y => dn (ix z) (hi y)) ?_ (o.trans o1) (W1.sub (fun x hx => hx.1))
    rw [hn]
    exact T1
  | some g =>
    have hg0 := T.2.2.2.2.2.1 z g hz hp
    have hz0 := T.1 z hz
    have hgz : g ≠ z := by
      intro w
      subst w
      have a1 := T.2.2.1 g g hz
      have a2 := T.2.2.2.2.1 g g hz
      rcases hg0.2 with w | w
      · rw [hl] at w; cases w
      · rw [hr] at w; cases w
    refine ⟨(fun w => nomatch w), fun _ => W.gC hz ⟨fun _ => W.rc (tw_fixD (z := z) (fun h1 rt1 lf1 rg1 pa1 co1 lo1 hi1 T1 hz1 o1 W1 => dl_192 k (o.trans o1) W1 T1 hz (hz1 hz).1 (hz1 hz).2 ⟨g, hg0.1, hgz⟩) W T hz (fun _ => ⟨⟨hl, hr⟩, hz0.1, hz0.2.1⟩)), fun _ => dl_192 k o W T hz hl hr ⟨g, hg0.1, hgz⟩⟩⟩
theorem dl_133 {c : Nat} (k : DLk t a N kb v nk n ix sz mc z Q h0) (o : Only (TL t) h0 h) (W : TW t a N kb v nk rt lf rg pa co sz mc h) (hz : N z) (hc : N c) (hcz : c ≠ z) (T : TI (fun y => N y ∧ y ≠ z) (n - 1) rt (sO lf z none) (sO rg z none) (sO pa z none) (fun y => dn (ix z) (ix y)) lo hi) : wb_J6_deleteEntry_133 κ Q X a (some z) (some c) h := by
  unfold wb_J6_deleteEntry_133 wb_J6_deleteEntry_245
  refine W.sP hz (fun h1 o1 W1 => W1.sR hz (fun h2 o2 W2 => W2.sL hz (fun h3 o3 W3 => W3.gC hz ?_)))
  have oo := ((o.trans o1).trans o2).trans o3
  have W4 := W3.sub (N' := fun y => N y ∧ y ≠ z) (fun x hx => hx.1)
  refine ⟨fun _ => W3.rc (tw_fixD (x := c) (z := z) (fun h5 rt1 lf1 rg1 pa1 co1 lo1 hi1 T1 hz1 o5 W5 => k h5 _ _ _ _ _ _ _ T1 (oo.trans o5) W5) W4 T ⟨hc, hcz⟩ (fun w => absurd rfl w.2)), fun _ => k h3 _ _ _ _ _ _ _ T oo W4⟩
theorem dl_one {c : Nat} (k : DLk t a N kb v nk n ix sz mc z Q h0) (o : Only (TL t) h0 h) (W : TW t a N kb v nk rt lf rg pa co sz mc h) (T : TI N n rt lf rg pa ix lo hi) (hz : N z) (hc : (lf z = some c ∧ rg z = none) ∨ (lf z = none ∧ rg z = some c)) : wb_J6_deleteEntry_75 κ Q X a (some z) (some c) h := by
  have hz0 := T.1 z hz
  have hc0 : N c ∧ c ≠ z := by
    rcases hc with w | w
    · have := T.2.2.1 z c hz w.1
      exact ⟨this.1, fun e => by subst e; omega⟩
    · have := T.2.2.2.2.1 z c hz w.2
      exact ⟨this.1, fun e => by subst e; omega⟩
  unfold wb_J6_deleteEntry_75
  refine ⟨(fun w => nomatch w), fun _ => W.gP hz (W.sP hc0.1 (fun h1 o1 W1 => W1.gP hz ?_))⟩
  rw [sO_ne (fun w => hc0.2 w.symm)]
  cases hp : pa z with
  | none =>
    rw [hp] at W1
    refine ⟨fun _ => W1.setRoot (fun h2 o2 W2 => dl_133 k ((o.trans o1).trans o2) W2 hz hc0.1 hc0.2 (T.delOne hz hc ?_ ?_ (fun _ => rfl) (fun w => absurd hp w) ?_ ?_ ?_ ?_)), fun w => absurd rfl w⟩
    · rw [sO_ne hc0.2, sO_self, hp]
    · intro y h1 h2
      rw [sO_ne h1, sO_ne h2]
    · intro g hg
      rw [hp] at hg
      cases hg
    · intro y h1 _
      rw [sO_ne h1]
    · intro g hg
      rw [hp] at hg
      cases hg
    · intro y h1 _
      rw [sO_ne h1]
  | some g =>
    rw [hp] at W1
    have hg0 := T.2.2.2.2.2.1 z g hz hp
    have hgz : g ≠ z := by
      intro w
      subst w
      rcases hg0.2 with w | w
      · have := T.2.2.1 g g hz w
        omega
      · have := T.2.2.2.2.1 g g hz w
        omega
    refine ⟨(fun w => nomatch w), fun _ => W1.gP hz ?_⟩
    rw [sO_ne (fun w => hc0.2 w.symm), hp]
    refine W1.gL hg0.1 ⟨fun e => W1.gP hz ?_, fun e => W1.gP hz ?_⟩
    · rw [sO_ne (fun w => hc0.2 w.symm), hp]
      refine W1.sL hg0.1 (fun h2 o2 W2 => dl_133 k ((o.trans o1).trans o2) W2 hz hc0.1 hc0.2 (T.delOne hz hc ?_ ?_ (fun w => by rw [hp] at w; cases w) (fun _ => rfl) ?_ ?_ ?_ ?_))
      · rw [sO_ne hc0.2, sO_self, hp]
      · intro y h1 h2
        rw [sO_ne h1, sO_ne h2]
      · intro g' hg' _
        rw [hp] at hg'
        cases hg'
        rw [sO_ne hgz, sO_self]
      · intro y h1 h2
        rw [sO_ne h1, sO_ne (fun w => h2 (by rw [w]; exact ⟨hp, e.symm⟩))]
      · intro g' hg' w
        rw [hp] at hg'
        cases hg'
        exact absurd e.symm w
      · intro y h1 _
        rw [sO_ne h1]
    · rw [sO_ne (fun w => hc0.2 w.symm), hp]
      refine W1.sR hg0.1 (fun h2 o2 W2 => dl_133 k ((o.trans o1).trans o2) W2 hz hc0.1 hc0.2 (T.delOne hz hc ?_ ?_ (fun w => by rw [hp] at w; cases w) (fun _ => rfl) ?_ ?_ ?_ ?_))
      · rw [sO_ne hc0.2, sO_self, hp]
      · intro y h1 h2
        rw [sO_ne h1, sO_ne h2]
      · intro g' hg' w
        rw [hp] at hg'
        cases hg'
        exact absurd w.symm e
      · intro y h1 _
        rw [sO_ne h1]
      · intro g' hg' _
        rw [hp] at hg'
        cases hg'
        rw [sO_ne hgz, sO_self]
      · intro y h1 h2
        rw [sO_ne h1, sO_ne (fun w => h2 (by rw [w]; exact ⟨hp, fun q => e q.symm⟩))]
theorem dl_57 (k : DLk t a N kb v nk n ix sz mc z Q h0) (o : Only (TL t) h0 h) (W : TW t a N kb v nk rt lf rg pa co sz mc h) (T : TI N n rt lf rg pa ix lo hi) (hz : N z) (hnb : lf z = none ∨ rg z = none) : wb_J6_deleteEntry_57 κ Q X a (some z) h := by
  unfold wb_J6_deleteEntry_57
  refine W.gL hz ?_
  cases hl : lf z with
  | none =>
    refine ⟨fun _ => W.gR hz ?_, fun w => absurd rfl w⟩
    cases hr : rg z with
    | none => exact dl_leaf k o W T hz hl hr
    | some c => exact dl_one k o W T hz (Or.inr ⟨hl, hr⟩)
  | some c =>
    refine ⟨(fun w => nomatch w), fun _ => W.gL hz ?_⟩
    rw [hl]
    exact dl_one k o W T hz (Or.inl ⟨hl, hnb.resolve_left (fun w => by rw [hl] at w; cases w)⟩)
/-- the keys and the places behind a deletion of the entry y -/
def KD1 (N : Nat → Prop) (kf ix : Nat → Nat) (lf rg : Nat → Option Nat) (y : Nat) (N' : Nat → Prop) (kf' ix' : Nat → Nat) : Prop :=
  (∀ e, (∃ x, N' x ∧ kf' x = e) ↔ (∃ x, N x ∧ kf x = e) ∧ e ≠ kf y) ∧ (∀ w, N' w → ix' w < ix y → N w ∧ ix w = ix' w ∧ kf' w = kf w) ∧ (lf y ≠ none → rg y ≠ none → N' y ∧ ix' y = ix y) ∧ (lf y = none ∨ rg y = none → ∀ w, N w → ix w = ix y + 1 → N' w ∧ ix' w = ix y)
theorem nl_del {NL : List Nat} (hz : N z) (L : NL.Nodup ∧ NL.length = sz ∧ ∀ x, x ∈ NL ↔ N x) : (NL.erase z).Nodup ∧ (NL.erase z).length = sz - 1 ∧ ∀ x, x ∈ NL.erase z ↔ (N x ∧ x ≠ z) := by
  refine ⟨L.1.erase z, by rw [List.length_erase_of_mem ((L.2.2 z).mpr hz), L.2.1], fun x => ?_⟩
  rw [L.1.mem_erase_iff, L.2.2 x]
  exact And.comm
theorem KO.del1 {y : Nat} (T : TI N n rt lf rg pa ix lo hi) (O : KO N ix kf) (hy : N y) : KO (fun w => N w ∧ w ≠ y) (fun w => dn (ix y) (ix w)) kf := by
  intro x w hx hw hlt
  refine O x w hx.1 hw.1 ?_
  have h1 : ix x ≠ ix y := fun e => hx.2 (T.2.2.2.2.2.2.2.2.2 x y hx.1 hy e)
  have h2 : ix w ≠ ix y := fun e => hw.2 (T.2.2.2.2.2.2.2.2.2 w y hw.1 hy e)
  have hlt' : dn (ix y) (ix x) < dn (ix y) (ix w) := hlt
  unfold dn at hlt'
  split at hlt' <;> split at hlt' <;> omega
theorem KD1.one {y : Nat} (T : TI N n rt lf rg pa ix lo hi) (O : KO N ix kf) (hy : N y) (hnb : lf y = none ∨ rg y = none) : KD1 N kf ix lf rg y (fun w => N w ∧ w ≠ y) kf (fun w => dn (ix y) (ix w)) := by
  have inj := T.2.2.2.2.2.2.2.2.2
  refine ⟨fun e => ⟨?_, ?_⟩, ?_, ?_, ?_⟩
  · rintro ⟨x, hx, he⟩
    refine ⟨⟨x, hx.1, he⟩, fun w => ?_⟩
    have h1 : ix x ≠ ix y := fun e => hx.2 (inj x y hx.1 hy e)
    rcases Nat.lt_or_ge (ix x) (ix y) with q | q
    · have := O x y hx.1 hy q
      omega
    · have := O y x hy hx.1 (by omega)
      omega
  · rintro ⟨⟨x, hx, he⟩, hne⟩
    exact ⟨x, ⟨hx, fun w => hne (by rw [← he, w])⟩, he⟩
  · intro w hw hlt
    have hlt' : dn (ix y) (ix w) < ix y := hlt
    have h1 : ix w ≠ ix y := fun e => hw.2 (inj w y hw.1 hy e)
    have e : dn (ix y) (ix w) = ix w := by
      unfold dn at hlt' ⊢
      split
      · rfl
      · rename_i q
        rw [if_neg q] at hlt'
        omega
    exact ⟨hw.1, e.symm, rfl⟩
  · intro h1 h2
    rcases hnb with w | w
    · exact absurd w h1
    · exact absurd w h2
  · intro _ w hw he
    refine ⟨⟨hw, fun q => by rw [q] at he; omega⟩, ?_⟩
    show dn (ix y) (ix w) = ix y
    unfold dn
    rw [if_neg (by omega)]
    omega
theorem KO.del2 {y s : Nat} (T : TI N n rt lf rg pa ix lo hi) (O : KO N ix kf) (hy : N y) (hs : N s) (es : ix s = ix y + 1) : KO (fun w => N w ∧ w ≠ s) (fun w => dn (ix s) (ix w)) (sO kf y (kf s)) := by
  intro x w hx hw hlt
  have inj := T.2.2.2.2.2.2.2.2.2
  have h1 : ix x ≠ ix s := fun e => hx.2 (inj x s hx.1 hs e)
  have h2 : ix w ≠ ix s := fun e => hw.2 (inj w s hw.1 hs e)
  have hlt' : dn (ix s) (ix x) < dn (ix s) (ix w) := hlt
  have hlt2 : ix x < ix w := by
    unfold dn at hlt'
    split at hlt' <;> split at hlt' <;> omega
  have hys := O y s hy hs (by omega)
  show sO kf y (kf s) x < sO kf y (kf s) w
  by_cases ex : x = y
  · rw [ex, sO_self]
    rw [ex] at hlt2
    rw [sO_ne (fun e => by rw [e] at hlt2; omega)]
    exact O s w hs hw.1 (by omega)
  · rw [sO_ne ex]
    by_cases ew : w = y
    · rw [ew, sO_self]
      rw [ew] at hlt2
      have := O x y hx.1 hy hlt2
      omega
    · rw [sO_ne ew]
      exact O x w hx.1 hw.1 hlt2
theorem KD1.two {y s : Nat} (T : TI N n rt lf rg pa ix lo hi) (O : KO N ix kf) (hy : N y) (hs : N s) (es : ix s = ix y + 1) (hl : lf y ≠ none) (hr : rg y ≠ none) : KD1 N kf ix lf rg y (fun w => N w ∧ w ≠ s) (sO kf y (kf s)) (fun w => dn (ix s) (ix w)) := by
  have inj := T.2.2.2.2.2.2.2.2.2
  have hys := O y s hy hs (by omega)
  have nys : y ≠ s := fun e => by rw [e] at es; omega
  refine ⟨fun e => ⟨?_, ?_⟩, ?_, ?_, ?_⟩
  · rintro ⟨x, hx, he⟩
    by_cases ex : x = y
    · rw [ex, sO_self] at he
      exact ⟨⟨s, hs, he⟩, by omega⟩
    · rw [sO_ne ex] at he
      refine ⟨⟨x, hx.1, he⟩, fun w => ?_⟩
      have h1 : ix x ≠ ix y := fun e => ex (inj x y hx.1 hy e)
      rcases Nat.lt_or_ge (ix x) (ix y) with q | q
      · have := O x y hx.1 hy q
        omega
      · have := O y x hy hx.1 (by omega)
        omega
  · rintro ⟨⟨x, hx, he⟩, hne⟩
    by_cases ex : x = s
    · exact ⟨y, ⟨hy, nys⟩, by rw [sO_self, ← ex]; exact he⟩
    · exact ⟨x, ⟨hx, ex⟩, by rw [sO_ne (fun w => hne (by rw [← he, w]))]; exact he⟩
  · intro w hw hlt
    have hlt' : dn (ix s) (ix w) < ix y := hlt
    have e : dn (ix s) (ix w) = ix w := by
      unfold dn at hlt' ⊢
      split
      · rfl
      · rename_i q
        rw [if_neg q] at hlt'
        omega
    refine ⟨hw.1, e.symm, sO_ne (fun q => ?_)⟩
    rw [e, q] at hlt'
    omega
  · intro _ _
    refine ⟨⟨hy, nys⟩, ?_⟩
    show dn (ix s) (ix y) = ix y
    unfold dn
    rw [if_pos (by omega)]
  · intro w
    rcases w with w | w
    · exact absurd w hl
    · exact absurd w hr
theorem tw_delete {y : Nat} {NL : List Nat} (ht17 : ¬ TL t 17) (W : TW t a N kb v nk rt lf rg pa co sz mc h) (T : TI N sz rt lf rg pa ix lo hi) (O : KO N ix kf) (B : KB N kb kf h) (L : NL.Nodup ∧ NL.length = sz ∧ ∀ x, x ∈ NL ↔ N x) (hy : N y)
    (k : ∀ (h' : gh_H) (mc' : Int32) (N' : Nat → Prop) (kf' ix' : Nat → Nat), Only (TL t) h h' → TF t a v (sz - 1) mc' nk N' kf' ix' h' → KD1 N kf ix lf rg y N' kf' ix' → Q h') : wp_J6_deleteEntry κ a (some y) Q X h := by
  have hpos : 0 < sz := by
    have := T.1 y hy
    omega
  unfold wp_J6_deleteEntry
  refine W.mods (W.setMods (fun h1 o1 W1 => W1.size ?_))
  have e1 : nI sz - 1 = nI (sz - 1) := pk_sub (b := 1) hpos
  rw [e1]
  refine W1.setSize (fun h2 o2 W2 => W2.gL hy ?_)
  have oo := o1.trans o2
  have one : (lf y = none ∨ rg y = none) → wb_J6_deleteEntry_57 κ Q X a (some y) h2 := by
    intro hnb
    refine dl_57 (h0 := h2) (n := sz) (fun h' rt' lf' rg' pa' co' lo' hi' T' o' W' => ?_) Only.refl W2 T hy hnb
    exact k h' _ _ _ _ (oo.trans o') ⟨_, _, _, _, _, _, _, _, _, W', T', O.del1 T hy, fun x hx => (B.keep (oo.trans o') TL_0 ht17) x hx.1, nl_del hy L⟩ (KD1.one T O hy hnb)
  cases hl : lf y with
  | none => exact ⟨fun _ => one (Or.inl hl), fun w => absurd rfl w⟩
  | some l =>
    refine ⟨(fun w => nomatch w), fun _ => W2.gR hy ?_⟩
    cases hr : rg y with
    | none => exact ⟨fun _ => one (Or.inr hr), fun w => absurd rfl w⟩
    | some r =>
      refine ⟨(fun w => nomatch w), fun _ => tw_succ W2 T hy (fun s hs es hls => W2.gK hs (W2.sK hy (fun h3 o3 W3 => W3.gV hs (W3.sV hy (fun h4 o4 W4 => ?_))))) (fun e => ?_)⟩
      · refine dl_57 (h0 := h4) (n := sz) (fun h' rt' lf' rg' pa' co' lo' hi' T' o' W' => ?_) Only.refl W4 T hs (Or.inl (hls (by rw [hr]; exact fun w => nomatch w)))
        have o5 := ((oo.trans o3).trans o4).trans o'
        refine k h' _ _ _ _ o5 ⟨_, _, _, _, _, _, _, _, _, W', T', O.del2 T hy hs es, fun x hx => ?_, nl_del hs L⟩ (KD1.two T O hy hs es (by rw [hl]; exact fun w => nomatch w) (by rw [hr]; exact fun w => nomatch w))
        have B5 := B.keep o5 TL_0 ht17
        unfold sO
        by_cases ex : x = y
        · rw [if_pos ex, if_pos ex]
          exact B5 s hs
        · rw [if_neg ex, if_neg ex]
          exact B5 x hx.1
      · have h1 := T.2.2.2.2.1 y r hy hr
        have h2 := T.1 r h1.1
        omega
end
