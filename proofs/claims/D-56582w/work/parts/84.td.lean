/-! THE TREE, part D: keys, search, put -/
set_option maxRecDepth 100000
/-- a boxed number -/
def BX (h : gh_H) (b d : Nat) : Prop := ∃ lb : Nat, (lb = 0 ∨ lb = 17) ∧ h b = some (lb, .inr (15, [.int (nI d)]))
theorem BX.keep {h h' : gh_H} {b d : Nat} {S : Nat → Prop} (B : BX h b d) (o : Only S h h') (n0 : ¬ S 0) (n1 : ¬ S 17) : BX h' b d := by
  obtain ⟨lb, h1, h2⟩ := B
  refine ⟨lb, h1, o _ _ _ h2 ?_⟩
  rcases h1 with rfl | rfl
  · exact n0
  · exact n1
theorem bx_cmp {κ : Nat → Nat} {X : String → gh_H → Prop} {h : gh_H} {b c x y : Nat} {Q : Int32 → gh_H → Prop} (eb : BX h b x) (ec : BX h c y) (hx : x < 2000000) (hy : y < 2000000) (k0 : x = y → Q 0 h) (k1 : y < x → Q 1 h) (k2 : x < y → Q (-1) h) : wp_J25_compareTo κ b (some c) Q X h := by
  obtain ⟨l1, -, e1⟩ := eb
  obtain ⟨l2, -, e2⟩ := ec
  have hx' : x < 2 ^ 31 := n31 (by omega)
  have hy' : y < 2 ^ 31 := n31 (by omega)
  unfold wp_J25_compareTo wp_J25_compareTo_2 wp_J25_compare wb_J25_compare_19
  refine gs_CK e2 (by decide) (gs_RC e1 (gs_GI e1 rfl (gs_GI e2 rfl ⟨fun z => ⟨fun w => k0 ((nI_eq hx' hy').mp w), fun w => k1 ?_⟩, fun z => k2 ?_⟩)))
  · have h1 := (nI_leI hy' hx').mp z
    have h2 : ¬ x = y := fun e => w (by rw [e])
    omega
  · have h1 : ¬ y ≤ x := fun e => z ((nI_leI hy' hx').mpr e)
    omega
/-- the small numbers' boxes -/
def KI (κ : Nat → Nat) (h : gh_H) : Prop := ∃ (ty : Nat) (f : Nat → Option Nat), 4 ≤ ty ∧ h (κ 2) = some (0, .inl (ty, 256, gu_r f)) ∧ ∀ d, d < 128 → ∃ b : Nat, f (d + 128) = some b ∧ h b = some (0, .inr (15, [.int (nI d)]))
theorem KI.keep {κ : Nat → Nat} {h h' : gh_H} {S : Nat → Prop} (K : KI κ h) (o : Only S h h') (n0 : ¬ S 0) : KI κ h' := by
  obtain ⟨ty, f, h1, h2, h3⟩ := K
  refine ⟨ty, f, h1, o _ _ _ h2 n0, fun d hd => ?_⟩
  obtain ⟨b, h4, h5⟩ := h3 d hd
  exact ⟨b, h4, o _ _ _ h5 n0⟩
theorem bx_of {κ : Nat → Nat} {X : String → gh_H → Prop} {h : gh_H} {d : Nat} {Q : Option Nat → gh_H → Prop} (C : KI κ h) (hd : d < 2000000) (k : ∀ (b : Nat) (h' : gh_H), Only (fun _ => False) h h' → BX h' b d → Q (some b) h') : wp_J25_valueOf κ (nI d) Q X h := by
  have hd' : d < 2 ^ 31 := n31 (by omega)
  obtain ⟨ty, f, h1, h2, h3⟩ := C
  unfold wp_J25_valueOf wb_J25_valueOf_23 wp_J25_init wp_J24_init
  refine ⟨fun z => ?_, fun _ => ⟨fun z => ?_, fun z => ?_⟩⟩
  · exfalso
    rw [Int32.lt_iff_toInt_lt, nI_toInt hd'] at z
    have : ((-128 : Int32)).toInt = -128 := by decide
    omega
  · refine gs_NO 17 (by decide) (fun q hq => gs_PV (gu_self _ _ _) (by decide) (Nat.le_of_ble_eq_true rfl) ?_)
    rw [gu_idem]
    exact k q _ (Only.new hq) ⟨17, Or.inr rfl, gu_self _ _ _⟩
  · have hlt : d < 128 := by
      have : ¬ 127 < d := fun w => z (nI_lt (a := 127) w hd')
      omega
    obtain ⟨b, h4, h5⟩ := h3 d hlt
    rw [show nI d + 128 = nI (d + 128) from nI_add d 128]
    refine gs_LR h2 h1 (show d + 128 < 256 by omega) (by decide) ?_
    rw [h4]
    exact k b h Only.refl ⟨0, Or.inl rfl, h5⟩
/-- keys rise with the places -/
def KO (N : Nat → Prop) (ix kf : Nat → Nat) : Prop := ∀ x y, N x → N y → ix x < ix y → kf x < kf y
def KB (N : Nat → Prop) (kb kf : Nat → Nat) (h : gh_H) : Prop := ∀ x, N x → kf x < 2000000 ∧ BX h (kb x) (kf x)
theorem KB.keep {N : Nat → Prop} {kb kf : Nat → Nat} {h h' : gh_H} {S : Nat → Prop} (B : KB N kb kf h) (o : Only S h h') (n0 : ¬ S 0) (n1 : ¬ S 17) : KB N kb kf h' := fun x hx => ⟨(B x hx).1, (B x hx).2.keep o n0 n1⟩
/-- the whole tree: its entries N, their keys kf, their places ix -/
def TF (t a v sz : Nat) (mc : Int32) (nk : Option Nat) (N : Nat → Prop) (kf ix : Nat → Nat) (h : gh_H) : Prop :=
  ∃ (rt : Option Nat) (lf rg pa : Nat → Option Nat) (co : Nat → Int32) (lo hi kb : Nat → Nat) (NL : List Nat), TW t a N kb v nk rt lf rg pa co sz mc h ∧ TI N sz rt lf rg pa ix lo hi ∧ KO N ix kf ∧ KB N kb kf h ∧ NL.Nodup ∧ NL.length = sz ∧ ∀ x, x ∈ NL ↔ N x
theorem TF.keep {t a v sz : Nat} {mc : Int32} {nk : Option Nat} {N : Nat → Prop} {kf ix : Nat → Nat} {h h' : gh_H} {S : Nat → Prop} (P : TF t a v sz mc nk N kf ix h) (o : Only S h h') (n0 : ¬ S 0) (n1 : ¬ S (t + 1)) (n3 : ¬ S (t + 3)) (n17 : ¬ S 17) : TF t a v sz mc nk N kf ix h' := by
  obtain ⟨rt, lf, rg, pa, co, lo, hi, kb, NL, W, T, O, B, L⟩ := P
  exact ⟨rt, lf, rg, pa, co, lo, hi, kb, NL, W.keep o n1 n3, T, O, B.keep o n0 n17, L⟩
/-- where a key's search has come to -/
def SI (N : Nat → Prop) (ix lo hi kf : Nat → Nat) (d x : Nat) : Prop := N x ∧ (∀ y, N y → ix y < lo x → kf y < d) ∧ ∀ y, N y → hi x ≤ ix y → d < kf y
section
variable {N : Nat → Prop} {n : Nat} {rt : Option Nat} {lf rg pa : Nat → Option Nat} {ix lo hi kf : Nat → Nat} {d x y : Nat}
theorem SI.root (T : TI N n rt lf rg pa ix lo hi) (hr : rt = some x) : SI N ix lo hi kf d x := by
  have h := T.2.2.2.2.2.2.2.2.1 x hr
  refine ⟨h.1, fun y hy hl => ?_, fun y hy hl => ?_⟩
  · omega
  · have := T.1 y hy
    omega
theorem SI.left (T : TI N n rt lf rg pa ix lo hi) (O : KO N ix kf) (S : SI N ix lo hi kf d x) (hd : d < kf x) (hl : lf x = some y) : SI N ix lo hi kf d y ∧ hi y - lo y < hi x - lo x := by
  have h := T.2.2.1 x y S.1 hl
  have hx := T.1 x S.1
  have hy := T.1 y h.1
  refine ⟨⟨h.1, fun z hz hl => S.2.1 z hz (by omega), fun z hz hl => ?_⟩, by omega⟩
  rcases Nat.eq_or_lt_of_le (show ix x ≤ ix z by omega) with e | e
  · rw [← T.2.2.2.2.2.2.2.2.2 x z S.1 hz e]
    exact hd
  · have := O x z S.1 hz e
    omega
theorem SI.right (T : TI N n rt lf rg pa ix lo hi) (O : KO N ix kf) (S : SI N ix lo hi kf d x) (hd : kf x < d) (hl : rg x = some y) : SI N ix lo hi kf d y ∧ hi y - lo y < hi x - lo x := by
  have h := T.2.2.2.2.1 x y S.1 hl
  have hx := T.1 x S.1
  have hy := T.1 y h.1
  refine ⟨⟨h.1, fun z hz hl => ?_, fun z hz hl => S.2.2 z hz (by omega)⟩, by omega⟩
  rcases Nat.eq_or_lt_of_le (show ix z ≤ ix x by omega) with e | e
  · rw [T.2.2.2.2.2.2.2.2.2 z x hz S.1 e]
    exact hd
  · have := O z x hz S.1 e
    omega
theorem SI.nl (T : TI N n rt lf rg pa ix lo hi) (O : KO N ix kf) (S : SI N ix lo hi kf d x) (hd : d < kf x) (hl : lf x = none) : ∀ z, N z → (ix z < ix x → kf z < d) ∧ (ix x ≤ ix z → d < kf z) := by
  have h := T.2.1 x S.1 hl
  intro z hz
  refine ⟨fun e => S.2.1 z hz (by omega), fun e => ?_⟩
  rcases Nat.eq_or_lt_of_le e with e | e
  · rw [← T.2.2.2.2.2.2.2.2.2 x z S.1 hz e]
    exact hd
  · have := O x z S.1 hz e
    omega
theorem SI.nr (T : TI N n rt lf rg pa ix lo hi) (O : KO N ix kf) (S : SI N ix lo hi kf d x) (hd : kf x < d) (hl : rg x = none) : ∀ z, N z → (ix z ≤ ix x → kf z < d) ∧ (ix x < ix z → d < kf z) := by
  have h := T.2.2.2.1 x S.1 hl
  intro z hz
  refine ⟨fun e => ?_, fun e => S.2.2 z hz (by omega)⟩
  rcases Nat.eq_or_lt_of_le e with e | e
  · rw [T.2.2.2.2.2.2.2.2.2 z x hz S.1 e]
    exact hd
  · have := O z x hz S.1 e
    omega
end
section
variable {κ : Nat → Nat} {X : String → gh_H → Prop} {t a : Nat} {N : Nat → Prop} {kb : Nat → Nat} {v : Nat} {nk rt : Option Nat} {lf rg pa : Nat → Option Nat} {co : Nat → Int32} {sz : Nat} {mc : Int32} {h : gh_H} {ix lo hi kf : Nat → Nat} {d b n : Nat}
/-- a new entry's cell -/
theorem TW.new {q : Nat} {par : Option Nat} (W : TW t a N kb v nk rt lf rg pa co sz mc h) (hq : h q = none) : TW t a (fun z => z = q ∨ N z) (sO kb q b) v nk rt (sO lf q none) (sO rg q none) (sO pa q par) (sO co q 1) sz mc (gh_up h q (t + 3, .inr (12, [va_rf (some b), va_rf (some v), va_rf none, va_rf none, va_rf par, .int 1]))) := by
  refine ⟨gu_new hq W.1, fun x hx => ?_⟩
  by_cases e : x = q
  · subst e
    rw [sO_self, sO_self, sO_self, sO_self, sO_self]
    exact ⟨Or.inr rfl, gu_self _ _ _⟩
  · rw [sO_ne e, sO_ne e, sO_ne e, sO_ne e, sO_ne e, gu_ne e]
    rcases hx with hx | hx
    · exact absurd hx e
    · exact W.2 x hx
theorem tw_init {q : Nat} {par : Option Nat} {x0 x1 x2 : Value} {Q : gh_H → Prop} (e : h q = some (t + 3, .inr (12, [x0, x1, va_rf none, va_rf none, x2, .int 0]))) (k : Q (gh_up h q (t + 3, .inr (12, [va_rf (some b), va_rf (some v), va_rf none, va_rf none, va_rf par, .int 1])))) : wp_J26_init κ q (some b) (some v) par Q X h := by
  unfold wp_J26_init
  refine ⟨⟨nb1, rfl⟩, gs_PV e (Nat.succ_ne_zero _) (Nat.le_of_ble_eq_true rfl) (gs_PV (gu_self _ _ _) (Nat.succ_ne_zero _) (Nat.le_of_ble_eq_true rfl) (gs_PV (gu_self _ _ _) (Nat.succ_ne_zero _) (Nat.le_of_ble_eq_true rfl) (gs_PV (gu_self _ _ _) (Nat.succ_ne_zero _) (Nat.le_of_ble_eq_true rfl) ?_)))⟩
  rw [gu_idem, gu_idem, gu_idem]
  exact k
/-- the keys behind an insertion -/
def KI1 (N : Nat → Prop) (kf : Nat → Nat) (d : Nat) (N' : Nat → Prop) (kf' : Nat → Nat) : Prop := ∀ e, (∃ x, N' x ∧ kf' x = e) ↔ e = d ∨ ∃ x, N x ∧ kf x = e
theorem KI1.add {q : Nat} (hq : ¬ N q) : KI1 N kf d (fun z => z = q ∨ N z) (sO kf q d) := by
  intro e
  constructor
  · rintro ⟨x, hx, he⟩
    by_cases w : x = q
    · rw [w, sO_self] at he
      exact Or.inl he.symm
    · rw [sO_ne w] at he
      exact Or.inr ⟨x, hx.resolve_left w, he⟩
  · rintro (he | ⟨x, hx, he⟩)
    · exact ⟨q, Or.inl rfl, by rw [sO_self, he]⟩
    · have w : x ≠ q := fun z => hq (by rw [← z]; exact hx)
      exact ⟨x, Or.inr hx, by rw [sO_ne w]; exact he⟩
theorem KB.add {q : Nat} {h' : gh_H} (B : KB N kb kf h') (hd : d < 2000000) (hb : BX h' b d) : KB (fun z => z = q ∨ N z) (sO kb q b) (sO kf q d) h' := by
  intro x hx
  by_cases w : x = q
  · rw [w, sO_self, sO_self]
    exact ⟨hd, hb⟩
  · rw [sO_ne w, sO_ne w]
    exact B x (hx.resolve_left w)
theorem nl_add {q : Nat} {NL : List Nat} (hq : ¬ N q) (L : NL.Nodup ∧ NL.length = sz ∧ ∀ x, x ∈ NL ↔ N x) : (q :: NL).Nodup ∧ (q :: NL).length = sz + 1 ∧ ∀ x, x ∈ q :: NL ↔ (x = q ∨ N x) := by
  refine ⟨List.nodup_cons.mpr ⟨fun w => hq ((L.2.2 q).mp w), L.1⟩, by rw [List.length_cons, L.2.1], fun x => ?_⟩
  rw [List.mem_cons, L.2.2 x]
theorem TL_0 : ¬ TL t 0 := by unfold TL; omega
theorem KO.addL {x q : Nat} (O : KO N ix kf) (hq : ¬ N q) (g : ∀ z, N z → (ix z < ix x → kf z < d) ∧ (ix x ≤ ix z → d < kf z)) : KO (fun z => z = q ∨ N z) (fun z => if z = q then ix x else if ix z < ix x then ix z else ix z + 1) (sO kf q d) := by
  intro y z hy hz
  unfold sO
  have hO := O y z
  have gy := g y
  have gz := g z
  grind
theorem KO.addR {x q : Nat} (O : KO N ix kf) (hq : ¬ N q) (g : ∀ z, N z → (ix z ≤ ix x → kf z < d) ∧ (ix x < ix z → d < kf z)) : KO (fun z => z = q ∨ N z) (fun z => if z = q then ix x + 1 else if ix z ≤ ix x then ix z else ix z + 1) (sO kf q d) := by
  intro y z hy hz
  unfold sO
  have hO := O y z
  have gy := g y
  have gz := g z
  grind
/-- addEntry's end -/
theorem tw_add32 {q : Nat} {N' : Nat → Prop} {kb' kf' ix' : Nat → Nat} {lf' rg' pa' : Nat → Option Nat} {co' : Nat → Int32} {lo' hi' : Nat → Nat} {NL : List Nat} {h0 : gh_H} {Q : gh_H → Prop} (ht17 : ¬ TL t 17) (W : TW t a N' kb' v nk rt lf' rg' pa' co' sz mc h) (T : TI N' (sz + 1) rt lf' rg' pa' ix' lo' hi') (hq : N' q) (O : KO N' ix' kf') (B : KB N' kb' kf' h) (L : NL.Nodup ∧ NL.length = sz + 1 ∧ ∀ x, x ∈ NL ↔ N' x) (o : Only (TL t) h0 h)
    (k : ∀ (h' : gh_H) (mc' : Int32), Only (TL t) h0 h' → TF t a v (sz + 1) mc' nk N' kf' ix' h' → Q h') : wb_J6_addEntry_32 κ Q X a (some q) h := by
  unfold wb_J6_addEntry_32
  refine W.rc (tw_fixI W T hq (fun h1 rt1 lf1 rg1 pa1 co1 lo1 hi1 T1 o1 W1 => W1.size ?_))
  rw [nI_1]
  refine W1.setSize (fun h2 o2 W2 => W2.mods (W2.setMods (fun h3 o3 W3 => ?_)))
  have oo := (o1.trans o2).trans o3
  exact k h3 _ (o.trans oo) ⟨_, _, _, _, _, _, _, _, NL, W3, T1, O, B.keep oo TL_0 ht17, L⟩
theorem tw_addL {x : Nat} {NL : List Nat} {Q : gh_H → Prop} (ht17 : ¬ TL t 17) (W : TW t a N kb v nk rt lf rg pa co sz mc h) (T : TI N sz rt lf rg pa ix lo hi) (O : KO N ix kf) (B : KB N kb kf h) (L : NL.Nodup ∧ NL.length = sz ∧ ∀ x, x ∈ NL ↔ N x) (hd : d < 2000000) (hb : BX h b d) (hx : N x) (hl : lf x = none) (g : ∀ z, N z → (ix z < ix x → kf z < d) ∧ (ix x ≤ ix z → d < kf z))
    (k : ∀ (h' : gh_H) (mc' : Int32) (N' : Nat → Prop) (kf' ix' : Nat → Nat), Only (TL t) h h' → TF t a v (sz + 1) mc' nk N' kf' ix' h' → KI1 N kf d N' kf' → Q h') : wp_J6_addEntry κ a (some b) (some v) (some x) (1 : Int32) Q X h := by
  unfold wp_J6_addEntry
  refine gs_NO (t + 3) (Nat.succ_ne_zero _) (fun q hq => tw_init (gu_self _ _ _) ?_)
  rw [gu_idem]
  have hq0 : ¬ N q := fun w => by rw [(W.2 q w).2] at hq; cases hq
  have hxq : x ≠ q := fun w => hq0 (by rw [← w]; exact hx)
  have W1 := W.new (b := b) (par := some x) hq
  have o1 : Only (TL t) h (gh_up h q (t + 3, .inr (12, [va_rf (some b), va_rf (some v), va_rf none, va_rf none, va_rf (some x), .int 1]))) := Only.new hq
  refine ⟨(fun z => absurd z (by decide)), fun _ => W1.sL (Or.inr hx) (fun h2 o2 W2 => ?_)⟩
  have oo := o1.trans o2
  exact tw_add32 ht17 W2 (T.insL hx hl hq0) (Or.inl rfl) (O.addL hq0 g) ((B.keep oo TL_0 ht17).add hd (hb.keep oo TL_0 ht17)) (nl_add hq0 L) oo (fun h' mc' o' P' => k h' mc' _ _ _ o' P' (KI1.add hq0))
theorem tw_addR {x : Nat} {NL : List Nat} {Q : gh_H → Prop} (ht17 : ¬ TL t 17) (W : TW t a N kb v nk rt lf rg pa co sz mc h) (T : TI N sz rt lf rg pa ix lo hi) (O : KO N ix kf) (B : KB N kb kf h) (L : NL.Nodup ∧ NL.length = sz ∧ ∀ x, x ∈ NL ↔ N x) (hd : d < 2000000) (hb : BX h b d) (hx : N x) (hl : rg x = none) (g : ∀ z, N z → (ix z ≤ ix x → kf z < d) ∧ (ix x < ix z → d < kf z))
    (k : ∀ (h' : gh_H) (mc' : Int32) (N' : Nat → Prop) (kf' ix' : Nat → Nat), Only (TL t) h h' → TF t a v (sz + 1) mc' nk N' kf' ix' h' → KI1 N kf d N' kf' → Q h') : wp_J6_addEntry κ a (some b) (some v) (some x) (0 : Int32) Q X h := by
  unfold wp_J6_addEntry
  refine gs_NO (t + 3) (Nat.succ_ne_zero _) (fun q hq => tw_init (gu_self _ _ _) ?_)
  rw [gu_idem]
  have hq0 : ¬ N q := fun w => by rw [(W.2 q w).2] at hq; cases hq
  have hxq : x ≠ q := fun w => hq0 (by rw [← w]; exact hx)
  have W1 := W.new (b := b) (par := some x) hq
  have o1 : Only (TL t) h (gh_up h q (t + 3, .inr (12, [va_rf (some b), va_rf (some v), va_rf none, va_rf none, va_rf (some x), .int 1]))) := Only.new hq
  refine ⟨fun _ => W1.sR (Or.inr hx) (fun h2 o2 W2 => ?_), fun z => absurd rfl z⟩
  have oo := o1.trans o2
  exact tw_add32 ht17 W2 (T.insR hx hl hq0) (Or.inl rfl) (O.addR hq0 g) ((B.keep oo TL_0 ht17).add hd (hb.keep oo TL_0 ht17)) (nl_add hq0 L) oo (fun h' mc' o' P' => k h' mc' _ _ _ o' P' (KI1.add hq0))
/-- put: the key is there, or it comes -/
theorem tf_put {Q : Option Nat → gh_H → Prop} (ht17 : ¬ TL t 17) (P : TF t a v sz mc nk N kf ix h) (hd : d < 2000000) (hb : BX h b d)
    (k1 : (∃ x, N x ∧ kf x = d) → ∀ h', Only (TL t) h h' → TF t a v sz mc nk N kf ix h' → Q (some v) h')
    (k0 : (¬ ∃ x, N x ∧ kf x = d) → ∀ (h' : gh_H) (mc' : Int32) (N' : Nat → Prop) (kf' ix' : Nat → Nat), Only (TL t) h h' → TF t a v (sz + 1) mc' nk N' kf' ix' h' → KI1 N kf d N' kf' → Q none h') : wp_J6_put κ a (some b) (some v) Q X h := by
  obtain ⟨rt, lf, rg, pa, co, lo, hi, kb, NL, W, T, O, B, L⟩ := P
  obtain ⟨lb, hlb, eb⟩ := id hb
  unfold wp_J6_put wp_J6_put_2
  refine W.rc (W.root ?_)
  cases hr : rt with
  | none =>
    have h8 := T.2.2.2.2.2.2.2.1 hr
    refine ⟨fun _ => W.rc ?_, fun z => absurd rfl z⟩
    unfold wp_J6_addEntryToEmptyMap wp_J6_compare
    have no : ¬ ∃ x, N x ∧ kf x = d := fun ⟨x, hx, _⟩ => h8.2 x hx
    refine W.rc (W.cmp ⟨fun _ => gs_CK eb (by decide) (gs_RC eb ?_), fun z => absurd rfl z⟩)
    have main : gh_NO h 12 [va_rf none, va_rf none, va_rf none, va_rf none, va_rf none, .int 0] (fun q4 h5 => (wp_J26_init κ q4 (some b) (some v) none (fun h6 => (gh_PV h6 (some a) [(11, 3)] (va_rf (some q4)) (fun h7 => (gh_PV h7 (some a) [(11, 4)] (.int (1 : Int32)) (fun h8 => (gh_GI h8 (some a) [(11, 5)] (fun x9 => (gh_PV h8 (some a) [(11, 5)] (.int (x9 + (1 : Int32))) (fun h10 => (Q none h10)))))))))) X h5)) := by
      refine gs_NO (t + 3) (Nat.succ_ne_zero _) (fun q hq => tw_init (gu_self _ _ _) ?_)
      rw [gu_idem]
      have hq0 : ¬ N q := h8.2 q
      have W1 := W.new (b := b) (par := none) hq
      have o1 : Only (TL t) h (gh_up h q (t + 3, .inr (12, [va_rf (some b), va_rf (some v), va_rf none, va_rf none, va_rf none, .int 1]))) := Only.new hq
      refine W1.setRoot (fun h2 o2 W2 => W2.setSize (r := 1) (fun h3 o3 W3 => W3.mods (W3.setMods (fun h4 o4 W4 => ?_))))
      have oo := ((o1.trans o2).trans o3).trans o4
      have hsz : sz = 0 := h8.1
      subst hsz
      refine k0 no h4 _ (fun z => z = q ∨ N z) (sO kf q d) (fun _ => 0) oo ⟨some q, _, _, _, _, fun _ => 0, fun _ => 1, _, q :: NL, W4, ?_, ?_, (B.keep oo TL_0 ht17).add hd (hb.keep oo TL_0 ht17), nl_add hq0 L⟩ (KI1.add hq0)
      · have hall : ∀ z, (z = q ∨ N z) → z = q := fun z hz => hz.resolve_right (h8.2 z)
        unfold sO
        refine ⟨?_, ?_, ?_, ?_, ?_, ?_, ?_, ?_, ?_, ?_⟩
        · exact fun z hz => ⟨Nat.le_refl 0, Nat.zero_lt_one, Nat.le_refl _⟩
        · exact fun z hz _ => rfl
        · exact fun z y hz hy => by rw [hall z hz] at hy; simp at hy
        · exact fun z hz _ => rfl
        · exact fun z y hz hy => by rw [hall z hz] at hy; simp at hy
        · exact fun z y hz hy => by rw [hall z hz] at hy; simp at hy
        · exact fun z hz _ => by rw [hall z hz]
        · exact fun z => by cases z
        · intro r hr
          cases hr
          exact ⟨Or.inl rfl, by simp, rfl, rfl⟩
        · exact fun z y hz hy _ => (hall z hz).trans (hall y hy).symm
      · exact fun z y hz hy hlt => absurd hlt (Nat.lt_irrefl 0)
    exact bx_cmp hb hb hd hd (fun _ => main) (fun w => absurd w (Nat.lt_irrefl _)) (fun w => absurd w (Nat.lt_irrefl _))
  | some r =>
    refine ⟨(fun z => nomatch z), fun _ => W.cmp ⟨fun _ => ?_, fun z => absurd rfl z⟩⟩
    unfold wp_J17_requireNonNull
    refine ⟨(fun z => nomatch z), fun _ => gs_CK eb (by decide) ?_⟩
    have key : ∀ (f x : Nat), SI N ix lo hi kf d x → hi x - lo x < f → wl_J6_put_2_123 κ Q X f a (some b) (some v) (1 : Int32) (some x) (some b) h := by
      intro f
      induction f with
      | zero => intro x S hf; exact absurd hf (Nat.not_lt_zero _)
      | succ f ih =>
        intro x S hf
        have hx := S.1
        show wb_J6_put_2_123 κ (wl_J6_put_2_123 κ Q X f) Q X a (some b) (some v) (1 : Int32) (some x) (some b) h
        unfold wb_J6_put_2_123
        refine W.gK hx (gs_RC eb (bx_cmp hb (B x hx).2 hd (B x hx).1 (fun e => ?_) (fun e => ?_) (fun e => ?_)))
        · refine ⟨fun _ => ⟨fun _ => W.gV hx ⟨fun z => absurd z (by decide), fun _ => ?_⟩, fun z => absurd (by decide) z⟩, fun z => absurd (by decide) z⟩
          unfold wb_J6_put_2_187 wb_J6_put_2_193
          exact W.sV hx (fun h1 o1 W1 => k1 ⟨x, hx, e.symm⟩ h1 o1 ⟨rt, lf, rg, pa, co, lo, hi, kb, NL, W1, T, O, B.keep o1 TL_0 ht17, L⟩)
        · refine ⟨fun _ => ⟨fun z => absurd z (by decide), fun _ => W.gR hx ?_⟩, fun z => absurd (by decide) z⟩
          unfold wb_J6_put_2_196 wb_J6_put_2_216
          cases hl : rg x with
          | none =>
            have g := S.nr T O e hl
            refine ⟨fun _ => ⟨fun _ => W.rc (tw_addR ht17 W T O B L hd hb hx hl g (k0 ?_)), fun z => absurd (by decide) z⟩, fun z => absurd rfl z⟩
            rintro ⟨y, hy, hk⟩
            have := g y hy
            omega
          | some y =>
            have S2 := S.right T O e hl
            exact ⟨(fun z => nomatch z), fun _ => ih y S2.1 (by omega)⟩
        · refine ⟨fun z => absurd z (by decide), fun _ => W.gL hx ?_⟩
          unfold wb_J6_put_2_196 wb_J6_put_2_216
          cases hl : lf x with
          | none =>
            have g := S.nl T O e hl
            refine ⟨fun _ => ⟨fun z => absurd z (by decide), fun _ => W.rc (tw_addL ht17 W T O B L hd hb hx hl g (k0 ?_))⟩, fun z => absurd rfl z⟩
            rintro ⟨y, hy, hk⟩
            have := g y hy
            omega
          | some y =>
            have S2 := S.left T O e hl
            exact ⟨(fun z => nomatch z), fun _ => ih y S2.1 (by omega)⟩
    exact ⟨_, key _ r (SI.root T hr) (Nat.lt_succ_self _)⟩
/-- getEntry -/
theorem tf_get {Q : Option Nat → gh_H → Prop} (W : TW t a N kb v nk rt lf rg pa co sz mc h) (T : TI N n rt lf rg pa ix lo hi) (O : KO N ix kf) (B : KB N kb kf h) (hd : d < 2000000) (hb : BX h b d)
    (k1 : ∀ x, N x → kf x = d → Q (some x) h) (k0 : (¬ ∃ x, N x ∧ kf x = d) → Q none h) : wp_J6_getEntry κ a (some b) Q X h := by
  obtain ⟨lb, hlb, eb⟩ := id hb
  unfold wp_J6_getEntry wp_J17_requireNonNull
  refine W.cmp ⟨fun _ => ⟨(fun z => nomatch z), fun _ => gs_CK eb (by decide) (W.root ?_)⟩, fun z => absurd rfl z⟩
  cases hr : rt with
  | none =>
    have h8 := T.2.2.2.2.2.2.2.1 hr
    refine ⟨1, ?_⟩
    show wb_J6_getEntry_28 κ _ Q X (some b) none h
    unfold wb_J6_getEntry_28
    exact ⟨fun _ => k0 (fun ⟨x, hx, _⟩ => h8.2 x hx), fun z => absurd rfl z⟩
  | some r =>
    have key : ∀ (f x : Nat), SI N ix lo hi kf d x → hi x - lo x < f → wl_J6_getEntry_28 κ Q X (f + 1) (some b) (some x) h := by
      intro f
      induction f with
      | zero => intro x S hf; exact absurd hf (Nat.not_lt_zero _)
      | succ f ih =>
        intro x S hf
        have hx := S.1
        show wb_J6_getEntry_28 κ (wl_J6_getEntry_28 κ Q X (f + 1)) Q X (some b) (some x) h
        unfold wb_J6_getEntry_28 wb_J6_getEntry_72
        refine ⟨(fun z => nomatch z), fun _ => W.gK hx (gs_RC eb (bx_cmp hb (B x hx).2 hd (B x hx).1 (fun e => ?_) (fun e => ?_) (fun e => ?_)))⟩
        · exact ⟨fun _ => ⟨fun _ => k1 x hx e.symm, fun z => absurd (by decide) z⟩, fun z => absurd (by decide) z⟩
        · refine ⟨fun _ => ⟨fun z => absurd z (by decide), fun _ => W.gR hx ?_⟩, fun z => absurd (by decide) z⟩
          cases hl : rg x with
          | none =>
            have g := S.nr T O e hl
            show wb_J6_getEntry_28 κ (wl_J6_getEntry_28 κ Q X f) Q X (some b) none h
            unfold wb_J6_getEntry_28
            refine ⟨fun _ => k0 ?_, fun z => absurd rfl z⟩
            rintro ⟨y, hy, hk⟩
            have := g y hy
            omega
          | some y =>
            have S2 := S.right T O e hl
            exact ih y S2.1 (by omega)
        · refine ⟨fun z => absurd z (by decide), fun _ => W.gL hx ?_⟩
          cases hl : lf x with
          | none =>
            have g := S.nl T O e hl
            show wb_J6_getEntry_28 κ (wl_J6_getEntry_28 κ Q X f) Q X (some b) none h
            unfold wb_J6_getEntry_28
            refine ⟨fun _ => k0 ?_, fun z => absurd rfl z⟩
            rintro ⟨y, hy, hk⟩
            have := g y hy
            omega
          | some y =>
            have S2 := S.left T O e hl
            exact ih y S2.1 (by omega)
    exact ⟨_, key _ r (SI.root T hr) (Nat.lt_succ_self _)⟩
/-- the entry at the next place -/
theorem tw_succ {x : Nat} {Q : Option Nat → gh_H → Prop} (W : TW t a N kb v nk rt lf rg pa co sz mc h) (T : TI N n rt lf rg pa ix lo hi) (hx : N x) (k1 : ∀ y, N y → ix y = ix x + 1 → (rg x ≠ none → lf y = none) → Q (some y) h) (k0 : n = ix x + 1 → Q none h) : wp_J6_successor κ (some x) Q X h := by
  unfold wp_J6_successor
  refine ⟨(fun z => nomatch z), fun _ => W.gR hx ?_⟩
  cases hr : rg x with
  | none =>
    have hh := T.2.2.2.1 x hx hr
    refine ⟨fun _ => W.gP hx ?_, fun z => absurd rfl z⟩
    have key : ∀ (f c : Nat), N c → hi c = ix x + 1 → n - (hi c - lo c) < f → wl_J6_successor_42 κ Q X f (pa c) (some c) h := by
      intro f
      induction f with
      | zero => intro c hc he hf; exact absurd hf (Nat.not_lt_zero _)
      | succ f ih =>
        intro c hc he hf
        show wb_J6_successor_42 κ (wl_J6_successor_42 κ Q X f) Q X (pa c) (some c) h
        unfold wb_J6_successor_42 wb_J6_successor_64
        cases hp : pa c with
        | none =>
          have := T.2.2.2.2.2.2.2.2.1 c (T.2.2.2.2.2.2.1 c hc hp)
          exact ⟨fun _ => k0 (by omega), fun z => absurd rfl z⟩
        | some p =>
          have hp0 := T.2.2.2.2.2.1 c p hc hp
          have h1 := T.1 p hp0.1
          have h2 := T.1 c hc
          refine ⟨(fun z => nomatch z), fun _ => W.gR hp0.1 ⟨fun e => W.gP hp0.1 ?_, fun e => k1 p hp0.1 ?_ (fun w => absurd hr w)⟩⟩
          · have := T.2.2.2.2.1 p c hp0.1 e.symm
            exact ih p hp0.1 (by omega) (by omega)
          · have := T.2.2.1 p c hp0.1 (hp0.2.resolve_right (fun w => e w.symm))
            omega
    exact ⟨_, key _ x hx hh (Nat.lt_succ_self _)⟩
  | some r =>
    have hr0 := T.2.2.2.2.1 x r hx hr
    refine ⟨(fun z => nomatch z), fun _ => W.gR hx ?_⟩
    rw [hr]
    have key : ∀ (f c : Nat), N c → lo c = ix x + 1 → hi c - lo c < f → wl_J6_successor_18 κ Q X f (some c) h := by
      intro f
      induction f with
      | zero => intro c hc he hf; exact absurd hf (Nat.not_lt_zero _)
      | succ f ih =>
        intro c hc he hf
        show wb_J6_successor_18 κ (wl_J6_successor_18 κ Q X f) Q X (some c) h
        unfold wb_J6_successor_18
        refine W.gL hc ?_
        cases hl : lf c with
        | none =>
          have := T.2.1 c hc hl
          exact ⟨fun _ => k1 c hc (by omega) (fun _ => hl), fun z => absurd rfl z⟩
        | some y =>
          have h1 := T.2.2.1 c y hc hl
          have h2 := T.1 c hc
          refine ⟨(fun z => nomatch z), fun _ => W.gL hc ?_⟩
          rw [hl]
          exact ih y h1.1 (by omega) (by omega)
    exact ⟨_, key _ r hr0.1 hr0.2.2.1 (Nat.lt_succ_self _)⟩
/-- the entry at the first place -/
theorem tw_first {Q : Option Nat → gh_H → Prop} (W : TW t a N kb v nk rt lf rg pa co sz mc h) (T : TI N n rt lf rg pa ix lo hi) (k1 : ∀ y, N y → ix y = 0 → Q (some y) h) (k0 : n = 0 → Q none h) : wp_J6_getFirstEntry κ a Q X h := by
  unfold wp_J6_getFirstEntry wb_J6_getFirstEntry_24
  refine W.root ?_
  cases hr : rt with
  | none => exact ⟨fun _ => k0 (T.2.2.2.2.2.2.2.1 hr).1, fun z => absurd rfl z⟩
  | some r =>
    have hr0 := T.2.2.2.2.2.2.2.2.1 r hr
    refine ⟨(fun z => nomatch z), fun _ => ?_⟩
    have key : ∀ (f c : Nat), N c → lo c = 0 → hi c - lo c < f → wl_J6_getFirstEntry_9 κ Q X f (some c) h := by
      intro f
      induction f with
      | zero => intro c hc he hf; exact absurd hf (Nat.not_lt_zero _)
      | succ f ih =>
        intro c hc he hf
        show wb_J6_getFirstEntry_9 κ (wl_J6_getFirstEntry_9 κ Q X f) Q X (some c) h
        unfold wb_J6_getFirstEntry_9 wb_J6_getFirstEntry_24
        refine W.gL hc ?_
        cases hl : lf c with
        | none =>
          have := T.2.1 c hc hl
          exact ⟨fun _ => k1 c hc (by omega), fun z => absurd rfl z⟩
        | some y =>
          have h1 := T.2.2.1 c y hc hl
          have h2 := T.1 c hc
          refine ⟨(fun z => nomatch z), fun _ => W.gL hc ?_⟩
          rw [hl]
          exact ih y h1.1 (by omega) (by omega)
    exact ⟨_, key _ r hr0.1 hr0.2.2.1 (Nat.lt_succ_self _)⟩
end
