/-! THE TREE, part G: the set -/
set_option maxRecDepth 100000
/-- the labels of a set's cells (its own object, its map, its view, its entries) -/
def TS (t : Nat) (l : Nat) : Prop := t ≤ l ∧ l ≤ t + 3
theorem TL.ts {t l : Nat} (h : TL t l) : TS t l := by unfold TL at h; unfold TS; omega
/-- a set at a: its numbers F, sz of them -/
def TR (κ : Nat → Nat) (t a : Nat) (F : Nat → Prop) (sz : Nat) (h : gh_H) : Prop :=
  ∃ (am : Nat) (mc : Int32) (nk : Option Nat) (N : Nat → Prop) (kf ix : Nat → Nat), h a = some (t, .inr (10, [va_rf (some am)])) ∧ TF t am (κ 3) sz mc nk N kf ix h ∧ (∀ q, nk = some q → h q = some (t + 2, .inr (14, [va_rf (some am)]))) ∧ KI κ h ∧ ∀ e, F e ↔ ∃ x, N x ∧ kf x = e
def okT (t : Nat) : Prop := t = 13 ∨ t = 60
section
variable {κ : Nat → Nat} {X : String → gh_H → Prop} {t a d b sz : Nat} {F : Nat → Prop} {h : gh_H}
theorem okT.n0 (ht : okT t) : ¬ TS t 0 := by unfold okT at ht; unfold TS; omega
theorem okT.n17 (ht : okT t) : ¬ TS t 17 := by unfold okT at ht; unfold TS; omega
theorem okT.l17 (ht : okT t) : ¬ TL t 17 := fun w => ht.n17 w.ts
theorem TR.keep {h' : gh_H} {S : Nat → Prop} (P : TR κ t a F sz h) (o : Only S h h') (n0 : ¬ S 0) (n : ∀ l, t ≤ l → l ≤ t + 3 → ¬ S l) (n17 : ¬ S 17) : TR κ t a F sz h' := by
  obtain ⟨am, mc, nk, N, kf, ix, h1, h2, h3, h4, h5⟩ := P
  exact ⟨am, mc, nk, N, kf, ix, o _ _ _ h1 (n _ (by omega) (by omega)), h2.keep o n0 (n _ (by omega) (by omega)) (n _ (by omega) (by omega)) n17, fun q hq => o _ _ _ (h3 q hq) (n _ (by omega) (by omega)), h4.keep o n0, h5⟩
theorem tr_size {Q : Int32 → gh_H → Prop} (P : TR κ t a F sz h) (k : Q (nI sz) h) : wp_J4_size κ a Q X h := by
  obtain ⟨am, mc, nk, N, kf, ix, h1, ⟨rt, lf, rg, pa, co, lo, hi, kb, NL, W, -⟩, -⟩ := P
  unfold wp_J4_size wp_J6_size
  exact gs_GR h1 rfl (W.rc (W.size k))
/-- a set's number is that of its numbers -/
theorem TR.count {L : List Nat} (P : TR κ t a F sz h) (hL : L.Nodup) (hm : ∀ e, e ∈ L ↔ F e) : L.length = sz := by
  obtain ⟨am, mc, nk, N, kf, ix, h1, ⟨rt, lf, rg, pa, co, lo, hi, kb, NL, W, T, O, B, N1, N2, N3⟩, h3, h4, h5⟩ := P
  have inj : ∀ x y, N x → N y → kf x = kf y → x = y := by
    intro x y hx hy e
    refine T.2.2.2.2.2.2.2.2.2 x y hx hy ?_
    rcases Nat.lt_trichotomy (ix x) (ix y) with w | w | w
    · have := O x y hx hy w
      omega
    · exact w
    · have := O y x hy hx w
      omega
  have nd : (NL.map kf).Nodup := by
    refine List.Pairwise.map kf (R := fun x y => x ≠ y ∧ N x ∧ N y) (S := fun x y => x ≠ y) (fun x y h e => h.1 (inj x y h.2.1 h.2.2 e)) ?_
    have h6 : NL.Pairwise (fun x y => x ≠ y) := N1
    exact h6.imp_of_mem (fun {x y} hx hy hne => ⟨hne, (N3 x).mp hx, (N3 y).mp hy⟩)
  have pm : L.Perm (NL.map kf) := (List.perm_ext_iff_of_nodup hL nd).mpr (fun e => by
    rw [hm e, h5 e, List.mem_map]
    constructor
    · rintro ⟨x, hx, he⟩
      exact ⟨x, (N3 x).mpr hx, he⟩
    · rintro ⟨x, hx, he⟩
      exact ⟨x, (N3 x).mp hx, he⟩)
  rw [pm.length_eq, List.length_map, N2]
theorem tr_add {Q : Int32 → gh_H → Prop} (ht : okT t) (P : TR κ t a F sz h) (hd : d < 2000000) (hb : BX h b d) (k1 : F d → ∀ h', Only (TS t) h h' → TR κ t a F sz h' → Q 0 h') (k0 : ¬ F d → ∀ h', Only (TS t) h h' → TR κ t a (fun e => e = d ∨ F e) (sz + 1) h' → Q 1 h') : wp_J4_add κ a (some b) Q X h := by
  obtain ⟨am, mc, nk, N, kf, ix, h1, P2, h3, h4, h5⟩ := P
  obtain ⟨rt, lf, rg, pa, co, lo, hi, kb, NL, W, -⟩ := id P2
  have nt : ¬ TL t t := by unfold TL; omega
  have nt2 : ¬ TL t (t + 2) := by unfold TL; omega
  have n0 : ¬ TL t 0 := TL_0
  unfold wp_J4_add wb_J4_add_21
  refine gs_GR h1 rfl (W.rc (tf_put ht.l17 P2 hd hb (fun e h' o P' => ⟨(fun z => nomatch z), fun _ => ⟨nb0, ?_⟩⟩) (fun e h' mc' N' kf' ix' o P' kk => ⟨fun _ => ⟨nb1, ?_⟩, fun z => absurd rfl z⟩)))
  · exact k1 ((h5 d).mpr e) h' (o.mono (fun l hl => hl.ts)) ⟨am, mc, nk, N, kf, ix, o _ _ _ h1 nt, P', fun q hq => o _ _ _ (h3 q hq) nt2, h4.keep o n0, h5⟩
  · refine k0 (fun w => e ((h5 d).mp w)) h' (o.mono (fun l hl => hl.ts)) ⟨am, mc', nk, N', kf', ix', o _ _ _ h1 nt, P', fun q hq => o _ _ _ (h3 q hq) nt2, h4.keep o n0, fun q => ?_⟩
    rw [kk q, ← h5 q]
theorem tr_contains {Q : Int32 → gh_H → Prop} (P : TR κ t a F sz h) (hd : d < 2000000) (hb : BX h b d) (k1 : F d → Q 1 h) (k0 : ¬ F d → Q 0 h) : wp_J4_contains κ a (some b) Q X h := by
  obtain ⟨am, mc, nk, N, kf, ix, h1, ⟨rt, lf, rg, pa, co, lo, hi, kb, NL, W, T, O, B, L⟩, h3, h4, h5⟩ := P
  unfold wp_J4_contains wp_J6_containsKey wb_J6_containsKey_13
  refine gs_GR h1 rfl (W.rc (W.rc (tf_get W T O B hd hb (fun x hx e => ⟨(fun z => nomatch z), fun _ => ⟨nb1, nb1, k1 ((h5 d).mpr ⟨x, hx, e⟩)⟩⟩) (fun e => ⟨fun _ => ⟨nb0, nb0, k0 (fun w => e ((h5 d).mp w))⟩, fun z => absurd rfl z⟩))))
theorem tr_remove {Q : Int32 → gh_H → Prop} (ht : okT t) (P : TR κ t a F sz h) (hd : d < 2000000) (hb : BX h b d) (k : ∀ (h' : gh_H) (sz' : Nat) (r : Int32), (r = 0 ∨ r = 1) → sz' ≤ sz → Only (TS t) h h' → TR κ t a (fun e => F e ∧ e ≠ d) sz' h' → Q r h') : wp_J4_remove κ a (some b) Q X h := by
  obtain ⟨am, mc, nk, N, kf, ix, h1, P2, h3, h4, h5⟩ := P
  obtain ⟨rt, lf, rg, pa, co, lo, hi, kb, NL, W, T, O, B, L⟩ := id P2
  have nt : ¬ TL t t := by unfold TL; omega
  have nt2 : ¬ TL t (t + 2) := by unfold TL; omega
  have n0 : ¬ TL t 0 := TL_0
  unfold wp_J4_remove wb_J4_remove_21 wp_J6_remove
  refine gs_GR h1 rfl (W.rc (W.rc (tf_get W T O B hd hb (fun x hx e => ⟨(fun z => nomatch z), fun _ => W.gV hx (W.rc (tw_delete ht.l17 W T O B L hx (fun h' mc' N' kf' ix' o' P' kd => ?_)))⟩) (fun e => ⟨fun _ => ?_, fun z => absurd rfl z⟩))))
  · have fin : TR κ t a (fun e => F e ∧ e ≠ d) (sz - 1) h' := ⟨am, mc', nk, N', kf', ix', o' _ _ _ h1 nt, P', fun q hq => o' _ _ _ (h3 q hq) nt2, h4.keep o' n0, fun q => by rw [kd.1 q, ← h5 q, e]⟩
    exact ⟨fun _ => ⟨nb1, k h' (sz - 1) 1 (Or.inr rfl) (Nat.sub_le _ _) (o'.mono (fun l hl => hl.ts)) fin⟩, fun w => absurd rfl w⟩
  · refine ⟨(fun w => nomatch w), fun _ => ⟨nb0, k h sz 0 (Or.inl rfl) (Nat.le_refl _) Only.refl ⟨am, mc, nk, N, kf, ix, h1, P2, h3, h4, fun q => ?_⟩⟩⟩
    rw [← h5 q]
    exact ⟨fun w => w.1, fun w => ⟨w, fun z => e ((h5 d).mp (by rw [← z]; exact w))⟩⟩
/-! iterators -/
def IK (it am : Nat) (nx lr : Option Nat) (mc : Int32) (h : gh_H) : Prop := h it = some (64, .inr (13, [va_rf nx, va_rf lr, .int mc, va_rf (some am)]))
/-- the iterator stands ahead of the place c -/
def IS1 (N : Nat → Prop) (ix : Nat → Nat) (sz : Nat) (nx : Option Nat) (c : Nat) : Prop := (nx = none ∧ c = sz) ∨ ∃ y, nx = some y ∧ N y ∧ ix y = c ∧ c < sz
/-- a set that is gone through: its map am, what is known of its view -/
def TG (κ : Nat → Nat) (t a am : Nat) (F : Nat → Prop) (sz : Nat) (mc : Int32) (N : Nat → Prop) (kf ix : Nat → Nat) (h : gh_H) : Prop :=
  ∃ (nk : Option Nat), h a = some (t, .inr (10, [va_rf (some am)])) ∧ TF t am (κ 3) sz mc nk N kf ix h ∧ (∀ q, nk = some q → h q = some (t + 2, .inr (14, [va_rf (some am)]))) ∧ KI κ h ∧ ∀ e, F e ↔ ∃ x, N x ∧ kf x = e
theorem TG.tr {am : Nat} {mc : Int32} {N : Nat → Prop} {kf ix : Nat → Nat} (P : TG κ t a am F sz mc N kf ix h) : TR κ t a F sz h := by
  obtain ⟨nk, P⟩ := P
  exact ⟨am, mc, nk, N, kf, ix, P⟩
theorem TG.keep {am : Nat} {mc : Int32} {N : Nat → Prop} {kf ix : Nat → Nat} {h' : gh_H} {S : Nat → Prop} (P : TG κ t a am F sz mc N kf ix h) (o : Only S h h') (n0 : ¬ S 0) (n : ∀ l, t ≤ l → l ≤ t + 3 → ¬ S l) (n17 : ¬ S 17) : TG κ t a am F sz mc N kf ix h' := by
  obtain ⟨nk, h1, h2, h3, h4, h5⟩ := P
  exact ⟨nk, o _ _ _ h1 (n _ (by omega) (by omega)), h2.keep o n0 (n _ (by omega) (by omega)) (n _ (by omega) (by omega)) n17, fun q hq => o _ _ _ (h3 q hq) (n _ (by omega) (by omega)), h4.keep o n0, h5⟩
theorem tr_iterator {Q : Option Nat → gh_H → Prop} (ht : okT t) (P : TR κ t a F sz h) (k : ∀ (it am : Nat) (mc : Int32) (N : Nat → Prop) (kf ix : Nat → Nat) (nx : Option Nat) (h' : gh_H), Only (TS t) h h' → TG κ t a am F sz mc N kf ix h' → IK it am nx none mc h' → IS1 N ix sz nx 0 → Q (some it) h') : wp_J4_iterator κ a Q X h := by
  obtain ⟨am, mc, nk, N, kf, ix, h1, P2, h3, h4, h5⟩ := P
  obtain ⟨rt, lf, rg, pa, co, lo, hi, kb, NL, W, T, O, B, L⟩ := id P2
  have nt : ¬ TL t t := by unfold TL; omega
  have nt2 : ¬ TL t (t + 2) := by unfold TL; omega
  have n0 : ¬ TL t 0 := TL_0
  have t0 : t ≠ 0 := by unfold okT at ht; omega
  unfold wp_J4_iterator wp_J6_navigableKeySet wb_J6_navigableKeySet_26
  refine gs_GR h1 rfl (W.rc (W.ks ?_))
  have main : ∀ (q : Nat) (h2 : gh_H), Only (TS t) h h2 → TW t am N kb (κ 3) (some q) rt lf rg pa co sz mc h2 → h2 q = some (t + 2, .inr (14, [va_rf (some am)])) → h2 a = some (t, .inr (10, [va_rf (some am)])) → KI κ h2 → KB N kb kf h2 → gh_RC h2 (some q) 14 (fun a5 => (wp_J29_iterator κ a5 (fun r6 h7 => (Q r6 h7)) X h2)) := by
    intro q h2 o2 W2 eq ea C2 B2
    unfold wp_J29_iterator wp_J6_keyIterator wp_J28_init wp_J27_init
    refine gs_RC eq (gs_GR eq rfl (Or.inr ⟨am, t + 1, 11, _, rfl, W2.1, Or.inl ⟨List.mem_singleton.mpr rfl, ?_⟩⟩))
    refine ⟨fun z => absurd z (by decide), fun _ => gs_GR eq rfl (gs_CK W2.1 (by decide) (W2.rc (gs_NO 64 (by decide) (fun it hit => ?_))))⟩
    have W3 := W2.keep (S := fun _ => False) (Only.new (x := (64, .inr (13, [va_rf none, va_rf none, .int 0, va_rf none]))) hit) (fun w => w) (fun w => w)
    have fin : ∀ nx, IS1 N ix sz nx 0 → (gh_PV (gh_up h2 it (64, .inr (13, [va_rf none, va_rf none, .int 0, va_rf none]))) (some it) [(13, 3)] (va_rf (some am)) (fun h1 => (gh_GI h1 (some am) [(11, 5)] (fun x2 => (gh_PV h1 (some it) [(13, 2)] (.int x2) (fun h3 => (gh_PV h3 (some it) [(13, 1)] (va_rf none) (fun h4 => (gh_PV h4 (some it) [(13, 0)] (va_rf nx) (fun h5 => Q (some it) h5)))))))))) := by
      intro nx hs
      refine gs_PV (gu_self _ _ _) (by decide) (Nat.le_of_ble_eq_true rfl) ?_
      rw [gu_idem]
      refine gs_GI (gu_new hit W2.1) rfl (gs_PV (gu_self _ _ _) (by decide) (Nat.le_of_ble_eq_true rfl) (gs_PV (gu_self _ _ _) (by decide) (Nat.le_of_ble_eq_true rfl) (gs_PV (gu_self _ _ _) (by decide) (Nat.le_of_ble_eq_true rfl) ?_)))
      rw [gu_idem, gu_idem, gu_idem]
      have o4 : Only (fun _ => False) h2 (gh_up h2 it (64, .inr (13, [va_rf nx, va_rf none, .int mc, va_rf (some am)]))) := Only.new hit
      refine k it am mc N kf ix nx _ (o2.trans (o4.mono (fun l w => w.elim))) ⟨some q, o4 _ _ _ ea (fun w => w), ⟨rt, lf, rg, pa, co, lo, hi, kb, NL, W2.keep o4 (fun w => w) (fun w => w), T, O, B2.keep o4 (fun w => w) (fun w => w), L⟩, fun q' hq' => ?_, C2.keep o4 (fun w => w), h5⟩ (gu_self _ _ _) hs
      cases hq'
      exact o4 _ _ _ eq (fun w => w)
    exact W3.rc (tw_first W3 T (fun y hy e => fin (some y) (Or.inr ⟨y, rfl, hy, e, by have := T.1 y hy; omega⟩)) (fun e => fin none (Or.inl ⟨rfl, e.symm⟩)))
  cases hk : nk with
  | none =>
    refine ⟨fun _ => gs_NO (t + 2) (Nat.succ_ne_zero _) (fun q hq => ?_), fun z => absurd rfl z⟩
    unfold wp_J29_init wp_J3_init wp_J0_init
    refine gs_PV (gu_self _ _ _) (Nat.succ_ne_zero _) (Nat.le_of_ble_eq_true rfl) ?_
    rw [gu_idem]
    have o1 : Only (fun _ => False) h (gh_up h q (t + 2, .inr (14, [va_rf (some am)]))) := Only.new hq
    have W1 := W.keep o1 (fun w => w) (fun w => w)
    refine W1.setKs (r := some q) (fun h2 o2 W2 => ?_)
    have oo : Only (TL t) h h2 := (o1.mono (fun l w => w.elim)).trans o2
    exact main q h2 (oo.mono (fun l hl => hl.ts)) W2 (o2 _ _ _ (gu_self _ _ _) nt2) (oo _ _ _ h1 nt) (h4.keep oo n0) (B.keep oo n0 ht.l17)
  | some q =>
    refine ⟨(fun z => nomatch z), fun _ => ?_⟩
    exact main q h Only.refl (by rw [← hk]; exact W) (h3 q hk) h1 h4 B
theorem ik_hasNext {it am : Nat} {nx lr : Option Nat} {mc : Int32} {Q : Int32 → gh_H → Prop} (I : IK it am nx lr mc h) (k0 : nx = none → Q 0 h) (k1 : nx ≠ none → Q 1 h) : wp_J27_hasNext κ it Q X h := by
  unfold wp_J27_hasNext wb_J27_hasNext_12
  exact gs_GR I rfl ⟨fun z => ⟨nb0, k0 z⟩, fun z => ⟨nb1, k1 z⟩⟩
theorem ik_next {it am y : Nat} {lr : Option Nat} {mc : Int32} {N : Nat → Prop} {kf ix : Nat → Nat} {Q : Option Nat → gh_H → Prop} (ht : okT t) (P : TG κ t a am F sz mc N kf ix h) (I : IK it am (some y) lr mc h) (hy : N y) (k : ∀ (kb : Nat) (nx : Option Nat) (h' : gh_H), Only (fun l => l = 64) h h' → BX h' kb (kf y) → kf y < 2000000 → IK it am nx (some y) mc h' → IS1 N ix sz nx (ix y + 1) → Q (some kb) h') : wp_J28_next κ it Q X h := by
  obtain ⟨nk, h1, ⟨rt, lf, rg, pa, co, lo, hi, kb, NL, W, T, O, B, L⟩, h3, h4, h5⟩ := P
  have n64 : t + 1 ≠ 64 ∧ t + 3 ≠ 64 := by unfold okT at ht; omega
  unfold wp_J28_next wp_J27_nextEntry
  refine gs_RC I (gs_GR I rfl ⟨(fun z => nomatch z), fun _ => gs_GR I rfl (W.mods (gs_GI I rfl ⟨fun _ => ?_, fun z => absurd rfl z⟩))⟩)
  have fin : ∀ nx, IS1 N ix sz nx (ix y + 1) → gh_PV h (some it) [(13, 0)] (va_rf nx) (fun h7 => gh_PV h7 (some it) [(13, 1)] (va_rf (some y)) (fun h8 => gh_GR h8 (some y) [(12, 0)] (fun x4 => Q x4 h8))) := by
    intro nx hs
    refine gs_PV I (by decide) (Nat.le_of_ble_eq_true rfl) (gs_PV (gu_self _ _ _) (by decide) (Nat.le_of_ble_eq_true rfl) ?_)
    rw [gu_idem]
    have o : Only (fun l => l = 64) h (gh_up h it (64, .inr (13, [va_rf nx, va_rf (some y), .int mc, va_rf (some am)]))) := Only.up I rfl
    have W2 := W.keep o n64.1 n64.2
    exact W2.gK hy (k (kb y) nx _ o ((B y hy).2.keep o (by decide) (by decide)) (B y hy).1 (gu_self _ _ _) hs)
  exact tw_succ W T hy (fun s hs es _ => fin (some s) (Or.inr ⟨s, rfl, hs, es, by have := T.1 s hs; omega⟩)) (fun e => fin none (Or.inl ⟨rfl, e.symm⟩))
/-- the iterator takes out what it has given last -/
theorem ik_remove {it am y : Nat} {nx : Option Nat} {mc : Int32} {N : Nat → Prop} {kf ix : Nat → Nat} {Q : gh_H → Prop} (ht : okT t) (P : TG κ t a am F sz mc N kf ix h) (I : IK it am nx (some y) mc h) (hy : N y) (hs : IS1 N ix sz nx (ix y + 1)) (k : ∀ (h' : gh_H) (mc' : Int32) (N' : Nat → Prop) (kf' ix' : Nat → Nat) (nx' : Option Nat), Only (fun l => TS t l ∨ l = 64) h h' → TG κ t a am (fun e => F e ∧ e ≠ kf y) (sz - 1) mc' N' kf' ix' h' → IK it am nx' none mc' h' → IS1 N' ix' (sz - 1) nx' (ix y) → (∀ w, N' w → ix' w < ix y → N w ∧ ix w = ix' w ∧ kf' w = kf w) → Q h') : wp_J27_remove κ it Q X h := by
  obtain ⟨nk, h1, ⟨rt, lf, rg, pa, co, lo, hi, kb, NL, W, T, O, B, L⟩, h3, h4, h5⟩ := P
  have n64 : ¬ TL t 64 := by unfold okT at ht; unfold TL; omega
  have m64 : t + 1 ≠ 64 ∧ t + 3 ≠ 64 ∧ t + 2 ≠ 64 ∧ t ≠ 64 := by unfold okT at ht; omega
  have nt : ¬ TL t t := by unfold TL; omega
  have nt2 : ¬ TL t (t + 2) := by unfold TL; omega
  have n0 : ¬ TL t 0 := TL_0
  unfold wp_J27_remove
  refine gs_GR I rfl ⟨(fun z => nomatch z), fun _ => gs_GR I rfl (W.mods (gs_GI I rfl ⟨fun _ => gs_GR I rfl (W.gL hy ?_), fun z => absurd rfl z⟩))⟩
  have fin : ∀ (h2 : gh_H) (nx2 : Option Nat), Only (fun l => l = 64) h h2 → IK it am nx2 (some y) mc h2 → (∀ (N' : Nat → Prop) (kf' ix' : Nat → Nat), (∀ x, N' x → ix' x < sz - 1) → KD1 N kf ix lf rg y N' kf' ix' → IS1 N' ix' (sz - 1) nx2 (ix y)) → wb_J27_remove_65 κ Q X it h2 := by
    intro h2 nx2 o2 I2 hs2
    unfold wb_J27_remove_65
    have W2 := W.keep o2 m64.1 m64.2.1
    have B2 := B.keep o2 (by decide) (by decide)
    refine gs_GR I2 rfl (gs_GR I2 rfl (W2.rc (tw_delete ht.l17 W2 T O B2 L hy (fun h3' mc' N' kf' ix' o3 P3 kd => ?_))))
    have I3 : IK it am nx2 (some y) mc h3' := o3 _ _ _ I2 n64
    obtain ⟨rt3, lf3, rg3, pa3, co3, lo3, hi3, kb3, NL3, W3, T3, -⟩ := id P3
    refine gs_GR I3 rfl (W3.mods (gs_PV I3 (by decide) (Nat.le_of_ble_eq_true rfl) (gs_PV (gu_self _ _ _) (by decide) (Nat.le_of_ble_eq_true rfl) ?_)))
    rw [gu_idem]
    have o4 : Only (fun l => l = 64) h3' (gh_up h3' it (64, .inr (13, [va_rf nx2, va_rf none, .int mc', va_rf (some am)]))) := Only.up I3 rfl
    have oo : Only (fun l => TS t l ∨ l = 64) h (gh_up h3' it (64, .inr (13, [va_rf nx2, va_rf none, .int mc', va_rf (some am)]))) := ((o2.mono (fun l hl => Or.inr hl)).trans (o3.mono (fun l hl => Or.inl hl.ts))).trans (o4.mono (fun l hl => Or.inr hl))
    refine k _ mc' N' kf' ix' nx2 oo ⟨nk, ?_, P3.keep o4 (by decide) m64.1 m64.2.1 (by decide), fun q hq => ?_, ?_, fun e => ?_⟩ (gu_self _ _ _) (hs2 N' kf' ix' (fun x hx => by have := T3.1 x hx; omega) kd) kd.2.1
    · exact o4 _ _ _ (o3 _ _ _ (o2 _ _ _ h1 m64.2.2.2) nt) m64.2.2.2
    · exact o4 _ _ _ (o3 _ _ _ (o2 _ _ _ (h3 q hq) m64.2.2.1) nt2) m64.2.2.1
    · exact ((h4.keep o2 (by decide)).keep o3 n0).keep o4 (by decide)
    · rw [kd.1 e, ← h5 e]
  have lt : ∀ x, N x → ix x < sz := fun x hx => by have := T.1 x hx; omega
  have one : (lf y = none ∨ rg y = none) → wb_J27_remove_65 κ Q X it h := by
    intro hnb
    refine fin h nx Only.refl I (fun N' kf' ix' hlt kd => ?_)
    rcases hs with ⟨e1, e2⟩ | ⟨s, e1, e2, e3, e4⟩
    · exact Or.inl ⟨e1, by omega⟩
    · have := kd.2.2.2 hnb s e2 e3
      exact Or.inr ⟨s, e1, this.1, this.2, by omega⟩
  cases hl : lf y with
  | none => exact ⟨fun _ => one (Or.inl hl), fun z => absurd rfl z⟩
  | some l =>
    refine ⟨(fun z => nomatch z), fun _ => gs_GR I rfl (W.gR hy ?_)⟩
    cases hr : rg y with
    | none => exact ⟨fun _ => one (Or.inr hr), fun z => absurd rfl z⟩
    | some r =>
      refine ⟨(fun z => nomatch z), fun _ => gs_GR I rfl (gs_PV I (by decide) (Nat.le_of_ble_eq_true rfl) ?_)⟩
      refine fin _ (some y) (Only.up I rfl) (gu_self _ _ _) (fun N' kf' ix' hlt kd => ?_)
      have := kd.2.2.1 (by rw [hl]; exact fun w => nomatch w) (by rw [hr]; exact fun w => nomatch w)
      refine Or.inr ⟨y, rfl, this.1, this.2, ?_⟩
      have := hlt y this.1
      omega
end
