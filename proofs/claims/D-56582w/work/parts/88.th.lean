/-! THE TREE, part H: what is in another set is taken out -/
set_option maxRecDepth 100000
/-- the labels that removeAll touches -/
def RAl (l : Nat) : Prop := (13 ≤ l ∧ l ≤ 16) ∨ (60 ≤ l ∧ l ≤ 64)
theorem TS.ra {t l : Nat} (ht : okT t) (h : TS t l) : RAl l := by unfold okT at ht; unfold TS at h; unfold RAl; omega
section
variable {κ : Nat → Nat} {X : String → gh_H → Prop} {t a b p sb sp : Nat} {F G : Nat → Prop} {h : gh_H}
theorem TR.ext {F' : Nat → Prop} {sz : Nat} (P : TR κ t a F sz h) (e : ∀ d, F d ↔ F' d) : TR κ t a F' sz h := by
  obtain ⟨am, mc, nk, N, kf, ix, h1, h2, h3, h4, h5⟩ := P
  exact ⟨am, mc, nk, N, kf, ix, h1, h2, h3, h4, fun d => by rw [← e d, h5 d]⟩
theorem TR.cell {sz : Nat} (P : TR κ t a F sz h) : ∃ fs, h a = some (t, .inr (10, fs)) := by
  obtain ⟨am, mc, nk, N, kf, ix, h1, -⟩ := P
  exact ⟨_, h1⟩
theorem or01 {x y : Int32} (hx : x = 0 ∨ x = 1) (hy : y = 0 ∨ y = 1) : x ||| y = 0 ∨ x ||| y = 1 := by
  rcases hx with rfl | rfl <;> rcases hy with rfl | rfl <;> decide
theorem tr_removeAll {Q : Int32 → gh_H → Prop} (Pn : TR κ 60 b F sb h) (Pp : TR κ 13 p G sp h) (hsb : sb ≤ 150) (hsp : sp ≤ 190) (k : ∀ (h' : gh_H) (sz' : Nat) (r : Int32), Only RAl h h' → TR κ 60 b (fun e => F e ∧ ¬ G e) sz' h' → TR κ 13 p G sp h' → Q r h') : wp_J3_removeAll κ b (some p) Q X h := by
  have o60 : okT 60 := Or.inr rfl
  have o13 : okT 13 := Or.inl rfl
  have a64 : ∀ t, okT t → ∀ l, t ≤ l → l ≤ t + 3 → ¬ l = 64 := fun t ht l h1 h2 => by unfold okT at ht; omega
  obtain ⟨fb, eb⟩ := Pn.cell
  obtain ⟨fp, ep⟩ := Pp.cell
  unfold wp_J3_removeAll wp_J17_requireNonNull
  refine ⟨(fun z => nomatch z), fun _ => gs_RC eb (tr_size Pn (gs_RC ep (tr_size Pp ⟨fun _ => gs_RC eb ?_, fun _ => gs_RC ep ?_⟩)))⟩
  · refine tr_iterator o60 Pn (fun it am mc N kf ix nx h1 o1 P1 I1 S1 => ?_)
    have Pp1 : TR κ 13 p G sp h1 := Pp.keep o1 o60.n0 (fun l h1 h2 => by unfold TS; omega) o60.n17
    have key : ∀ (f i64 c sz : Nat) (mc : Int32) (N : Nat → Prop) (kf ix : Nat → Nat) (nx lr : Option Nat) (F' : Nat → Prop) (v2 : Int32) (h2 : gh_H), sz - c < f → i64 + (sz - c) ≤ 150 → (v2 = 0 ∨ v2 = 1) → Only RAl h h2 → TG κ 60 b am F' sz mc N kf ix h2 → IK it am nx lr mc h2 → IS1 N ix sz nx c → TR κ 13 p G sp h2 → (∀ e, F' e → F e) → (∀ e, F e → ¬ G e → F' e) → (∀ w, N w → ix w < c → ¬ G (kf w)) → wl_J3_removeAll_64 κ Q X f i64 (some p) v2 (some it) h2 := by
      intro f
      induction f with
      | zero => intro i64 c sz mc N kf ix nx lr F' v2 h2 hf; exact absurd hf (Nat.not_lt_zero _)
      | succ f ih =>
        intro i64 c sz mc N kf ix nx lr F' v2 h2 hf hi hv o2 P2 I2 S2 Pp2 f1 f2 f3
        refine ⟨by omega, ?_⟩
        show wb_J3_removeAll_64 κ (wl_J3_removeAll_64 κ Q X f) i64 Q X (some p) v2 (some it) h2
        unfold wb_J3_removeAll_64 wb_J3_removeAll_99
        refine gs_RC I2 (ik_hasNext I2 (fun e => ⟨fun _ => ⟨nar01 hv, ?_⟩, fun z => absurd rfl z⟩) (fun e => ⟨fun z => absurd z (by decide), fun _ => gs_RC I2 ?_⟩))
        · have ec : c = sz := by
            rcases S2 with w | ⟨y, w, -⟩
            · exact w.2
            · rw [e] at w; cases w
          obtain ⟨nk2, g1, ⟨rt, lf, rg, pa, co, lo, hi, kb, NL, W, T, -⟩, g3, g4, g5⟩ := id P2
          refine k h2 sz v2 o2 (P2.tr.ext (fun d => ⟨fun w => ⟨f1 d w, ?_⟩, fun w => f2 d w.1 w.2⟩)) Pp2
          obtain ⟨x, hx, ex⟩ := (g5 d).mp w
          have := f3 x hx (by have := T.1 x hx; omega)
          rw [ex] at this
          exact this
        · rcases S2 with w | ⟨y, ey, hy, ec, hlt⟩
          · exact absurd w.1 e
          · subst ey
            subst ec
            refine ik_next o60 P2 I2 hy (fun kb nx' h3 o3 B3 hk I3 S3 => ?_)
            have Pp3 := Pp2.keep o3 (by decide) (a64 13 o13) (by decide)
            have P3 := P2.keep o3 (by decide) (a64 60 o60) (by decide)
            obtain ⟨fp3, ep3⟩ := Pp3.cell
            have o23 : Only RAl h h3 := o2.trans (o3.mono (fun l hl => by unfold RAl; omega))
            refine gs_RC ep3 (tr_contains Pp3 hk B3 (fun g => ⟨fun z => absurd z (by decide), fun _ => gs_RC I3 ?_⟩) (fun g => ⟨fun _ => ?_, fun z => absurd rfl z⟩))
            · refine ik_remove o60 P3 I3 hy S3 (fun h4 mc4 N4 kf4 ix4 nx4 o4 P4 I4 S4 f4 => ?_)
              refine ih (i64 + 1) (ix y) (sz - 1) mc4 N4 kf4 ix4 nx4 none _ 1 h4 (by omega) (by omega) (Or.inr rfl) (o23.trans (o4.mono (fun l hl => hl.elim (fun w => w.ra o60) (fun w => by unfold RAl; omega)))) P4 I4 S4 (Pp3.keep o4 (fun w => w.elim o60.n0 (by decide)) (fun l h1 h2 => by unfold TS; omega) (fun w => w.elim o60.n17 (by decide))) (fun e w => f1 e w.1) (fun e w1 w2 => ⟨f2 e w1 w2, fun z => w2 (by rw [z]; exact g)⟩) (fun w hw hlt => ?_)
              obtain ⟨q1, q2, q3⟩ := f4 w hw hlt
              rw [q3]
              exact f3 w q1 (by omega)
            · refine ih (i64 + 1) (ix y + 1) sz mc N kf ix nx' (some y) F' v2 h3 (by omega) (by omega) hv o23 P3 I3 S3 Pp3 f1 f2 (fun w hw hlt => ?_)
              rcases Nat.lt_or_ge (ix w) (ix y) with q | q
              · exact f3 w hw q
              · obtain ⟨nk2, g1, ⟨rt, lf, rg, pa, co, lo, hi, kb, NL, W, T, -⟩, -⟩ := id P2
                rw [T.2.2.2.2.2.2.2.2.2 w y hw hy (by omega)]
                exact g
    exact ⟨_, key (sb + 1) 0 0 sb mc N kf ix nx none F 0 h1 (by omega) (by omega) (Or.inl rfl) (o1.mono (fun l hl => hl.ra o60)) P1 I1 S1 Pp1 (fun e w => w) (fun e w _ => w) (fun w _ hlt => absurd hlt (Nat.not_lt_zero _))⟩
  · refine tr_iterator o13 Pp (fun it am mc N kf ix nx h1 o1 P1 I1 S1 => ?_)
    have Pn1 : TR κ 60 b F sb h1 := Pn.keep o1 o13.n0 (fun l h1 h2 => by unfold TS; omega) o13.n17
    have key : ∀ (f i27 c sz : Nat) (nx lr : Option Nat) (F' : Nat → Prop) (v2 : Int32) (h2 : gh_H), sp - c < f → i27 + (sp - c) ≤ 190 → (v2 = 0 ∨ v2 = 1) → Only RAl h h2 → TG κ 13 p am G sp mc N kf ix h2 → IK it am nx lr mc h2 → IS1 N ix sp nx c → TR κ 60 b F' sz h2 → (∀ e, F' e ↔ F e ∧ ¬ ∃ w, N w ∧ ix w < c ∧ kf w = e) → wl_J3_removeAll_27 κ Q X f i27 b v2 (some it) h2 := by
      intro f
      induction f with
      | zero => intro i27 c sz nx lr F' v2 h2 hf; exact absurd hf (Nat.not_lt_zero _)
      | succ f ih =>
        intro i27 c sz nx lr F' v2 h2 hf hi hv o2 P2 I2 S2 Pn2 f1
        refine ⟨by omega, ?_⟩
        show wb_J3_removeAll_27 κ (wl_J3_removeAll_27 κ Q X f) i27 Q X b v2 (some it) h2
        unfold wb_J3_removeAll_27 wb_J3_removeAll_99
        obtain ⟨nk2, g1, ⟨rt, lf, rg, pa, co, lo, hi, kb, NL, W, T, -⟩, g3, g4, g5⟩ := id P2
        refine gs_RC I2 (ik_hasNext I2 (fun e => ⟨fun _ => ⟨nar01 hv, ?_⟩, fun z => absurd rfl z⟩) (fun e => ⟨fun z => absurd z (by decide), fun _ => gs_RC I2 ?_⟩))
        · have ec : c = sp := by
            rcases S2 with w | ⟨y, w, -⟩
            · exact w.2
            · rw [e] at w; cases w
          refine k h2 sz v2 o2 (Pn2.ext (fun d => ?_)) P2.tr
          rw [f1 d, g5 d]
          constructor
          · rintro ⟨w1, w2⟩
            exact ⟨w1, fun ⟨x, hx, ex⟩ => w2 ⟨x, hx, by have := T.1 x hx; omega, ex⟩⟩
          · rintro ⟨w1, w2⟩
            exact ⟨w1, fun ⟨x, hx, _, ex⟩ => w2 ⟨x, hx, ex⟩⟩
        · rcases S2 with w | ⟨y, ey, hy, ec, hlt⟩
          · exact absurd w.1 e
          · subst ey
            subst ec
            refine ik_next o13 P2 I2 hy (fun kb nx' h3 o3 B3 hk I3 S3 => ?_)
            have Pn3 := Pn2.keep o3 (by decide) (a64 60 o60) (by decide)
            have P3 := P2.keep o3 (by decide) (a64 13 o13) (by decide)
            obtain ⟨fb3, eb3⟩ := Pn3.cell
            have o23 : Only RAl h h3 := o2.trans (o3.mono (fun l hl => by unfold RAl; omega))
            refine gs_RC eb3 (tr_remove o60 Pn3 hk B3 (fun h4 sz4 r4 hr4 _ o4 P4 => ?_))
            have I4 : IK it am nx' (some y) mc h4 := o4 _ _ _ I3 (by unfold TS; omega)
            refine ih (i27 + 1) (ix y + 1) sz4 nx' (some y) _ (v2 ||| r4) h4 (by omega) (by omega) (or01 hv hr4) (o23.trans (o4.mono (fun l hl => hl.ra o60))) (P3.keep o4 o60.n0 (fun l h1 h2 => by unfold TS; omega) o60.n17) I4 S3 P4 (fun e => ?_)
            rw [f1 e]
            constructor
            · rintro ⟨⟨w1, w2⟩, w3⟩
              refine ⟨w1, fun ⟨w, hw, hl, ew⟩ => ?_⟩
              rcases Nat.lt_or_ge (ix w) (ix y) with q | q
              · exact w2 ⟨w, hw, q, ew⟩
              · exact w3 (by rw [← ew, T.2.2.2.2.2.2.2.2.2 w y hw hy (by omega)])
            · rintro ⟨w1, w2⟩
              exact ⟨⟨w1, fun ⟨w, hw, hl, ew⟩ => w2 ⟨w, hw, by omega, ew⟩⟩, fun z => w2 ⟨y, hy, Nat.lt_succ_self _, z.symm⟩⟩
    exact ⟨_, key (sp + 1) 0 0 sb nx none F 0 h1 (by omega) (by omega) (Or.inl rfl) (o1.mono (fun l hl => hl.ra o13)) P1 I1 S1 Pn1 (fun e => ⟨fun w => ⟨w, fun ⟨x, _, hlt, _⟩ => Nat.not_lt_zero _ hlt⟩, fun w => w.1⟩)⟩
/-- a new set -/
theorem tr_new {Q : gh_H → Prop} {x : Value} (ht : okT t) (e : h a = some (t, .inr (10, [x]))) (C : KI κ h) (k : ∀ h', Only (fun l => l = t) h h' → TR κ t a (fun _ => False) 0 h' → Q h') : wp_J4_init κ a Q X h := by
  have t0 : t ≠ 0 := by unfold okT at ht; omega
  unfold wp_J4_init wp_J6_init wp_J5_init wp_J4_init_2 wp_J3_init wp_J0_init
  refine gs_NO (t + 1) (Nat.succ_ne_zero _) (fun q hq => gs_PV (gu_self _ _ _) (Nat.succ_ne_zero _) (Nat.le_of_ble_eq_true rfl) (gs_PV (gu_self _ _ _) (Nat.succ_ne_zero _) (Nat.le_of_ble_eq_true rfl) (gs_PV (gu_self _ _ _) (Nat.succ_ne_zero _) (Nat.le_of_ble_eq_true rfl) ?_)))
  rw [gu_idem, gu_idem, gu_idem]
  have o1 : Only (fun _ => False) h (gh_up h q (t + 1, .inr (11, [va_rf none, va_rf none, va_rf none, va_rf none, .int 0, .int 0, va_rf none, va_rf none, va_rf none]))) := Only.new hq
  have ea := o1 _ _ _ e (fun w => w)
  refine gs_PV ea t0 (Nat.le_of_ble_eq_true rfl) ?_
  have o2 : Only (fun l => l = t) (gh_up h q (t + 1, .inr (11, [va_rf none, va_rf none, va_rf none, va_rf none, .int 0, .int 0, va_rf none, va_rf none, va_rf none]))) (gh_up (gh_up h q (t + 1, .inr (11, [va_rf none, va_rf none, va_rf none, va_rf none, .int 0, .int 0, va_rf none, va_rf none, va_rf none]))) a (t, .inr (10, [va_rf (some q)]))) := Only.up ea rfl
  have oo : Only (fun l => l = t) h _ := (o1.mono (fun l w => w.elim)).trans o2
  refine k _ oo ⟨q, 0, none, fun _ => False, fun _ => 0, fun _ => 0, gu_self _ _ _, ⟨none, fun _ => none, fun _ => none, fun _ => none, fun _ => 0, fun _ => 0, fun _ => 0, fun _ => 0, [], ⟨o2 _ _ _ (gu_self _ _ _) (by omega), fun x hx => hx.elim⟩, ?_, fun x _ hx => hx.elim, fun x hx => hx.elim, List.nodup_nil, rfl, fun x => ⟨fun w => absurd w (List.not_mem_nil), fun w => w.elim⟩⟩, (fun q hq => nomatch hq), C.keep oo (fun w => t0 w.symm), fun e => ⟨fun w => w.elim, fun ⟨x, hx, _⟩ => hx⟩⟩
  exact ⟨fun x hx => hx.elim, fun x hx => hx.elim, fun x y hx => hx.elim, fun x hx => hx.elim, fun x y hx => hx.elim, fun x y hx => hx.elim, fun x hx => hx.elim, fun _ => ⟨rfl, fun x hx => hx⟩, (fun r hr => nomatch hr), fun x y hx => hx.elim⟩
end
