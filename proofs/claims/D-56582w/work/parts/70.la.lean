/-! PLAIN LAW, part LA: the loop's invariant; what a call's end owes -/
set_option maxRecDepth 100000
theorem lg_same (x : Int64) : lg_cmp x x = 0 := by
  unfold lg_cmp
  simp
/-- bounds by the number of calls -/
def IB (s : Nat → Nat) (ev : List Nat) (t : Nat) : Prop := s 3 ≤ t ∧ s 4 ≤ 2 * t ∧ s 5 ≤ t ∧ s 6 ≤ 55 * t ∧ s 11 ≤ 500 * t ∧ s 10 ≤ 320000 * t ∧ ev.length ≤ t
/-- the constants -/
def KC (κ bd : Nat → Nat) (sc : Nat × Nat × (Nat → Int32)) (h : gh_H) : Prop := CN0 κ h ∧ BD bd h ∧ h (κ 4) = some (0, .inl (6, 3, gu_r (fun i => some (bd i)))) ∧ h sc.1 = some (0, .inl (0, sc.2.1, .inl sc.2.2))
/-- the cells that take a call's value -/
def OT (vO vD : Nat) (h : gh_H) : Prop := (∃ f : Nat → Int64, h vO = some (50, .inl (1, 1, .inr (.inl f)))) ∧ ∃ f : Nat → UInt64, h vD = some (51, .inl (2, 1, .inr (.inr (.inr (.inl f)))))
/-- what is known between the calls -/
def LI (κ bd : Nat → Nat) (sc : Nat × Nat × (Nat → Int32)) (T : (Nat → Nat) → Nat → gh_H → Prop) (d m vO vD : Nat) (t : Nat) (h : gh_H) : Prop := ∃ (a s ca ja la A : Nat → Nat) (ev : List Nat), DP κ bd ca ja la A (T s) d s ev h ∧ MP m a s h ∧ IV s ∧ IW s ∧ IY s ∧ IE s ev ∧ IB s ev t ∧ KC κ bd sc h ∧ OT vO vD h
/-- the tree's picture, for every state -/
def TKs (T : (Nat → Nat) → Nat → gh_H → Prop) : Prop := (∀ s, TK (T s)) ∧ ∀ (s s' : Nat → Nat) (a : Nat) (h : gh_H), s' 4 = s 4 → (∀ i, 1000 ≤ i → i < 2100 → s' i = s i) → T s a h → T s' a h
theorem KC.keep {κ bd : Nat → Nat} {sc : Nat × Nat × (Nat → Int32)} {h h' : gh_H} {S : Nat → Prop} (k : KC κ bd sc h) (o : Only S h h') (n : ¬ S 0) : KC κ bd sc h' := ⟨k.1.keep o n, k.2.1.keep o n, o _ _ _ k.2.2.1 n, o _ _ _ k.2.2.2 n⟩
theorem OT.keep {vO vD : Nat} {h h' : gh_H} {S : Nat → Prop} (k : OT vO vD h) (o : Only S h h') (n : ¬ S 50) (n2 : ¬ S 51) : OT vO vD h' := by
  obtain ⟨⟨f, h1⟩, g, h2⟩ := k
  exact ⟨⟨f, o _ _ _ h1 n⟩, g, o _ _ _ h2 n2⟩
theorem DP.T {κ bd ca ja la A : Nat → Nat} {T1 T2 : Nat → gh_H → Prop} {d : Nat} {s : Nat → Nat} {ev : List Nat} {h : gh_H} (P : DP κ bd ca ja la A T1 d s ev h) (k : T1 (A 4) h → T2 (A 4) h) : DP κ bd ca ja la A T2 d s ev h := by
  obtain ⟨p1, p2, p3, p4, p5, p6, p7, p8, p9, p10, p11, p12⟩ := P
  exact ⟨p1, p2, p3, p4, p5, p6, p7, p8, p9, p10, p11, k p12⟩
/-- what is put in out -/
theorem ot_put {vO vD : Nat} {h : gh_H} {x : Int64} {K : gh_H → Prop} (O : OT vO vD h) (k : ∀ h', Only (fun t => t = 50) h h' → OT vO vD h' → (∃ f : Nat → Int64, h' vO = some (50, .inl (1, 1, .inr (.inl f))) ∧ f 0 = x) → K h') : gh_SJ h (some vO) (0 : Int32) x K := by
  obtain ⟨⟨f, h1⟩, g, h2⟩ := O
  have hne : vD ≠ vO := lb_ne h2 h1 (by decide)
  refine ⟨vO, 50, 1, f, rfl, h1, by decide, vp_in_nI (n := 0) (by decide) (by decide), ?_⟩
  have e : (0 : Int32).toNatClampNeg = 0 := rfl
  rw [e]
  exact k _ (Only.up h1 rfl) ⟨⟨_, gu_self _ _ _⟩, g, by rw [gu_ne hne]; exact h2⟩ ⟨_, gu_self _ _ _, by simp [vp_updL]⟩
/-- the end of a call with an int value: c the code, r the model's value -/
theorem lw_tail {κ : Nat → Nat} {m c vO : Nat} {a s : Nat → Nat} {r : Int32} {h : gh_H} {K : gh_H → Prop} (P : MP m a s h) (hc : s 0 = c) (h31 : c < 2 ^ 31) (ho : c = 0 → ∃ f : Nat → Int64, h vO = some (50, .inl (1, 1, .inr (.inl f))) ∧ f 0 = r.toInt64) (k : K h) :
    gh_RC h (some m) 1 (fun _ => wp_X3_thrown κ m (fun r9 h10 => ((r9 = nI c → ((nI c = 0 → gh_LJ h10 (some vO) (0 : Int32) (fun x11 => ((lg_cmp x11 r.toInt64) = 0 → K h10) ∧ (¬ (lg_cmp x11 r.toInt64) = 0 → (0 : Int32) = 1))) ∧ (¬ nI c = 0 → K h10))) ∧ (¬ r9 = nI c → (0 : Int32) = 1))) (fun _ _ => False) h) := by
  unfold wp_X3_thrown
  refine gs_RC P.1 (gs_GI P.1 rfl ⟨fun _ => ⟨fun z => ?_, fun _ => k⟩, fun z => absurd (by rw [hc]) z⟩)
  obtain ⟨f, h1, h2⟩ := ho ((nI_eq (b := 0) h31 (by decide)).mp z)
  refine ⟨vO, 50, 1, f, rfl, h1, vp_in_nI (n := 0) (by decide) (by decide), ?_⟩
  have e : (0 : Int32).toNatClampNeg = 0 := rfl
  rw [e]
  show (lg_cmp (f 0) r.toInt64 = 0 → K h) ∧ (¬ lg_cmp (f 0) r.toInt64 = 0 → (0 : Int32) = 1)
  rw [h2, lg_same]
  exact ⟨fun _ => k, fun z => absurd rfl z⟩
theorem Mo_De {t : Nat} (h : Mo t) : ¬ De t := by unfold Mo at h; unfold De; omega
theorem MP.de {m : Nat} {a s : Nat → Nat} {h h' : gh_H} (P : MP m a s h) (o : Only De h h') : MP m a s h' := P.keep o (fun t ht => Mo_De ht)
theorem DP.mo {κ bd ca ja la A : Nat → Nat} {T : Nat → gh_H → Prop} {d : Nat} {s : Nat → Nat} {ev : List Nat} {h h' : gh_H} (P : DP κ bd ca ja la A T d s ev h) (hT : TK T) (I : IV s) (o : Only Mo h h') : DP κ bd ca ja la A T d s ev h' := P.keep hT I o (by unfold Mo; omega) (fun t ht _ => fun z => Mo_De z ht)
section
variable {κ bd : Nat → Nat} {sc : Nat × Nat × (Nat → Int32)} {T : (Nat → Nat) → Nat → gh_H → Prop} {d m vO vD t : Nat} {h : gh_H} {K : gh_H → Prop}
/-- a call that changes nothing but thrown -/
theorem LI.same {a s ca ja la A : Nat → Nat} {ev : List Nat} {v : Nat} (hT : TKs T) (P : DP κ bd ca ja la A (T s) d s ev h) (M : MP m a (sU s 0 v) h) (I : IV s) (J : IW s) (Y : IY s) (E : IE s ev) (B : IB s ev t) (C : KC κ bd sc h) (O : OT vO vD h) : LI κ bd sc T d m vO vD (t + 1) h := by
  have e : ∀ i, i ≠ 0 → sU s 0 v i = s i := fun i hi => sU_ne hi
  refine ⟨a, sU s 0 v, ca, ja, la, A, ev, (P.T (hT.2 s (sU s 0 v) _ _ (e 4 (by decide)) (fun i h1 h2 => e i (by omega)))).sD I J (fun i h1 h2 h3 h4 => e i h1), M, IV0 I, IW0 J, ?_, ?_, ?_, C, O⟩
  · refine ⟨fun c h1 h2 => ?_, fun j h1 h2 => ?_, fun j n h1 h2 h3 => ?_⟩
    · rw [e 1 (by decide)] at h1
      rw [e _ (by omega), e _ (by omega)]
      exact Y.1 c h1 h2
    · rw [e 2 (by decide)] at h1
      rw [e _ (by omega)]
      exact Y.2.1 j h1 h2
    · have : nSh (sU s 0 v) j = nSh s j := by
        unfold nSh
        rw [e _ (by omega), e _ (by omega), sQ_cnt sQ0]
      rw [this] at h3
      rw [e _ (by omega)]
      exact Y.2.2 j n h1 h2 h3
  · refine ⟨?_, fun c h1 => ?_, fun k hk => ?_⟩
    · rw [e 1 (by decide), e 3 (by decide)]
      exact E.1
    · rw [e 1 (by decide)] at h1
      rw [e _ (by omega)]
      exact E.2.1 c h1
    · rw [e 3 (by decide)] at hk
      obtain ⟨pre, suf, h1, h2, h3⟩ := E.2.2 k hk
      refine ⟨pre, suf, h1, h2, fun i hi => ?_⟩
      rw [e _ (by omega)] at hi
      have : lCt (sU s 0 v) k i = lCt s k i := by
        unfold lCt
        rw [e (500 + k) (by omega), e _ (by omega)]
      rw [e _ (by omega), this]
      exact h3 i hi
  · unfold IB
    rw [e 3 (by decide), e 4 (by decide), e 5 (by decide), e 6 (by decide), e 10 (by decide), e 11 (by decide)]
    have := B
    unfold IB at this
    omega
end
