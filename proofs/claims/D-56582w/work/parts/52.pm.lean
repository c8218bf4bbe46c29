/-! PLAIN LAW, part M: the model's picture. Its variables are one function s: scalars 0 .. 11, array k from mB k on -/
set_option maxRecDepth 100000
def sU (s : Nat → Nat) (k v : Nat) : Nat → Nat := fun i => if i = k then v else s i
theorem sU_self (s : Nat → Nat) (k v : Nat) : sU s k v k = v := if_pos rfl
theorem sU_ne {s : Nat → Nat} {k v i : Nat} (h : i ≠ k) : sU s k v i = s i := if_neg h
def mB : Nat → Nat
  | 0 => 100 | 1 => 120 | 2 => 130 | 3 => 200 | 4 => 300 | 5 => 340 | 6 => 1000 | 7 => 400 | 8 => 410 | 9 => 3000 | 10 => 500 | 11 => 600 | 12 => 700 | _ => 6000
def mN : Nat → Nat
  | 0 => 12 | 1 => 4 | 2 => 4 | 3 => 64 | 4 => 32 | 5 => 12 | 6 => 1100 | 7 => 8 | 8 => 8 | 9 => 2048 | 10 => 100 | 11 => 100 | 12 => 100 | _ => 1600
def mK : Nat → Nat
  | 5 => 3 | _ => 0
theorem mB_100 (k : Nat) : 100 ≤ mB k := by unfold mB; split <;> decide
theorem mN_31 (k : Nat) : mN k < 2 ^ 31 := by unfold mN; split <;> decide
theorem mB_apart : ∀ k, k < 14 → ∀ j, j < 14 → k ≠ j → mB k + mN k ≤ mB j ∨ mB j + mN j ≤ mB k := by decide
def mF (s : Nat → Nat) (a : Nat → Nat) : List Value := [.int (nI (s 0)), .int (nI (s 1)), .int (nI (s 2)), .int (nI (s 3)), .int (nI (s 4)), .int (nI (s 5)), .int (nI (s 6)), .int (nI (s 7)), .int (nI (s 8)), .int (nI (s 9)), .long (lN (s 10)), .long (lN (s 11)),
  va_rf (some (a 0)), va_rf (some (a 1)), va_rf (some (a 2)), va_rf (some (a 3)), va_rf (some (a 4)), va_rf (some (a 5)), va_rf (some (a 6)), va_rf (some (a 7)), va_rf (some (a 8)), va_rf (some (a 9)), va_rf (some (a 10)), va_rf (some (a 11)), va_rf (some (a 12)), va_rf (some (a 13))]
def MP (m : Nat) (a : Nat → Nat) (s : Nat → Nat) (h : gh_H) : Prop := h m = some (30, .inr (1, mF s a)) ∧ ∀ k, k < 14 → ∃ f : Nat → Int32, h (a k) = some (31 + k, .inl (mK k, mN k, .inl f)) ∧ ∀ i, i < mN k → f i = nI (s (mB k + i))
/-- the model's labels -/
def Mo (t : Nat) : Prop := 30 ≤ t ∧ t < 45
theorem MP.keep {m : Nat} {a s : Nat → Nat} {h h' : gh_H} {S : Nat → Prop} (P : MP m a s h) (o : Only S h h') (n : ∀ t, Mo t → ¬ S t) : MP m a s h' := by
  refine ⟨o _ _ _ P.1 (n 30 (by unfold Mo; omega)), fun k hk => ?_⟩
  obtain ⟨f, h1, h2⟩ := P.2 k hk
  exact ⟨f, o _ _ _ h1 (n _ (by unfold Mo; omega)), h2⟩
theorem MP.put {m k v : Nat} {a s : Nat → Nat} {h : gh_H} (P : MP m a s h) (hk : k < 10) : MP m a (sU s k v) (gh_up h m (30, .inr (1, (mF s a).set k (.int (nI v))))) := by
  refine ⟨?_, fun j hj => ?_⟩
  · rw [gu_self]
    congr 3
    rcases (show k = 0 ∨ k = 1 ∨ k = 2 ∨ k = 3 ∨ k = 4 ∨ k = 5 ∨ k = 6 ∨ k = 7 ∨ k = 8 ∨ k = 9 by omega) with rfl | rfl | rfl | rfl | rfl | rfl | rfl | rfl | rfl | rfl <;> rfl
  · obtain ⟨f, h1, h2⟩ := P.2 j hj
    refine ⟨f, gu_of P.1 h1 (fun z => nomatch congrArg Prod.snd z), fun i hi => ?_⟩
    rw [sU_ne (by have := mB_100 j; omega)]
    exact h2 i hi
theorem MP.putJ {m k v : Nat} {a s : Nat → Nat} {h : gh_H} (P : MP m a s h) (hk : k = 10 ∨ k = 11) : MP m a (sU s k v) (gh_up h m (30, .inr (1, (mF s a).set k (.long (lN v))))) := by
  refine ⟨?_, fun j hj => ?_⟩
  · rw [gu_self]
    congr 3
    rcases hk with rfl | rfl <;> rfl
  · obtain ⟨f, h1, h2⟩ := P.2 j hj
    refine ⟨f, gu_of P.1 h1 (fun z => nomatch congrArg Prod.snd z), fun i hi => ?_⟩
    rw [sU_ne (by have := mB_100 j; omega)]
    exact h2 i hi
theorem MP.arr {m k i v : Nat} {a s : Nat → Nat} {f : Nat → Int32} {h : gh_H} (P : MP m a s h) (hk : k < 14) (hi : i < mN k) (hf : h (a k) = some (31 + k, .inl (mK k, mN k, .inl f))) : MP m a (sU s (mB k + i) v) (gh_up h (a k) (31 + k, .inl (mK k, mN k, .inl (upd f i (nI v))))) := by
  have hB := mB_100 k
  refine ⟨?_, fun j hj => ?_⟩
  · rw [gu_of hf P.1 (fun z => nomatch congrArg Prod.snd z)]
    have e : ∀ q, q < 100 → sU s (mB k + i) v q = s q := fun q hq => sU_ne (by omega)
    unfold mF
    rw [e 0 (by decide), e 1 (by decide), e 2 (by decide), e 3 (by decide), e 4 (by decide), e 5 (by decide), e 6 (by decide), e 7 (by decide), e 8 (by decide), e 9 (by decide), e 10 (by decide), e 11 (by decide)]
  · obtain ⟨g, h1, h2⟩ := P.2 j hj
    by_cases e : j = k
    · subst e
      rw [hf] at h1
      cases h1
      refine ⟨_, gu_self _ _ _, fun q hq => ?_⟩
      by_cases e : q = i
      · subst e
        rw [sU_self]
        simp [upd]
      · rw [sU_ne (by omega)]
        simp only [upd, if_neg e]
        exact h2 q hq
    · refine ⟨g, gu_of hf h1 (fun z => e (by have w : 31 + j = 31 + k := congrArg Prod.fst z; omega)), fun q hq => ?_⟩
      rw [sU_ne (by rcases mB_apart k hk j hj (fun z => e z.symm) with w | w <;> omega)]
      exact h2 q hq
theorem mp_PV {m k v : Nat} {a s : Nat → Nat} {h : gh_H} {K : gh_H → Prop} (P : MP m a s h) (hk : k < 10) (kk : ∀ h', Only Mo h h' → MP m a (sU s k v) h' → K h') : gh_PV h (some m) [(1, k)] (.int (nI v)) K :=
  gs_PV P.1 (by decide) (Nat.lt_of_lt_of_le hk (Nat.le_of_ble_eq_true rfl)) (kk _ (Only.up P.1 (by unfold Mo; omega)) (P.put hk))
theorem mp_PVJ {m k v : Nat} {a s : Nat → Nat} {h : gh_H} {K : gh_H → Prop} (P : MP m a s h) (hk : k = 10 ∨ k = 11) (kk : ∀ h', Only Mo h h' → MP m a (sU s k v) h' → K h') : gh_PV h (some m) [(1, k)] (.long (lN v)) K :=
  gs_PV P.1 (by decide) (Nat.lt_of_le_of_lt (show k ≤ 11 by omega) (Nat.le_of_ble_eq_true rfl)) (kk _ (Only.up P.1 (by unfold Mo; omega)) (P.putJ hk))
theorem mp_LI {m k i : Nat} {a s : Nat → Nat} {h : gh_H} {K : Int32 → Prop} (P : MP m a s h) (hk : k < 14) (h0 : mK k = 0) (hi : i < mN k) (kk : K (nI (s (mB k + i)))) : gh_LI h (some (a k)) (nI i) K := by
  obtain ⟨f, h1, h2⟩ := P.2 k hk
  rw [h0] at h1
  refine gs_LI h1 hi (mN_31 k) ?_
  rw [h2 i hi]
  exact kk
theorem mp_LZ {m i : Nat} {a s : Nat → Nat} {h : gh_H} {K : Int32 → Prop} (P : MP m a s h) (hi : i < 12) (kk : K (nI (s (340 + i)))) : gh_LZ h (some (a 5)) (nI i) K := by
  obtain ⟨f, h1, h2⟩ := P.2 5 (by decide)
  refine gs_LZ h1 hi (mN_31 5) ?_
  rw [h2 i hi]
  exact kk
theorem mp_SI {m k i v : Nat} {a s : Nat → Nat} {h : gh_H} {K : gh_H → Prop} (P : MP m a s h) (hk : k < 14) (h0 : mK k = 0) (hi : i < mN k) (kk : ∀ h', Only Mo h h' → MP m a (sU s (mB k + i) v) h' → K h') : gh_SI h (some (a k)) (nI i) (nI v) K := by
  obtain ⟨f, h1, h2⟩ := P.2 k hk
  have h3 := P.arr (v := v) hk hi h1
  have h4 : Only Mo h (gh_up h (a k) (31 + k, .inl (mK k, mN k, .inl (upd f i (nI v))))) := Only.up h1 (by unfold Mo; omega)
  rw [h0] at h1 h3 h4
  exact gs_SI h1 (by omega) hi (mN_31 k) (kk _ h4 h3)
theorem mp_SZ {m i v : Nat} {a s : Nat → Nat} {h : gh_H} {K : gh_H → Prop} (P : MP m a s h) (hi : i < 12) (hv : v ≤ 1) (kk : ∀ h', Only Mo h h' → MP m a (sU s (340 + i) v) h' → K h') : gh_SZ h (some (a 5)) (nI i) (nI v) K := by
  obtain ⟨f, h1, h2⟩ := P.2 5 (by decide)
  have h3 := P.arr (v := v) (by decide) hi h1
  have h4 : Only Mo h (gh_up h (a 5) (36, .inl (3, 12, .inl (upd f i (nI v))))) := Only.up h1 (by unfold Mo; omega)
  have e : vp_nar .boolean (nI v) = nI v := by
    rcases (show v = 0 ∨ v = 1 by omega) with rfl | rfl <;> rfl
  refine ⟨_, _, _, f, rfl, h1, by decide, vp_in_nI hi (by decide), ?_⟩
  rw [nI_clamp (Nat.lt_trans hi (by decide)), e]
  exact kk _ h4 h3
/-- in(x, 0, n - 1) -/
theorem mp_in {κ : Nat → Nat} {x : Int32} {n : Nat} {h : gh_H} {Q : Int32 → gh_H → Prop} {X : String → gh_H → Prop} (hn : n < 2 ^ 30) (k1 : ∀ j, j < n → x = nI j → Q 1 h) (k0 : x < 0 ∨ nI n ≤ x → Q 0 h) : wp_X3_in κ x (0 : Int32) (nI n - (1 : Int32)) Q X h := by
  have hn' : n < 2 ^ 31 := by omega
  unfold wp_X3_in wb_X3_in_14 wb_X3_in_15
  rcases pk_ix x hn' with hx | hx | ⟨j, hj, rfl⟩
  · exact ⟨fun _ => ⟨nb0, k0 (Or.inl hx)⟩, fun z => absurd hx z⟩
  · refine ⟨fun _ => ⟨nb0, k0 (Or.inr hx)⟩, fun _ => ⟨fun _ => ⟨nb0, k0 (Or.inr hx)⟩, fun z => absurd ?_ z⟩⟩
    rw [Int32.lt_iff_toInt_lt]
    rw [Int32.le_iff_toInt_le, nI_toInt hn'] at hx
    have e : (nI n - 1).toInt = (n : Int) - 1 := pk_sub_toInt (b := 1) hn (by decide)
    rw [e]
    omega
  · refine ⟨fun z => absurd z (nI_pos (by omega)), fun _ => ⟨fun z => ?_, fun _ => ⟨nb1, k1 j hj rfl⟩⟩⟩
    exfalso
    rw [Int32.lt_iff_toInt_lt, nI_toInt (by omega)] at z
    have e : (nI n - 1).toInt = (n : Int) - 1 := pk_sub_toInt (b := 1) hn (by decide)
    rw [e] at z
    omega
theorem mp_fails {κ : Nat → Nat} {m v : Nat} {a s : Nat → Nat} {h : gh_H} {Q : Int32 → gh_H → Prop} {X : String → gh_H → Prop} (P : MP m a s h) (k : ∀ h', Only Mo h h' → MP m a (sU s 0 v) h' → Q 0 h') : wp_X3_fails κ m (nI v) Q X h := by
  unfold wp_X3_fails
  exact mp_PV P (by decide) k
theorem mp_addContent {κ : Nat → Nat} {m : Nat} {a s : Nat → Nat} {h : gh_H} {Q : Int32 → gh_H → Prop} {X : String → gh_H → Prop} (P : MP m a s h) (h1 : s 1 ≤ 12)
    (k1 : s 1 = 12 → ∀ h', Only Mo h h' → MP m a (sU s 0 1) h' → Q 0 h') (k0 : s 1 < 12 → ∀ h', Only Mo h h' → MP m a (sU (sU s 0 0) 1 (s 1 + 1)) h' → Q (nI (s 1)) h') : wp_X3_addContent κ m Q X h := by
  unfold wp_X3_addContent
  refine gs_GI P.1 rfl ⟨fun z => gs_RC P.1 (mp_fails P (k1 ?_)), fun z => ?_⟩
  · exact (nI_eq (b := 12) (by omega) (by decide)).mp z
  · have hlt : s 1 < 12 := by
      rcases Nat.lt_or_ge (s 1) 12 with w | w
      · exact w
      · exact absurd (show nI (s 1) = nI 12 by rw [show s 1 = 12 by omega]) z
    refine mp_PV (v := 0) P (by decide) (fun h2 o2 P2 => gs_GI P2.1 rfl ?_)
    rw [nI_1]
    refine mp_PV P2 (by decide) (fun h3 o3 P3 => gs_GI P3.1 rfl ?_)
    have e : nI (sU (sU s 0 0) 1 (sU s 0 0 1 + 1) 1) - 1 = nI (s 1) := by
      rw [sU_self, sU_ne (by decide), nI_pred]
    rw [e]
    exact k0 hlt h3 (o2.trans o3) P3
