/-! PLAIN LAW, part N: what the model's small methods answer -/
set_option maxRecDepth 100000
def plc (b : Nat) : Nat := if b = 119 then 2 else 4
def whole (s : Nat → Nat) (j : Nat) : Prop := 0 < s (130 + j) ∧ s (130 + j) % plc (s (120 + j)) = 0
def cnt (s : Nat → Nat) (j : Nat) : Nat := s (130 + j) / plc (s (120 + j))
/-- the page (from 1 on) at a place of a sheet -/
def pgOn (b p n k : Nat) : Nat := if b = 119 then 2 * n + 1 + k else if b = 112 then (if k = 0 then 4 * n + 4 else 4 * n + k) else if k = 0 then p - 2 * n else if k = 1 then 2 * n + 1 else if k = 2 then 2 * n + 2 else p - 2 * n - 1
def cOn (s : Nat → Nat) (j n k : Nat) : Nat := s (200 + (16 * j + pgOn (s (120 + j)) (s (130 + j)) n k - 1))
/-- bounds -/
def IV (s : Nat → Nat) : Prop := s 1 ≤ 12 ∧ s 2 ≤ 4 ∧ (∀ j, j < 4 → s (120 + j) ≤ 119 ∧ s (130 + j) ≤ 16) ∧ (∀ j, j < s 2 → s (120 + j) = 115 ∨ s (120 + j) = 112 ∨ s (120 + j) = 119) ∧ (∀ j i, j < 4 → i < s (130 + j) → s (200 + (16 * j + i)) < s 1) ∧ (∀ c, c < 12 → s (100 + c) ≤ 99 ∧ s (340 + c) ≤ 1) ∧ (∀ i, i < 32 → s (300 + i) ≤ 9999) ∧ s 10 ≤ 30000000 ∧ s 11 ≤ 1000000
theorem plc_24 (b : Nat) : plc b = 2 ∨ plc b = 4 := by unfold plc; split <;> simp
theorem pgOn_in {b p n k : Nat} (h0 : 0 < p) (h1 : p % plc b = 0) (hn : n < p / plc b) (hk : k < plc b) : 1 ≤ pgOn b p n k ∧ pgOn b p n k ≤ p := by
  unfold plc at h1 hn hk
  unfold pgOn
  by_cases e : b = 119
  · rw [if_pos e] at h1 hn hk ⊢
    omega
  · rw [if_neg e] at h1 hn hk ⊢
    by_cases e2 : b = 112
    · rw [if_pos e2]
      split <;> omega
    · rw [if_neg e2]
      split
      · omega
      · split
        · omega
        · split <;> omega
section
variable {κ : Nat → Nat} {m : Nat} {a s : Nat → Nat} {h : gh_H} {X : String → gh_H → Prop}
theorem mp_places {j : Nat} {Q : Int32 → gh_H → Prop} (P : MP m a s h) (I : IV s) (hj : j < 4) (k : Q (nI (plc (s (120 + j)))) h) : wp_X3_places κ m (nI j) Q X h := by
  have hb := (I.2.2.1 j hj).1
  unfold wp_X3_places wb_X3_places_16
  refine gs_GR P.1 rfl (mp_LI (k := 1) P (by decide) rfl hj ⟨fun z => ?_, fun z => ?_⟩)
  · have e : s (120 + j) = 119 := (nI_eq (b := 119) (by omega) (by decide)).mp z
    unfold plc at k
    rw [if_pos e] at k
    exact k
  · have e : ¬ s (120 + j) = 119 := fun w => z (congrArg nI w)
    unfold plc at k
    rw [if_neg e] at k
    exact k
theorem mp_rem {p q : Nat} (hp : p ≤ 16) (hq : q = 2 ∨ q = 4) : (nI p - nI p / nI q * nI q = 0 ↔ p % q = 0) ∧ ¬ nI q = 0 := by
  have h2 : nI p - nI p / nI q * nI q = nI (p % q) := pk_rem (by omega) (by omega) (by omega)
  rw [h2]
  have hm : p % q < 16 := Nat.lt_of_lt_of_le (Nat.mod_lt _ (by omega)) (by omega)
  exact ⟨nI_eq (b := 0) (by omega) (by decide), nI_ne0 (by omega) (by omega)⟩
theorem mp_isWhole {j : Nat} {Q : Int32 → gh_H → Prop} (P : MP m a s h) (I : IV s) (hj : j < 4) (k1 : whole s j → Q 1 h) (k0 : ¬ whole s j → Q 0 h) : wp_X3_isWhole κ m (nI j) Q X h := by
  have hb := (I.2.2.1 j hj).2
  have hr := mp_rem hb (plc_24 (s (120 + j)))
  unfold wp_X3_isWhole wb_X3_isWhole_28 wb_X3_isWhole_29
  refine gs_GR P.1 rfl (mp_LI (k := 2) P (by decide) rfl hj ⟨fun z => ⟨nb0, k0 ?_⟩, fun z => ?_⟩)
  · intro w
    exact absurd z (nI_nle w.1 (Nat.lt_of_le_of_lt hb (by decide)))
  · have h0 : 0 < s (130 + j) := by
      rcases Nat.eq_zero_or_pos (s (130 + j)) with w | w
      · exact absurd (by show nI (s (130 + j)) ≤ 0; rw [w]; decide) z
      · exact w
    refine gs_GR P.1 rfl (mp_LI (k := 2) P (by decide) rfl hj (gs_RC P.1 (mp_places P I hj ⟨hr.2, fun w => ⟨nb1, k1 ?_⟩, fun w => ⟨nb0, k0 ?_⟩⟩)))
    · exact ⟨h0, hr.1.mp w⟩
    · exact fun y => w (hr.1.mpr y.2)
theorem mp_count {j : Nat} {Q : Int32 → gh_H → Prop} (P : MP m a s h) (I : IV s) (hj : j < 4) (k : Q (nI (cnt s j)) h) : wp_X3_count κ m (nI j) Q X h := by
  have hb := (I.2.2.1 j hj).2
  have hp := plc_24 (s (120 + j))
  unfold wp_X3_count
  refine gs_GR P.1 rfl (mp_LI (k := 2) P (by decide) rfl hj (gs_RC P.1 (mp_places P I hj ⟨(mp_rem hb hp).2, ?_⟩)))
  have e : nI (s (mB 2 + j)) / nI (plc (s (120 + j))) = nI (cnt s j) := pk_div (show s (130 + j) < 2 ^ 31 by omega) (by omega) (by omega)
  rw [e]
  exact k
end
