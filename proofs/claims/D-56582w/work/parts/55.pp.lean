/-! PLAIN LAW, part P: the model's plates, makeready, stocks -/
set_option maxRecDepth 100000
def cdN (s : Nat → Nat) (c : Nat) : Nat := 100 * c + s (100 + c)
/-- the desk's number of a plate -/
def dPl (s : Nat → Nat) (j n side : Nat) : Nat := if s (120 + j) = 119 then 1440000 + cdN s (cOn s j n side) else 1200 * cdN s (cOn s j n (2 * side)) + cdN s (cOn s j n (2 * side + 1))
/-- the model's number of the desk's number -/
def mu (d : Nat) : Nat := if 1440000 ≤ d then d - 1440000 + 1 else d + 2000
def readyM (s : Nat → Nat) (j n : Nat) : Nat := (if mu (dPl s j n 0) = s 7 then 0 else 20) + (if mu (dPl s j n 1) = s 8 then 0 else 20) + (if s (120 + j) = s 9 then 0 else 15)
/-- more bounds -/
def IW (s : Nat → Nat) : Prop := s 3 ≤ 64 ∧ s 4 ≤ 200 ∧ (∀ k, k < s 4 → s (1000 + k) ≤ 2000000) ∧ s 5 ≤ 64 ∧ s 6 ≤ 10000 ∧ (s 7 = 0 ∨ (1 ≤ s 7 ∧ s 7 ≤ 1200) ∨ (2000 ≤ s 7 ∧ s 7 < 1442000)) ∧ (s 8 = 0 ∨ (1 ≤ s 8 ∧ s 8 ≤ 1200) ∨ (2000 ≤ s 8 ∧ s 8 < 1442000)) ∧ (s 9 = 0 ∨ s 9 = 115 ∨ s 9 = 112 ∨ s 9 = 119) ∧ (∀ l, l < s 3 → s (500 + l) < s 2 ∧ s (600 + l) ≤ 500 ∧ 1 ≤ s (700 + l) ∧ s (700 + l) ≤ s (130 + s (500 + l)) ∧ ∀ k, k < s (700 + l) → s (6000 + (16 * l + k)) ≤ 99)
theorem mu_le {d : Nat} (h : d < 1441200) : mu d ≤ 1442000 := by unfold mu; split <;> omega
theorem mu_inj {d e : Nat} (hd : d < 1441200) (he : e < 1441200) (h : mu d = mu e) : d = e := by
  unfold mu at h
  split at h <;> split at h <;> omega
theorem mu_pos {d : Nat} : 1 ≤ mu d := by unfold mu; split <;> omega
/-- arrays and counters below 100 apart: what depends on the arrays alone -/
def sQ (s s' : Nat → Nat) : Prop := ∀ i, 100 ≤ i → s' i = s i
theorem sQ.low {s : Nat → Nat} {k v : Nat} (h : k < 100) : sQ s (sU s k v) := fun i hi => sU_ne (by omega)
theorem sQ.refl {s : Nat → Nat} : sQ s s := fun _ _ => rfl
theorem sQ.trans {s t u : Nat → Nat} (a : sQ s t) (b : sQ t u) : sQ s u := fun i hi => (b i hi).trans (a i hi)
theorem sQ_whole {s s' : Nat → Nat} (q : sQ s s') (j : Nat) : whole s' j ↔ whole s j := by
  unfold whole
  rw [q _ (by omega), q _ (by omega)]
theorem sQ_cnt {s s' : Nat → Nat} (q : sQ s s') (j : Nat) : cnt s' j = cnt s j := by
  unfold cnt
  rw [q _ (by omega), q _ (by omega)]
theorem sQ_cOn {s s' : Nat → Nat} (q : sQ s s') (j n k : Nat) : cOn s' j n k = cOn s j n k := by
  unfold cOn
  rw [q (120 + j) (by omega), q (130 + j) (by omega), q _ (by omega)]
theorem sQ_code {s s' : Nat → Nat} (q : sQ s s') (c : Nat) : cdN s' c = cdN s c := by
  unfold cdN
  rw [q _ (by omega)]
theorem sQ_dPl {s s' : Nat → Nat} (q : sQ s s') (j n k : Nat) : dPl s' j n k = dPl s j n k := by
  unfold dPl
  rw [q (120 + j) (by omega), sQ_cOn q, sQ_cOn q, sQ_cOn q, sQ_code q, sQ_code q, sQ_code q]
theorem IV_low {s : Nat → Nat} {k v : Nat} (I : IV s) (h : k < 100) (hk : k ≠ 1 ∧ k ≠ 2 ∧ k ≠ 10 ∧ k ≠ 11) : IV (sU s k v) := by
  have q : sQ s (sU s k v) := sQ.low h
  have e1 : sU s k v 1 = s 1 := sU_ne (by omega)
  have e2 : sU s k v 2 = s 2 := sU_ne (by omega)
  have e3 : sU s k v 10 = s 10 := sU_ne (by omega)
  have e4 : sU s k v 11 = s 11 := sU_ne (by omega)
  unfold IV
  rw [e1, e2, e3, e4]
  refine ⟨I.1, I.2.1, fun j hj => ?_, fun j hj => ?_, fun j i hj hi => ?_, fun c hc => ?_, fun i hi => ?_, I.2.2.2.2.2.2.2.1, I.2.2.2.2.2.2.2.2⟩
  · rw [q _ (by omega), q _ (by omega)]
    exact I.2.2.1 j hj
  · rw [q _ (by omega)]
    exact I.2.2.2.1 j hj
  · rw [q _ (by omega)] at hi
    rw [q _ (by omega)]
    exact I.2.2.2.2.1 j i hj hi
  · rw [q _ (by omega), q _ (by omega)]
    exact I.2.2.2.2.2.1 c hc
  · rw [q _ (by omega)]
    exact I.2.2.2.2.2.2.1 i hi
theorem code_lt {s : Nat → Nat} {c : Nat} (I : IV s) (hc : c < s 1) : cdN s c < 1200 := by
  have := I.1
  have := (I.2.2.2.2.2.1 c (by omega)).1
  unfold cdN
  omega
theorem dPl_lt {s : Nat → Nat} {j n k : Nat} (I : IV s) (hj : j < 4) (hw : whole s j) (hn : n < cnt s j) (hk : k ≤ 1) : dPl s j n k < 1441200 := by
  unfold dPl
  split
  · rename_i e
    have hp : plc (s (120 + j)) = 2 := if_pos e
    have := code_lt I (cOn12 I hj hw hn (k := k) (by omega))
    omega
  · rename_i e
    have hp : plc (s (120 + j)) = 4 := if_neg e
    have := code_lt I (cOn12 I hj hw hn (k := 2 * k) (by omega))
    have := code_lt I (cOn12 I hj hw hn (k := 2 * k + 1) (by omega))
    omega
section
variable {κ : Nat → Nat} {m : Nat} {a s : Nat → Nat} {h : gh_H} {X : String → gh_H → Prop}
theorem mp_isSheet {x y : Int32} {Q : Int32 → gh_H → Prop} (P : MP m a s h) (I : IV s) (k1 : ∀ j n, j < s 2 → x = nI j → whole s j → y = nI n → n < cnt s j → ∀ h', Only Mo h h' → MP m a (sU s 0 0) h' → Q 1 h') (k3 : ∀ j, j < s 2 → x = nI j → whole s j → (y < 0 ∨ nI (cnt s j) ≤ y) → ∀ h', Only Mo h h' → MP m a (sU s 0 3) h' → Q 0 h')
    (k2 : ∀ j, j < s 2 → x = nI j → ¬ whole s j → ∀ h', Only Mo h h' → MP m a (sU s 0 2) h' → Q 0 h') (k0 : x < 0 ∨ nI (s 2) ≤ x → ∀ h', Only Mo h h' → MP m a (sU s 0 1) h' → Q 0 h') : wp_X3_isSheet κ m x y Q X h := by
  have hj2 := I.2.1
  unfold wp_X3_isSheet wb_X3_isSheet_28 wb_X3_isSheet_40
  refine gs_RC P.1 (mp_isJob P I (fun j hj hx hw h1 o1 P1 => ⟨(fun z => by cases z), fun _ => gs_RC P1.1 ?_⟩) (fun j hj hx hw h1 o1 P1 => ⟨fun _ => ?_, fun z => absurd rfl z⟩) (fun hx h1 o1 P1 => ⟨fun _ => ?_, fun z => absurd rfl z⟩))
  · have I1 : IV (sU s 0 0) := IV_low I (by decide) (by decide)
    have hc : cnt (sU s 0 0) j = cnt s j := sQ_cnt (sQ.low (by decide)) j
    have h8 := cnt8 I (show j < 4 by omega)
    rw [hx]
    refine mp_count P1 I1 (by omega) ?_
    rw [hc]
    refine mp_in (by omega) (fun n hn hy => ⟨(fun z => by cases z), fun _ => gs_GI P1.1 rfl ⟨fun _ => ⟨nb1, k1 j n hj hx hw hy hn h1 o1 P1⟩, fun z => absurd rfl z⟩⟩) (fun hy => ⟨fun _ => ?_, fun z => absurd rfl z⟩)
    refine mp_PV (k := 0) (v := 3) P1 (by decide) (fun h2 o2 P2 => gs_GI P2.1 rfl ⟨fun z => absurd z (by rw [sU_self]; decide), fun _ => ⟨nb0, k3 j hj hx hw hy h2 (o1.trans o2) ?_⟩⟩)
    have e : sU (sU s 0 0) 0 3 = sU s 0 3 := by
      funext i
      unfold sU
      split <;> rfl
    rw [← e]
    exact P2
  · exact gs_GI P1.1 rfl ⟨fun z => absurd z (by rw [sU_self]; decide), fun _ => ⟨nb0, k2 j hj hx hw h1 o1 P1⟩⟩
  · exact gs_GI P1.1 rfl ⟨fun z => absurd z (by rw [sU_self]; decide), fun _ => ⟨nb0, k0 hx h1 o1 P1⟩⟩
theorem mp_code {c : Nat} {Q : Int32 → gh_H → Prop} (P : MP m a s h) (hc : c < 12) (k : Q (nI (cdN s c)) h) : wp_X3_code κ m (nI c) Q X h := by
  unfold wp_X3_code
  refine gs_GR P.1 rfl (mp_LI (k := 0) P (by decide) rfl hc ?_)
  rw [show (100 : Int32) * nI c = nI (100 * c) from pk_mul 100 c, nI_add]
  exact k
theorem mp_plateF {j n : Nat} {Q : Int32 → gh_H → Prop} (P : MP m a s h) (I : IV s) (hj : j < 4) (hw : whole s j) (hn : n < cnt s j) (k : Q (nI (mu (dPl s j n 0))) h) : wp_X3_plateOf κ m (nI j) (nI n) (1 : Int32) Q X h := by
  have hb := (I.2.2.1 j hj).1
  have h1 := I.1
  unfold wp_X3_plateOf
  refine gs_GR P.1 rfl (mp_LI (k := 1) P (by decide) rfl hj ⟨fun z => ⟨(fun z => by cases z), fun _ => ?_⟩, fun z => ⟨(fun z => by cases z), fun _ => ?_⟩⟩)
  · have e : s (120 + j) = 119 := (nI_eq (b := 119) (n31 (by omega)) (by decide)).mp z
    have hp : plc (s (120 + j)) = 2 := if_pos e
    have hc := cOn12 I hj hw hn (k := 0) (by omega)
    unfold wb_X3_plateOf_25
    refine gs_RC P.1 (mp_contentOn (k := 0) P I hj hw hn (by omega) (gs_RC P.1 (mp_code P (by omega) ?_)))
    have e2 : mu (dPl s j n 0) = 1 + cdN s (cOn s j n 0) := by
      unfold dPl mu
      rw [if_pos e, if_pos (by omega)]
      omega
    rw [show (1 : Int32) = nI 1 from rfl, nI_add, ← e2]
    exact k
  · have e : ¬ s (120 + j) = 119 := fun w => z (congrArg nI w)
    have hp : plc (s (120 + j)) = 4 := if_neg e
    have hc := cOn12 I hj hw hn (k := 0) (by omega)
    have hc2 := cOn12 I hj hw hn (k := 1) (by omega)
    unfold wb_X3_plateOf_52 wb_X3_plateOf_73
    refine gs_RC P.1 (mp_contentOn (k := 0) P I hj hw hn (by omega) (gs_RC P.1 (mp_code P (by omega) ⟨(fun z => by cases z), fun _ => ?_⟩)))
    refine gs_RC P.1 (mp_contentOn (k := 1) P I hj hw hn (by omega) (gs_RC P.1 (mp_code P (by omega) ?_)))
    have l1 := code_lt I hc
    have l2 := code_lt I hc2
    have e2 : mu (dPl s j n 0) = 2000 + 1200 * cdN s (cOn s j n 0) + cdN s (cOn s j n 1) := by
      unfold dPl mu
      rw [if_neg e, if_neg (by show ¬ 1440000 ≤ 1200 * cdN s (cOn s j n 0) + cdN s (cOn s j n 1); omega)]
      show 1200 * cdN s (cOn s j n 0) + cdN s (cOn s j n 1) + 2000 = _
      omega
    rw [show (1200 : Int32) * nI (cdN s (cOn s j n 0)) = nI (1200 * cdN s (cOn s j n 0)) from pk_mul 1200 _, show (2000 : Int32) = nI 2000 from rfl, nI_add, nI_add, ← e2]
    exact k
theorem mp_plateB {j n : Nat} {Q : Int32 → gh_H → Prop} (P : MP m a s h) (I : IV s) (hj : j < 4) (hw : whole s j) (hn : n < cnt s j) (k : Q (nI (mu (dPl s j n 1))) h) : wp_X3_plateOf κ m (nI j) (nI n) (0 : Int32) Q X h := by
  have hb := (I.2.2.1 j hj).1
  have h1 := I.1
  unfold wp_X3_plateOf
  refine gs_GR P.1 rfl (mp_LI (k := 1) P (by decide) rfl hj ⟨fun z => ⟨fun _ => ?_, fun z => absurd rfl z⟩, fun z => ⟨fun _ => ?_, fun z => absurd rfl z⟩⟩)
  · have e : s (120 + j) = 119 := (nI_eq (b := 119) (n31 (by omega)) (by decide)).mp z
    have hp : plc (s (120 + j)) = 2 := if_pos e
    have hc := cOn12 I hj hw hn (k := 1) (by omega)
    unfold wb_X3_plateOf_25
    refine gs_RC P.1 (mp_contentOn (k := 1) P I hj hw hn (by omega) (gs_RC P.1 (mp_code P (by omega) ?_)))
    have e2 : mu (dPl s j n 1) = 1 + cdN s (cOn s j n 1) := by
      unfold dPl mu
      rw [if_pos e, if_pos (by omega)]
      omega
    rw [show (1 : Int32) = nI 1 from rfl, nI_add, ← e2]
    exact k
  · have e : ¬ s (120 + j) = 119 := fun w => z (congrArg nI w)
    have hp : plc (s (120 + j)) = 4 := if_neg e
    have hc := cOn12 I hj hw hn (k := 2) (by omega)
    have hc2 := cOn12 I hj hw hn (k := 3) (by omega)
    unfold wb_X3_plateOf_52 wb_X3_plateOf_73
    refine gs_RC P.1 (mp_contentOn (k := 2) P I hj hw hn (by omega) (gs_RC P.1 (mp_code P (by omega) ⟨fun _ => ?_, fun z => absurd rfl z⟩)))
    refine gs_RC P.1 (mp_contentOn (k := 3) P I hj hw hn (by omega) (gs_RC P.1 (mp_code P (by omega) ?_)))
    have l1 := code_lt I hc
    have l2 := code_lt I hc2
    have e2 : mu (dPl s j n 1) = 2000 + 1200 * cdN s (cOn s j n 2) + cdN s (cOn s j n 3) := by
      unfold dPl mu
      rw [if_neg e, if_neg (by show ¬ 1440000 ≤ 1200 * cdN s (cOn s j n 2) + cdN s (cOn s j n 3); omega)]
      show 1200 * cdN s (cOn s j n 2) + cdN s (cOn s j n 3) + 2000 = _
      omega
    rw [show (1200 : Int32) * nI (cdN s (cOn s j n 2)) = nI (1200 * cdN s (cOn s j n 2)) from pk_mul 1200 _, show (2000 : Int32) = nI 2000 from rfl, nI_add, nI_add, ← e2]
    exact k
/-- a choice of two numbers by an equality -/
theorem ch_eq {p q v w : Nat} {K : Int32 → Prop} (hp : p < 2 ^ 31) (hq : q < 2 ^ 31) (k : K (nI (if p = q then v else w))) : (nI p = nI q → K (nI v)) ∧ (¬ nI p = nI q → K (nI w)) := by
  refine ⟨fun z => ?_, fun z => ?_⟩
  · rw [if_pos ((nI_eq hp hq).mp z)] at k
    exact k
  · rw [if_neg (fun e => z (congrArg nI e))] at k
    exact k
theorem mp_ready {j n : Nat} {Q : Int32 → gh_H → Prop} (P : MP m a s h) (I : IV s) (J : IW s) (hj : j < 4) (hw : whole s j) (hn : n < cnt s j) (k : Q (nI (readyM s j n)) h) : wp_X3_ready κ m (nI j) (nI n) Q X h := by
  have hb := (I.2.2.1 j hj).1
  have m0 := mu_le (dPl_lt I hj hw hn (k := 0) (by decide))
  have m1 := mu_le (dPl_lt I hj hw hn (k := 1) (by decide))
  have j7 := J.2.2.2.2.2.1
  have j8 := J.2.2.2.2.2.2.1
  have j9 := J.2.2.2.2.2.2.2.1
  unfold wp_X3_ready
  refine gs_RC P.1 (mp_plateF P I hj hw hn (gs_GI P.1 rfl ?_))
  refine ch_eq (v := 0) (w := 20) (K := fun t => wb_X3_ready_20 κ Q X m (nI j) (nI n) t h) (n31 (by omega)) (n31 (by omega)) ?_
  unfold wb_X3_ready_20
  refine gs_RC P.1 (mp_plateB P I hj hw hn (gs_GI P.1 rfl ?_))
  refine ch_eq (v := 0) (w := 20) (K := fun t => wb_X3_ready_40 κ Q X m (nI j) _ t h) (n31 (by omega)) (n31 (by omega)) ?_
  unfold wb_X3_ready_40
  refine gs_GR P.1 rfl (mp_LI (k := 1) P (by decide) rfl hj (gs_GI P.1 rfl ?_))
  refine ch_eq (p := s (120 + j)) (v := 0) (w := 15) (K := fun t => wb_X3_ready_60 κ Q X _ t h) (n31 (by omega)) (n31 (by omega)) ?_
  unfold wb_X3_ready_60
  rw [nI_add, nI_add]
  exact k
end
