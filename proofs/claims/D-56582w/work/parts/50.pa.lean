/-! PLAIN LAW, part A: steps over ghosts, frames by labels, lists -/
set_option maxRecDepth 100000
theorem gu_self (h : gh_H) (a : Nat) (e : gh_E) : gh_up h a e a = some e := if_pos rfl
theorem gu_ne {h : gh_H} {a b : Nat} {e : gh_E} (hn : b ≠ a) : gh_up h a e b = h b := if_neg hn
theorem gu_of {h : gh_H} {a b : Nat} {e x y : gh_E} (ha : h a = some x) (hb : h b = some y) (hn : y ≠ x) : gh_up h a e b = some y := by
  rw [gu_ne (fun z => by rw [z, ha] at hb; exact hn (Option.some.inj hb).symm)]
  exact hb
theorem gu_new {h : gh_H} {a b : Nat} {e y : gh_E} (ha : h a = none) (hb : h b = some y) : gh_up h a e b = some y := by
  rw [gu_ne (fun z => by rw [z, ha] at hb; cases hb)]
  exact hb
abbrev gu_r (f : Nat → Option Nat) : (Nat → Int32) ⊕ (Nat → Int64) ⊕ (Nat → UInt32) ⊕ (Nat → UInt64) ⊕ (Nat → Option Nat) := .inr (.inr (.inr (.inr f)))
/-- steps -/
theorem gs_GI {h : gh_H} {a lb ci k : Nat} {fs : List Value} {x : Int32} {K : Int32 → Prop} (e : h a = some (lb, .inr (ci, fs))) (hf : fs[k]? = some (.int x)) (hk : K x) : gh_GI h (some a) [(ci, k)] K := ⟨a, lb, ci, k, fs, x, rfl, e, List.mem_singleton.mpr rfl, hf, hk⟩
theorem gs_GIm {h : gh_H} {a lb ci k : Nat} {fs : List Value} {x : Int32} {K : Int32 → Prop} {ck : List (Nat × Nat)} (e : h a = some (lb, .inr (ci, fs))) (hm : (ci, k) ∈ ck) (hf : fs[k]? = some (.int x)) (hk : K x) : gh_GI h (some a) ck K := ⟨a, lb, ci, k, fs, x, rfl, e, hm, hf, hk⟩
theorem gs_GJ {h : gh_H} {a lb ci k : Nat} {fs : List Value} {x : Int64} {K : Int64 → Prop} (e : h a = some (lb, .inr (ci, fs))) (hf : fs[k]? = some (.long x)) (hk : K x) : gh_GJ h (some a) [(ci, k)] K := ⟨a, lb, ci, k, fs, x, rfl, e, List.mem_singleton.mpr rfl, hf, hk⟩
theorem gs_GJm {h : gh_H} {a lb ci k : Nat} {fs : List Value} {x : Int64} {K : Int64 → Prop} {ck : List (Nat × Nat)} (e : h a = some (lb, .inr (ci, fs))) (hm : (ci, k) ∈ ck) (hf : fs[k]? = some (.long x)) (hk : K x) : gh_GJ h (some a) ck K := ⟨a, lb, ci, k, fs, x, rfl, e, hm, hf, hk⟩
theorem gs_GR {h : gh_H} {a lb ci k : Nat} {fs : List Value} {x : Option Nat} {K : Option Nat → Prop} (e : h a = some (lb, .inr (ci, fs))) (hf : fs[k]? = some (va_rf x)) (hk : K x) : gh_GR h (some a) [(ci, k)] K := ⟨a, lb, ci, k, fs, x, rfl, e, List.mem_singleton.mpr rfl, hf, hk⟩
theorem gs_GRm {h : gh_H} {a lb ci k : Nat} {fs : List Value} {x : Option Nat} {K : Option Nat → Prop} {ck : List (Nat × Nat)} (e : h a = some (lb, .inr (ci, fs))) (hm : (ci, k) ∈ ck) (hf : fs[k]? = some (va_rf x)) (hk : K x) : gh_GR h (some a) ck K := ⟨a, lb, ci, k, fs, x, rfl, e, hm, hf, hk⟩
theorem gs_PV {h : gh_H} {a lb ci k : Nat} {fs : List Value} {v : Value} {K : gh_H → Prop} (e : h a = some (lb, .inr (ci, fs))) (hz : lb ≠ 0) (hl : k < fs.length) (hk : K (gh_up h a (lb, .inr (ci, fs.set k v)))) : gh_PV h (some a) [(ci, k)] v K := ⟨a, lb, ci, k, fs, rfl, e, hz, List.mem_singleton.mpr rfl, hl, hk⟩
theorem gs_PVm {h : gh_H} {a lb ci k : Nat} {fs : List Value} {v : Value} {K : gh_H → Prop} {ck : List (Nat × Nat)} (e : h a = some (lb, .inr (ci, fs))) (hz : lb ≠ 0) (hm : (ci, k) ∈ ck) (hl : k < fs.length) (hk : K (gh_up h a (lb, .inr (ci, fs.set k v)))) : gh_PV h (some a) ck v K := ⟨a, lb, ci, k, fs, rfl, e, hz, hm, hl, hk⟩
theorem gs_LI {h : gh_H} {a lb n j : Nat} {f : Nat → Int32} {K : Int32 → Prop} (e : h a = some (lb, .inl (0, n, .inl f))) (hj : j < n) (hn : n < 2 ^ 31) (hk : K (f j)) : gh_LI h (some a) (nI j) K := ⟨a, lb, n, f, rfl, e, vp_in_nI hj hn, by rw [nI_clamp (Nat.lt_trans hj hn)]; exact hk⟩
theorem gs_LZ {h : gh_H} {a lb n j : Nat} {f : Nat → Int32} {K : Int32 → Prop} (e : h a = some (lb, .inl (3, n, .inl f))) (hj : j < n) (hn : n < 2 ^ 31) (hk : K (f j)) : gh_LZ h (some a) (nI j) K := ⟨a, lb, n, f, rfl, e, vp_in_nI hj hn, by rw [nI_clamp (Nat.lt_trans hj hn)]; exact hk⟩
theorem gs_LR {h : gh_H} {a lb t n j : Nat} {f : Nat → Option Nat} {K : Option Nat → Prop} (e : h a = some (lb, .inl (t, n, gu_r f))) (ht : 4 ≤ t) (hj : j < n) (hn : n < 2 ^ 31) (hk : K (f j)) : gh_LR h (some a) (nI j) K := ⟨a, lb, t, n, f, rfl, e, ht, vp_in_nI hj hn, by rw [nI_clamp (Nat.lt_trans hj hn)]; exact hk⟩
theorem gs_SI {h : gh_H} {a lb n j : Nat} {f : Nat → Int32} {x : Int32} {K : gh_H → Prop} (e : h a = some (lb, .inl (0, n, .inl f))) (hz : lb ≠ 0) (hj : j < n) (hn : n < 2 ^ 31) (hk : K (gh_up h a (lb, .inl (0, n, .inl (upd f j x))))) : gh_SI h (some a) (nI j) x K := ⟨a, lb, n, f, rfl, e, hz, vp_in_nI hj hn, by rw [nI_clamp (Nat.lt_trans hj hn)]; exact hk⟩
/-- an object that may lie in a list -/
def OB (h : gh_H) (y : Nat) : Prop := ∃ (l2 ci : Nat) (fs : List Value), h y = some (l2, .inr (ci, fs)) ∧ ci ∈ gh_os
theorem gs_SR {h : gh_H} {a lb n j : Nat} {f : Nat → Option Nat} {v : Option Nat} {K : gh_H → Prop} (e : h a = some (lb, .inl (4, n, gu_r f))) (hz : lb ≠ 0) (hj : j < n) (hn : n < 2 ^ 31) (hv : ∀ y, v = some y → OB h y) (hk : K (gh_up h a (lb, .inl (4, n, gu_r (va_up f j v))))) : gh_SR h (some a) (nI j) v K := by
  refine ⟨a, lb, n, f, rfl, e, hz, vp_in_nI hj hn, ?_, by rw [nI_clamp (Nat.lt_trans hj hn)]; exact hk⟩
  cases v with
  | none => exact Or.inl rfl
  | some y =>
    obtain ⟨l2, ci, fs, h1, h2⟩ := hv y rfl
    exact Or.inr ⟨y, l2, ci, fs, rfl, h1, h2⟩
theorem gs_LN {h : gh_H} {a lb t : Nat} {x : vp_A} {K : Int32 → Prop} (e : h a = some (lb, .inl (t, x))) (hk : K (nI x.1)) : gh_LN h (some a) K := ⟨a, lb, t, x, rfl, e, hk⟩
theorem gs_NO {h : gh_H} {ci : Nat} {fs : List Value} {K : Nat → gh_H → Prop} (lb : Nat) (hz : lb ≠ 0) (hk : ∀ q : Nat, h q = none → K q (gh_up h q (lb, .inr (ci, fs)))) : gh_NO h ci fs K := ⟨lb, hz, hk⟩
theorem gs_NA {h : gh_H} {t n lim : Nat} {x : (Nat → Int32) ⊕ (Nat → Int64) ⊕ (Nat → UInt32) ⊕ (Nat → UInt64) ⊕ (Nat → Option Nat)} {K : Nat → gh_H → Prop} (lb : Nat) (hz : lb ≠ 0) (hn : n ≤ lim) (hl : lim < 2 ^ 31) (hk : ∀ q : Nat, h q = none → K q (gh_up h q (lb, .inl (t, n, x)))) : gh_NA h t (nI n) lim x K := by
  have h1 : n < 2 ^ 31 := Nat.lt_of_le_of_lt hn hl
  refine ⟨nI_pos h1, by rw [nI_clamp h1]; exact hn, lb, hz, fun q hq => ?_⟩
  rw [nI_clamp h1]
  exact hk q hq
theorem gs_CK {h : gh_H} {a lb ci : Nat} {fs : List Value} {cis : List Nat} {K : Prop} (e : h a = some (lb, .inr (ci, fs))) (hm : ci ∈ cis) (hk : K) : gh_CK h (some a) cis K := ⟨Or.inr ⟨a, lb, ci, fs, rfl, e, hm⟩, hk⟩
theorem gs_RC {h : gh_H} {a lb ci : Nat} {fs : List Value} {K : Nat → Prop} (e : h a = some (lb, .inr (ci, fs))) (hk : K a) : gh_RC h (some a) ci K := ⟨a, lb, fs, rfl, e, hk⟩
/-- narrow of a boolean -/
theorem nb0 : narrow .boolean (.int (0 : Int32)) = .int (0 : Int32) := rfl
theorem nb1 : narrow .boolean (.int (1 : Int32)) = .int (1 : Int32) := rfl
/-! frames -/
def Only (S : Nat → Prop) (h h' : gh_H) : Prop := ∀ (q lb : Nat) (c : gh_C), h q = some (lb, c) → ¬ S lb → h' q = some (lb, c)
theorem Only.refl {S : Nat → Prop} {h : gh_H} : Only S h h := fun _ _ _ e _ => e
theorem Only.trans {S : Nat → Prop} {h h1 h2 : gh_H} (a : Only S h h1) (b : Only S h1 h2) : Only S h h2 := fun q lb c e n => b q lb c (a q lb c e n) n
theorem Only.mono {S T : Nat → Prop} {h h' : gh_H} (a : Only S h h') (hs : ∀ t, S t → T t) : Only T h h' := fun q lb c e n => a q lb c e (fun s => n (hs _ s))
theorem Only.up {S : Nat → Prop} {h : gh_H} {a lb : Nat} {c c' : gh_C} {lb' : Nat} (e : h a = some (lb, c)) (hs : S lb) : Only S h (gh_up h a (lb', c')) := fun q l x hq n => by
  rw [gu_ne (fun z => by rw [z, e] at hq; cases hq; exact n hs)]
  exact hq
theorem Only.new {S : Nat → Prop} {h : gh_H} {a : Nat} {x : gh_E} (e : h a = none) : Only S h (gh_up h a x) := fun q l y hq _ => gu_new e hq
theorem OB.up {h : gh_H} {a lb y : Nat} {c c' : gh_C} {lb' : Nat} (o : OB h y) (e : h a = some (lb, c)) (hc : ∀ ci fs, c = .inr (ci, fs) → ci ∉ gh_os) : OB (gh_up h a (lb', c')) y := by
  obtain ⟨l2, ci, fs, h1, h2⟩ := o
  refine ⟨l2, ci, fs, ?_, h2⟩
  rw [gu_ne (fun z => by rw [z, e] at h1; cases h1; exact hc ci fs rfl h2)]
  exact h1
theorem OB.new {h : gh_H} {a y : Nat} {x : gh_E} (o : OB h y) (e : h a = none) : OB (gh_up h a x) y := by
  obtain ⟨l2, ci, fs, h1, h2⟩ := o
  exact ⟨l2, ci, fs, gu_new e h1, h2⟩
/-! lists -/
theorem va_app {f : Nat → Option Nat} {xs : List Nat} {x : Nat} (hf : ∀ (i : Nat) (hi : i < xs.length), f i = some xs[i]) : ∀ (i : Nat) (hi : i < (xs ++ [x]).length), va_up f xs.length (some x) i = some (xs ++ [x])[i] := by
  intro i hi
  unfold va_up
  rw [List.length_append] at hi
  by_cases h : i = xs.length
  · subst h
    simp
  · have h2 : i < xs.length := by
      simp at hi
      omega
    rw [if_neg h, List.getElem_append_left h2]
    exact hf i h2
def gl_cap (c : Nat) : Prop := c = 10 ∨ c = 15 ∨ c = 22 ∨ c = 33 ∨ c = 49 ∨ c = 73
theorem gl_cap.le {c : Nat} (h : gl_cap c) : c ≤ 80 := by unfold gl_cap at h; omega
/-- a list's array: all of xs stands at its start -/
def LA (h : gh_H) (lb b cap : Nat) (f : Nat → Option Nat) (xs : List Nat) : Prop := h b = some (lb, .inl (4, cap, gu_r f)) ∧ xs.length ≤ cap ∧ ∀ (i : Nat) (hi : i < xs.length), f i = some xs[i]
/-- the list at a (label l) holds the objects xs (mc: its count of changes; P: what is known of the array's size) -/
def LG (P : Nat → Prop) (κ : Nat → Nat) (l a : Nat) (mc : Int32) (xs : List Nat) (h : gh_H) : Prop := ∃ b : Nat, h a = some (l, .inr (8, [.int mc, va_rf (some b), .int (nI xs.length)])) ∧ ((xs = [] ∧ b = κ 0) ∨ ∃ (cap : Nat) (f : Nat → Option Nat), LA h (l + 1) b cap f xs ∧ P cap)
/-- a list that is read -/
def LR (κ : Nat → Nat) (l a : Nat) (mc : Int32) (xs : List Nat) (h : gh_H) : Prop := LG (fun c => c ≤ 80) κ l a mc xs h
/-- a list that grows -/
def GL (κ : Nat → Nat) (l a : Nat) (xs : List Nat) (h : gh_H) : Prop := ∃ mc : Int32, LG gl_cap κ l a mc xs h
def CN0 (κ : Nat → Nat) (h : gh_H) : Prop := h (κ 0) = some (0, .inl (4, 0, gu_r (fun _ => none)))
theorem CN0.keep {κ : Nat → Nat} {h h' : gh_H} {S : Nat → Prop} (C : CN0 κ h) (o : Only S h h') (n : ¬ S 0) : CN0 κ h' := o _ _ _ C n
theorem LA.keep {h h' : gh_H} {lb b cap : Nat} {f : Nat → Option Nat} {xs : List Nat} {S : Nat → Prop} (L : LA h lb b cap f xs) (o : Only S h h') (n : ¬ S lb) : LA h' lb b cap f xs := ⟨o _ _ _ L.1 n, L.2⟩
theorem LG.keep {P : Nat → Prop} {κ : Nat → Nat} {l a : Nat} {mc : Int32} {xs : List Nat} {h h' : gh_H} {S : Nat → Prop} (L : LG P κ l a mc xs h) (o : Only S h h') (n : ¬ S l) (n1 : ¬ S (l + 1)) : LG P κ l a mc xs h' := by
  obtain ⟨b, h1, h2⟩ := L
  refine ⟨b, o _ _ _ h1 n, ?_⟩
  rcases h2 with h2 | ⟨cap, f, h2, h3⟩
  · exact Or.inl h2
  · exact Or.inr ⟨cap, f, h2.keep o n1, h3⟩
theorem GL.keep {κ : Nat → Nat} {l a : Nat} {xs : List Nat} {h h' : gh_H} {S : Nat → Prop} (L : GL κ l a xs h) (o : Only S h h') (n : ¬ S l) (n1 : ¬ S (l + 1)) : GL κ l a xs h' := by
  obtain ⟨mc, L⟩ := L
  exact ⟨mc, L.keep o n n1⟩
theorem LG.lr {κ : Nat → Nat} {l a : Nat} {mc : Int32} {xs : List Nat} {h : gh_H} (L : LG gl_cap κ l a mc xs h) : LR κ l a mc xs h := by
  obtain ⟨b, h1, h2⟩ := L
  refine ⟨b, h1, ?_⟩
  rcases h2 with h2 | ⟨cap, f, h2, h3⟩
  · exact Or.inl h2
  · exact Or.inr ⟨cap, f, h2, h3.le⟩
theorem LR.len {κ : Nat → Nat} {l a : Nat} {mc : Int32} {xs : List Nat} {h : gh_H} (L : LR κ l a mc xs h) : xs.length ≤ 80 := by
  obtain ⟨b, h1, h2⟩ := L
  rcases h2 with ⟨h2, -⟩ | ⟨cap, f, h2, h3⟩
  · rw [h2]; exact Nat.zero_le _
  · exact Nat.le_trans h2.2.1 h3
theorem gl_31 {n : Nat} (h : n ≤ 80) : n < 2 ^ 31 := Nat.lt_of_le_of_lt h (by decide)
theorem ls_size {κ : Nat → Nat} {l a : Nat} {mc : Int32} {xs : List Nat} {h : gh_H} {Q : Int32 → gh_H → Prop} {X : String → gh_H → Prop} (L : LR κ l a mc xs h) (k : Q (nI xs.length) h) : wp_J2_size κ a Q X h := by
  obtain ⟨b, h1, -⟩ := L
  unfold wp_J2_size
  exact gs_GI h1 rfl k
theorem ls_isEmpty {κ : Nat → Nat} {l a : Nat} {mc : Int32} {xs : List Nat} {h : gh_H} {Q : Int32 → gh_H → Prop} {X : String → gh_H → Prop} (L : LR κ l a mc xs h) (k0 : xs = [] → Q 1 h) (k1 : xs ≠ [] → Q 0 h) : wp_J2_isEmpty κ a Q X h := by
  have hn := gl_31 L.len
  obtain ⟨b, h1, -⟩ := L
  unfold wp_J2_isEmpty
  refine gs_GI h1 rfl ⟨fun e => ⟨nb1, k0 ?_⟩, fun e => ⟨nb0, k1 ?_⟩⟩
  · cases xs with
    | nil => rfl
    | cons x r => exact absurd e (nI_ne0 (Nat.succ_pos _) hn)
  · intro z
    subst z
    exact e rfl
theorem ls_checkIndex {κ : Nat → Nat} {i n : Nat} {h : gh_H} {Q : Int32 → gh_H → Prop} {X : String → gh_H → Prop} (hi : i < n) (hn : n < 2 ^ 31) (k : Q (nI i) h) : wp_J17_checkIndex κ (nI i) (nI n) Q X h := by
  unfold wp_J17_checkIndex wp_J18_checkIndex
  exact ⟨fun e => absurd e (nI_pos (Nat.lt_trans hi hn)), fun _ => ⟨fun _ => k, fun e => absurd (nI_lt hi hn) e⟩⟩
theorem ls_get {κ : Nat → Nat} {l a i : Nat} {mc : Int32} {xs : List Nat} {h : gh_H} {Q : Option Nat → gh_H → Prop} {X : String → gh_H → Prop} (L : LR κ l a mc xs h) (hi : i < xs.length) (k : Q (some xs[i]) h) : wp_J2_get κ a (nI i) Q X h := by
  have hn := gl_31 L.len
  obtain ⟨b, h1, h2⟩ := L
  unfold wp_J2_get
  refine gs_GI h1 rfl (ls_checkIndex hi hn (gs_RC h1 ?_))
  unfold wp_J2_elementData
  refine gs_GR h1 rfl ?_
  rcases h2 with ⟨h2, -⟩ | ⟨cap, f, h2, h3⟩
  · subst h2
    exact absurd hi (Nat.not_lt_zero i)
  · refine gs_LR h2.1 (Nat.le_refl 4) (Nat.lt_of_lt_of_le hi h2.2.1) (gl_31 h3) ?_
    rw [h2.2.2 i hi]
    exact k
/-- new ArrayList() -/
theorem ls_new {κ : Nat → Nat} {l a : Nat} {x y z : Value} {h : gh_H} {Q : gh_H → Prop} {X : String → gh_H → Prop} (e : h a = some (l, .inr (8, [x, y, .int 0]))) (hl : l ≠ 0) (k : Q (gh_up h a (l, .inr (8, [.int 0, va_rf (some (κ 0)), .int 0])))) : wp_J2_init κ a Q X h := by
  unfold wp_J2_init wp_J1_init wp_J0_init
  refine gs_PV e hl (Nat.le_of_ble_eq_true rfl) (gs_PV (gu_self _ _ _) hl (Nat.le_of_ble_eq_true rfl) ?_)
  have : gh_up (gh_up h a (l, .inr (8, [x, y, .int 0].set 0 (.int 0)))) a (l, .inr (8, ([x, y, .int 0].set 0 (.int 0)).set 1 (va_rf (some (κ 0))))) = gh_up h a (l, .inr (8, [.int 0, va_rf (some (κ 0)), .int 0])) := by
    funext q
    unfold gh_up
    split <;> rfl
  rw [this]
  exact k
theorem GL.nil {κ : Nat → Nat} {l a : Nat} {h : gh_H} (e : h a = some (l, .inr (8, [.int 0, va_rf (some (κ 0)), .int 0]))) : GL κ l a [] h := ⟨0, κ 0, e, Or.inl ⟨rfl, rfl⟩⟩
/-! growing -/
theorem gu_idem (h : gh_H) (a : Nat) (x y : gh_E) : gh_up (gh_up h a x) a y = gh_up h a y := by
  funext q
  unfold gh_up
  split <;> rfl
theorem ls_newLength {κ : Nat → Nat} {c : Nat} {h : gh_H} {Q : Int32 → gh_H → Prop} {X : String → gh_H → Prop} (hc : 2 ≤ c) (hc2 : c ≤ 1000) (k : Q (nI (c + c / 2)) h) : wp_J11_newLength κ (nI c) (nI (c + 1) - nI c) (nI c >>> ((1 : Int32) &&& 31)) Q X h := by
  have e1 : nI (c + 1) - nI c = nI 1 := by
    rw [pk_sub (Nat.le_succ c)]
    congr 1
    omega
  have e2 : nI c >>> ((1 : Int32) &&& 31) = nI (c / 2) := pk_shrN (by omega) _ 1 (by decide)
  have e3 : (if nI 1 < nI (c / 2) then nI (c / 2) else nI 1) = nI (c / 2) := by
    split
    · rfl
    · rename_i hn
      have : ¬ 1 < c / 2 := fun z => hn (nI_lt z (by omega))
      congr 1
      omega
  have e4 : (2147483639 : Int32) = nI 2147483639 := rfl
  rw [e1, e2]
  unfold wp_J11_newLength
  rw [e3, nI_add]
  refine ⟨fun z => absurd z (nI_nle (by omega) (by omega)), fun _ => ⟨fun z => ?_, fun _ => k⟩⟩
  rw [e4] at z
  exact absurd z (nI_nlt (by omega) (by omega))
theorem ls_copyOf {κ : Nat → Nat} {b lb cap m ln : Nat} {f : Nat → Option Nat} {h : gh_H} {Q : Option Nat → gh_H → Prop} {X : String → gh_H → Prop} (hb : h b = some (lb, .inl (4, cap, gu_r f))) (hz : lb ≠ 0) (hln : ln ≠ 0) (hm : m ≤ 80) (hcap : cap ≤ 80) (hob : ∀ i, i < m → i < cap → ∀ y, f i = some y → OB h y)
    (k : ∀ q, h q = none → Q (some q) (gh_up h q (ln, .inl (4, m, gu_r (fun i => if i < m ∧ i < cap then f i else none))))) : wp_J13_copyOf κ (some b) (nI m) Q X h := by
  unfold wp_J13_copyOf wp_J13_copyOf_2
  refine ⟨b, lb, _, rfl, hb, hz, ⟨fun _ => ?_, fun e => absurd rfl e⟩⟩
  refine gs_NA ln hln hm (by decide) (fun q hq => gs_LN (gu_new hq hb) ?_)
  have e0 : (if nI m < nI cap then nI m else nI cap) = nI (if m < cap then m else cap) := by
    by_cases hc : m < cap
    · rw [if_pos hc, if_pos (nI_lt hc (gl_31 hcap))]
    · rw [if_neg hc, if_neg (nI_nlt (Nat.not_lt.mp hc) (gl_31 hm))]
  have ez : (0 : Int32) = nI 0 := rfl
  have hk31 : (if m < cap then m else cap) < 2 ^ 31 := by
    split
    · exact gl_31 hm
    · exact gl_31 hcap
  rw [e0, ez]
  have hkm : (if m < cap then m else cap) ≤ m := by split <;> omega
  have hkc : (if m < cap then m else cap) ≤ cap := by split <;> omega
  refine ⟨b, lb, cap, q, ln, m, f, fun _ => none, rfl, rfl, gu_new hq hb, hz, gu_self _ _ _, hln, nI_pos (by decide), nI_pos (by decide), nI_pos hk31, ?_, ?_, ?_, ?_⟩
  · rw [nI_clamp hk31, nI_clamp (by decide)]
    omega
  · rw [nI_clamp hk31, nI_clamp (by decide)]
    omega
  · rw [nI_clamp hk31, nI_clamp (by decide)]
    intro i hi y hy
    rw [Nat.zero_add] at hy
    obtain ⟨l2, ci, fs, h1, h2⟩ := hob i (by omega) (by omega) y hy
    exact ⟨l2, ci, fs, gu_new hq h1, h2⟩
  · rw [nI_clamp hk31, nI_clamp (by decide), gu_idem]
    have e1 : va_cpy f (fun _ => none) 0 0 (if m < cap then m else cap) = fun i => if i < m ∧ i < cap then f i else none := by
      funext i
      unfold va_cpy
      have : (0 ≤ i ∧ i < 0 + (if m < cap then m else cap)) ↔ (i < m ∧ i < cap) := by
        split <;> omega
      by_cases hi : i < m ∧ i < cap
      · rw [if_pos (this.mpr hi), if_pos hi]
        congr 1
        omega
      · rw [if_neg (fun z => hi (this.mp z)), if_neg hi]
    rw [e1]
    exact k q hq
theorem gl_up {c : Nat} (h : gl_cap c) (h2 : c < 73) : gl_cap (c + c / 2) ∧ c < c + c / 2 := by
  unfold gl_cap at h ⊢
  rcases h with rfl | rfl | rfl | rfl | rfl | rfl <;> omega
theorem ls_grow {κ : Nat → Nat} {l a : Nat} {mc : Int32} {b : Nat} {xs : List Nat} {h : gh_H} {Q : Option Nat → gh_H → Prop} {X : String → gh_H → Prop} (C : CN0 κ h) (h1 : h a = some (l, .inr (8, [.int mc, va_rf (some b), .int (nI xs.length)]))) (h2 : (xs = [] ∧ b = κ 0) ∨ ∃ f, LA h (l + 1) b xs.length f xs ∧ gl_cap xs.length) (hl : l ≠ 0) (hn : xs.length < 73) (ho : ∀ y ∈ xs, OB h y)
    (k : ∀ (q cap : Nat) (f : Nat → Option Nat), h q = none → gl_cap cap → xs.length < cap → (∀ (i : Nat) (hi : i < xs.length), f i = some xs[i]) → Q (some q) (gh_up (gh_up h q (l + 1, .inl (4, cap, gu_r f))) a (l, .inr (8, [.int mc, va_rf (some q), .int (nI xs.length)])))) : wp_J2_grow κ a Q X h := by
  unfold wp_J2_grow
  refine gs_GI h1 rfl (gs_RC h1 ?_)
  unfold wp_J2_grow_2
  refine gs_GR h1 rfl ?_
  rcases h2 with ⟨rfl, rfl⟩ | ⟨f, h2, h3⟩
  · refine gs_LN C ⟨fun z => absurd z (by decide), fun _ => gs_GR h1 rfl ⟨fun _ => ?_, fun z => absurd rfl z⟩⟩
    refine gs_NA (n := 10) (l + 1) (Nat.succ_ne_zero l) (Nat.le_refl 10) (by decide) (fun q hq => gs_PV (gu_new hq h1) hl (Nat.le_of_ble_eq_true rfl) ?_)
    exact k q 10 _ hq (Or.inl rfl) (by decide) (fun i hi => absurd hi (Nat.not_lt_zero i))
  · have h73 := gl_up h3 hn
    have h80 := h3.le
    refine gs_LN h2.1 ⟨fun _ => ?_, fun z => absurd (nI_lt (a := 0) (b := xs.length) (by unfold gl_cap at h3; omega) (gl_31 h80)) z⟩
    unfold wb_J2_grow_2_20
    rw [nI_1]
    refine ls_newLength (by unfold gl_cap at h3; omega) (by omega) (gs_GR h1 rfl ?_)
    refine ls_copyOf (ln := l + 1) h2.1 (Nat.succ_ne_zero l) (Nat.succ_ne_zero l) h73.1.le h80 (fun i hi hic y hy => ?_) (fun q hq => gs_PV (gu_new hq h1) hl (Nat.le_of_ble_eq_true rfl) ?_)
    · rw [h2.2.2 i hic] at hy
      cases hy
      exact ho _ (List.getElem_mem hic)
    · refine k q _ _ hq h73.1 h73.2 (fun i hi => ?_)
      rw [if_pos ⟨by omega, hi⟩]
      exact h2.2.2 i hi
theorem ls_store {κ : Nat → Nat} {l a b cap x : Nat} {mc : Int32} {f : Nat → Option Nat} {xs : List Nat} {h : gh_H} {Q : gh_H → Prop} {X : String → gh_H → Prop} (h1 : h a = some (l, .inr (8, [.int mc, va_rf (some b), .int (nI xs.length)]))) (h2 : LA h (l + 1) b cap f xs) (hl : l ≠ 0) (hc : xs.length < cap) (h80 : cap ≤ 80) (hx : OB h x)
    (k : Q (gh_up (gh_up h b (l + 1, .inl (4, cap, gu_r (va_up f xs.length (some x))))) a (l, .inr (8, [.int mc, va_rf (some b), .int (nI (xs ++ [x]).length)])))) : wb_J2_add_2_11 κ Q X a (some x) (some b) (nI xs.length) h := by
  unfold wb_J2_add_2_11
  refine gs_SR h2.1 (Nat.succ_ne_zero l) hc (gl_31 h80) (fun y hy => by cases hy; exact hx) (gs_PV (gu_of h2.1 h1 (fun z => by cases z)) hl (Nat.le_of_ble_eq_true rfl) ?_)
  rw [nI_1]
  rw [List.length_append] at k
  exact k
theorem ls_add {κ : Nat → Nat} {l a x : Nat} {xs : List Nat} {h : gh_H} {Q : Int32 → gh_H → Prop} {X : String → gh_H → Prop} (C : CN0 κ h) (L : GL κ l a xs h) (hl : l ≠ 0) (hn : xs.length < 73) (ho : ∀ y ∈ xs, OB h y) (hx : OB h x) (k : ∀ h', Only (fun t => t = l ∨ t = l + 1) h h' → GL κ l a (xs ++ [x]) h' → Q 1 h') : wp_J2_add κ a (some x) Q X h := by
  obtain ⟨mc, b, h1, h2⟩ := L
  have hos : ∀ (vs : List Value) (ci : Nat) (fs : List Value), (Sum.inr (8, vs) : gh_C) = .inr (ci, fs) → ci ∉ gh_os := fun vs ci fs z => by cases z; decide
  unfold wp_J2_add
  refine gs_GI h1 rfl (gs_PV h1 hl (Nat.le_of_ble_eq_true rfl) ?_)
  have e1 := gu_self h a (l, .inr (8, [.int (mc + 1), va_rf (some b), .int (nI xs.length)]))
  have o1 : Only (fun t => t = l ∨ t = l + 1) h (gh_up h a (l, .inr (8, [.int (mc + 1), va_rf (some b), .int (nI xs.length)]))) := Only.up h1 (Or.inl rfl)
  have ho1 : ∀ y ∈ xs, OB (gh_up h a (l, .inr (8, [.int (mc + 1), va_rf (some b), .int (nI xs.length)]))) y := fun y hy => (ho y hy).up h1 (hos _)
  have hx1 : OB (gh_up h a (l, .inr (8, [.int (mc + 1), va_rf (some b), .int (nI xs.length)]))) x := hx.up h1 (hos _)
  refine gs_GR e1 rfl (gs_GI e1 rfl (gs_RC e1 ?_))
  have C1 : CN0 κ (gh_up h a (l, .inr (8, [.int (mc + 1), va_rf (some b), .int (nI xs.length)]))) := gu_of h1 C (fun z => by cases z)
  have grow : ((xs = [] ∧ b = κ 0) ∨ ∃ f, LA h (l + 1) b xs.length f xs ∧ gl_cap xs.length) → wp_J2_grow κ a (fun r3 h4 => wb_J2_add_2_11 κ (fun h6 => narrow .boolean (.int (1 : Int32)) = .int (1 : Int32) ∧ Q 1 h6) X a (some x) r3 (nI xs.length) h4) X (gh_up h a (l, .inr (8, [.int (mc + 1), va_rf (some b), .int (nI xs.length)]))) := by
    intro hg
    refine ls_grow C1 e1 ?_ hl hn ho1 (fun q cap f hq hc hlt hf => ?_)
    · rcases hg with hg | ⟨f, hg, hg2⟩
      · exact Or.inl hg
      · exact Or.inr ⟨f, ⟨gu_of h1 hg.1 (fun z => by cases z), hg.2⟩, hg2⟩
    · have eq : gh_up (gh_up (gh_up h a (l, .inr (8, [.int (mc + 1), va_rf (some b), .int (nI xs.length)]))) q (l + 1, .inl (4, cap, gu_r f))) a (l, .inr (8, [.int (mc + 1), va_rf (some q), .int (nI xs.length)])) q = some (l + 1, .inl (4, cap, gu_r f)) := by
        rw [gu_ne (fun z => by rw [z, e1] at hq; cases hq)]
        exact gu_self _ _ _
      have eo : Only (fun t => t = l ∨ t = l + 1) h (gh_up (gh_up (gh_up h a (l, .inr (8, [.int (mc + 1), va_rf (some b), .int (nI xs.length)]))) q (l + 1, .inl (4, cap, gu_r f))) a (l, .inr (8, [.int (mc + 1), va_rf (some q), .int (nI xs.length)]))) := (o1.trans (Only.new hq)).trans (Only.up (gu_new hq e1) (Or.inl rfl))
      refine ls_store (gu_self _ _ _) ⟨eq, Nat.le_of_lt hlt, hf⟩ hl hlt hc.le ?_ ⟨nb1, k _ ?_ ?_⟩
      · exact (hx1.new hq).up (gu_new hq e1) (hos _)
      · exact (eo.trans (Only.up eq (Or.inr rfl))).trans (Only.up (gu_of eq (gu_self _ _ _) (fun z => by cases z)) (Or.inl rfl))
      · refine ⟨mc + 1, q, gu_self _ _ _, Or.inr ⟨cap, va_up f xs.length (some x), ⟨?_, ?_, ?_⟩, hc⟩⟩
        · rw [gu_ne (fun z => by rw [z] at eq; rw [gu_self] at eq; cases eq)]
          exact gu_self _ _ _
        · rw [List.length_append]
          exact hlt
        · exact va_app hf
  unfold wp_J2_add_2
  rcases h2 with ⟨rfl, rfl⟩ | ⟨cap, f, h2, h3⟩
  · exact gs_LN C1 ⟨fun _ => gs_RC e1 (grow (Or.inl ⟨rfl, rfl⟩)), fun z => absurd rfl z⟩
  · have h2' : gh_up h a (l, .inr (8, [.int (mc + 1), va_rf (some b), .int (nI xs.length)])) b = some (l + 1, .inl (4, cap, gu_r f)) := gu_of h1 h2.1 (fun z => by cases z)
    have h80 := h3.le
    refine gs_LN h2' ⟨fun z => gs_RC e1 (grow (Or.inr ⟨f, ?_⟩)), fun z => ?_⟩
    · have : xs.length = cap := (nI_eq (gl_31 (Nat.le_trans h2.2.1 h80)) (gl_31 h80)).mp z
      rw [this]
      exact ⟨h2, h3⟩
    · have hlt : xs.length < cap := Nat.lt_of_le_of_ne h2.2.1 (fun w => z (by rw [w]))
      refine ls_store e1 ⟨h2', h2.2⟩ hl hlt h80 hx1 ⟨nb1, k _ ?_ ?_⟩
      · exact (o1.trans (Only.up h2' (Or.inr rfl))).trans (Only.up (gu_of h2' e1 (fun z => by cases z)) (Or.inl rfl))
      · refine ⟨mc + 1, b, gu_self _ _ _, Or.inr ⟨cap, va_up f xs.length (some x), ⟨?_, ?_, ?_⟩, h3⟩⟩
        · rw [gu_ne (fun z => by rw [z] at h2'; rw [gu_self] at h2'; cases h2')]
          exact gu_self _ _ _
        · rw [List.length_append]
          exact hlt
        · exact va_app h2.2.2
