/-! THE TREE, part A: shapes. N: the entries; ix: an entry's place in the order; lo, hi: the places that lie below it -/
set_option maxRecDepth 100000
def sO {α : Type} (f : Nat → α) (k : Nat) (v : α) : Nat → α := fun i => if i = k then v else f i
theorem sO_self {α : Type} (f : Nat → α) (k : Nat) (v : α) : sO f k v k = v := if_pos rfl
theorem sO_ne {α : Type} {f : Nat → α} {k i : Nat} {v : α} (h : i ≠ k) : sO f k v i = f i := if_neg h
def TI (N : Nat → Prop) (n : Nat) (rt : Option Nat) (lf rg pa : Nat → Option Nat) (ix lo hi : Nat → Nat) : Prop :=
  (∀ x, N x → lo x ≤ ix x ∧ ix x < hi x ∧ hi x ≤ n) ∧
  (∀ x, N x → lf x = none → lo x = ix x) ∧
  (∀ x y, N x → lf x = some y → N y ∧ pa y = some x ∧ lo y = lo x ∧ hi y = ix x) ∧
  (∀ x, N x → rg x = none → hi x = ix x + 1) ∧
  (∀ x y, N x → rg x = some y → N y ∧ pa y = some x ∧ lo y = ix x + 1 ∧ hi y = hi x) ∧
  (∀ x p, N x → pa x = some p → N p ∧ (lf p = some x ∨ rg p = some x)) ∧
  (∀ x, N x → pa x = none → rt = some x) ∧
  (rt = none → n = 0 ∧ ∀ x, ¬ N x) ∧
  (∀ r, rt = some r → N r ∧ pa r = none ∧ lo r = 0 ∧ hi r = n) ∧
  (∀ x y, N x → N y → ix x = ix y → x = y)
/-- a rotation to the left at p, whose right child is r -/
def RL (p r : Nat) (rt : Option Nat) (lf rg pa : Nat → Option Nat) (rt' : Option Nat) (lf' rg' pa' : Nat → Option Nat) : Prop :=
  lf' r = some p ∧ rg' p = lf r ∧ pa' p = some r ∧ pa' r = pa p ∧
  (∀ b, lf r = some b → pa' b = some p) ∧ (∀ z, z ≠ p → z ≠ r → lf r ≠ some z → pa' z = pa z) ∧
  (pa p = none → rt' = some r) ∧ (pa p ≠ none → rt' = rt) ∧
  (∀ g, pa p = some g → lf g = some p → lf' g = some r) ∧ (∀ z, z ≠ r → ¬ (pa p = some z ∧ lf z = some p) → lf' z = lf z) ∧
  (∀ g, pa p = some g → lf g ≠ some p → rg' g = some r) ∧ (∀ z, z ≠ p → ¬ (pa p = some z ∧ lf z ≠ some p) → rg' z = rg z)
/-- a rotation to the right at p, whose left child is l -/
def RR (p l : Nat) (rt : Option Nat) (lf rg pa : Nat → Option Nat) (rt' : Option Nat) (lf' rg' pa' : Nat → Option Nat) : Prop :=
  rg' l = some p ∧ lf' p = rg l ∧ pa' p = some l ∧ pa' l = pa p ∧
  (∀ b, rg l = some b → pa' b = some p) ∧ (∀ z, z ≠ p → z ≠ l → rg l ≠ some z → pa' z = pa z) ∧
  (pa p = none → rt' = some l) ∧ (pa p ≠ none → rt' = rt) ∧
  (∀ g, pa p = some g → rg g = some p → rg' g = some l) ∧ (∀ z, z ≠ l → ¬ (pa p = some z ∧ rg z = some p) → rg' z = rg z) ∧
  (∀ g, pa p = some g → rg g ≠ some p → lf' g = some l) ∧ (∀ z, z ≠ p → ¬ (pa p = some z ∧ rg z ≠ some p) → lf' z = lf z)
section
variable {N : Nat → Prop} {n : Nat} {rt rt' : Option Nat} {lf rg pa lf' rg' pa' : Nat → Option Nat} {ix lo hi : Nat → Nat}
/-- a left and a right child are apart -/
theorem TI.lr (T : TI N n rt lf rg pa ix lo hi) {x y : Nat} (hx : N x) (h1 : lf x = some y) : rg x ≠ some y := by
  intro h2
  obtain ⟨t1, -, t3, -, t5, -⟩ := T
  have a := t3 x y hx h1
  have b := t5 x y hx h2
  have c := t1 x hx
  omega
theorem RL.ti {p r : Nat} (T : TI N n rt lf rg pa ix lo hi) (hp : N p) (hr : rg p = some r) (R : RL p r rt lf rg pa rt' lf' rg' pa') : TI N n rt' lf' rg' pa' ix (sO lo r (lo p)) (sO hi p (ix r)) := by
  obtain ⟨t1, t2, t3, t4, t5, t6, t7, t8, t9, t10⟩ := T
  obtain ⟨r1, r2, r3, r4, r5, r6, r7, r8, r9, r10, r11, r12⟩ := R
  have hr0 := t5 p r hp hr
  have hp1 := t1 p hp
  have hr1 := t1 r hr0.1
  have hpr : p ≠ r := by intro z; subst z; omega
  have hb : (lf r = none ∧ lo r = ix r ∧ ∀ z, z ≠ p → z ≠ r → pa' z = pa z) ∨ ∃ b, lf r = some b ∧ N b ∧ pa b = some r ∧ lo b = lo r ∧ hi b = ix r ∧ b ≠ p ∧ b ≠ r ∧ pa' b = some p ∧ ∀ z, z ≠ p → z ≠ r → z ≠ b → pa' z = pa z := by
    cases e : lf r with
    | none => exact Or.inl ⟨rfl, t2 r hr0.1 e, fun z h1 h2 => r6 z h1 h2 (by rw [e]; exact fun w => nomatch w)⟩
    | some b =>
      have hb0 := t3 r b hr0.1 e
      have hb1 := t1 b hb0.1
      exact Or.inr ⟨b, rfl, hb0.1, hb0.2.1, hb0.2.2.1, hb0.2.2.2, (by intro z; subst z; omega), (by intro z; subst z; omega), r5 b e, fun z h1 h2 h3 => r6 z h1 h2 (by rw [e]; exact fun w => h3 (Option.some.inj w).symm)⟩
  have hg : (pa p = none ∧ rt' = some r ∧ rt = some p ∧ (∀ z, z ≠ r → lf' z = lf z) ∧ ∀ z, z ≠ p → rg' z = rg z) ∨
      (∃ g, pa p = some g ∧ rt' = rt ∧ N g ∧ g ≠ p ∧ g ≠ r ∧ lf g = some p ∧ lf' g = some r ∧ (∀ z, z ≠ r → z ≠ g → lf' z = lf z) ∧ ∀ z, z ≠ p → rg' z = rg z) ∨
      (∃ g, pa p = some g ∧ rt' = rt ∧ N g ∧ g ≠ p ∧ g ≠ r ∧ rg g = some p ∧ rg' g = some r ∧ (∀ z, z ≠ r → lf' z = lf z) ∧ ∀ z, z ≠ p → z ≠ g → rg' z = rg z) := by
    cases e : pa p with
    | none => exact Or.inl ⟨rfl, r7 e, t7 p hp e, fun z h1 => r10 z h1 (by rw [e]; exact fun w => nomatch w.1), fun z h1 => r12 z h1 (by rw [e]; exact fun w => nomatch w.1)⟩
    | some g =>
      have hg0 := t6 p g hp e
      have hg1 := t1 g hg0.1
      have e8 : rt' = rt := r8 (by rw [e]; exact fun w => nomatch w)
      have d : g ≠ p ∧ g ≠ r := by
        rcases hg0.2 with w | w
        · have := t3 g p hg0.1 w
          exact ⟨by intro z; subst z; omega, by intro z; subst z; omega⟩
        · have := t5 g p hg0.1 w
          exact ⟨by intro z; subst z; omega, by intro z; subst z; omega⟩
      by_cases w : lf g = some p
      · exact Or.inr (Or.inl ⟨g, rfl, e8, hg0.1, d.1, d.2, w, r9 g e w, fun z h1 h2 => r10 z h1 (fun q => h2 (by rw [e] at q; exact (Option.some.inj q.1).symm)), fun z h1 => r12 z h1 (fun q => by rw [e] at q; have := Option.some.inj q.1; subst this; exact q.2 w)⟩)
      · exact Or.inr (Or.inr ⟨g, rfl, e8, hg0.1, d.1, d.2, hg0.2.resolve_left w, r11 g e w, fun z h1 => r10 z h1 (fun q => by rw [e] at q; have := Option.some.inj q.1; subst this; exact w q.2), fun z h1 h2 => r12 z h1 (fun q => h2 (by rw [e] at q; exact (Option.some.inj q.1).symm))⟩)
  clear r5 r6 r7 r8 r9 r10 r11 r12
  unfold sO
  rcases hb with ⟨b1, b2, b3⟩ | ⟨b, b1, b2, b3, b4, b5, b6, b7, b8, b9⟩ <;> rcases hg with ⟨g1, g2, g3, g4, g5⟩ | ⟨g, g1, g2, g3, g4, g5, g6, g7, g8, g9⟩ | ⟨g, g1, g2, g3, g4, g5, g6, g7, g8, g9⟩ <;> refine ⟨?_, ?_, ?_, ?_, ?_, ?_, ?_, ?_, ?_, t10⟩ <;> grind (splits := 25) (ematch := 12) (instances := 4000)
theorem RR.ti {p r : Nat} (T : TI N n rt lf rg pa ix lo hi) (hp : N p) (hr : lf p = some r) (R : RR p r rt lf rg pa rt' lf' rg' pa') : TI N n rt' lf' rg' pa' ix (sO lo p (ix r + 1)) (sO hi r (hi p)) := by
  obtain ⟨t1, t2, t3, t4, t5, t6, t7, t8, t9, t10⟩ := T
  obtain ⟨r1, r2, r3, r4, r5, r6, r7, r8, r9, r10, r11, r12⟩ := R
  have hr0 := t3 p r hp hr
  have hp1 := t1 p hp
  have hr1 := t1 r hr0.1
  have hpr : p ≠ r := by intro z; subst z; omega
  have hb : (rg r = none ∧ hi r = ix r + 1 ∧ ∀ z, z ≠ p → z ≠ r → pa' z = pa z) ∨ ∃ b, rg r = some b ∧ N b ∧ pa b = some r ∧ lo b = ix r + 1 ∧ hi b = hi r ∧ b ≠ p ∧ b ≠ r ∧ pa' b = some p ∧ ∀ z, z ≠ p → z ≠ r → z ≠ b → pa' z = pa z := by
    cases e : rg r with
    | none => exact Or.inl ⟨rfl, t4 r hr0.1 e, fun z h1 h2 => r6 z h1 h2 (by rw [e]; exact fun w => nomatch w)⟩
    | some b =>
      have hb0 := t5 r b hr0.1 e
      have hb1 := t1 b hb0.1
      exact Or.inr ⟨b, rfl, hb0.1, hb0.2.1, hb0.2.2.1, hb0.2.2.2, (by intro z; subst z; omega), (by intro z; subst z; omega), r5 b e, fun z h1 h2 h3 => r6 z h1 h2 (by rw [e]; exact fun w => h3 (Option.some.inj w).symm)⟩
  have hg : (pa p = none ∧ rt' = some r ∧ rt = some p ∧ (∀ z, z ≠ r → rg' z = rg z) ∧ ∀ z, z ≠ p → lf' z = lf z) ∨
      (∃ g, pa p = some g ∧ rt' = rt ∧ N g ∧ g ≠ p ∧ g ≠ r ∧ rg g = some p ∧ rg' g = some r ∧ (∀ z, z ≠ r → z ≠ g → rg' z = rg z) ∧ ∀ z, z ≠ p → lf' z = lf z) ∨
      (∃ g, pa p = some g ∧ rt' = rt ∧ N g ∧ g ≠ p ∧ g ≠ r ∧ lf g = some p ∧ lf' g = some r ∧ (∀ z, z ≠ r → rg' z = rg z) ∧ ∀ z, z ≠ p → z ≠ g → lf' z = lf z) := by
    cases e : pa p with
    | none => exact Or.inl ⟨rfl, r7 e, t7 p hp e, fun z h1 => r10 z h1 (by rw [e]; exact fun w => nomatch w.1), fun z h1 => r12 z h1 (by rw [e]; exact fun w => nomatch w.1)⟩
    | some g =>
      have hg0 := t6 p g hp e
      have hg1 := t1 g hg0.1
      have e8 : rt' = rt := r8 (by rw [e]; exact fun w => nomatch w)
      have d : g ≠ p ∧ g ≠ r := by
        rcases hg0.2.symm with w | w
        · have := t5 g p hg0.1 w
          exact ⟨by intro z; subst z; omega, by intro z; subst z; omega⟩
        · have := t3 g p hg0.1 w
          exact ⟨by intro z; subst z; omega, by intro z; subst z; omega⟩
      by_cases w : rg g = some p
      · exact Or.inr (Or.inl ⟨g, rfl, e8, hg0.1, d.1, d.2, w, r9 g e w, fun z h1 h2 => r10 z h1 (fun q => h2 (by rw [e] at q; exact (Option.some.inj q.1).symm)), fun z h1 => r12 z h1 (fun q => by rw [e] at q; have := Option.some.inj q.1; subst this; exact q.2 w)⟩)
      · exact Or.inr (Or.inr ⟨g, rfl, e8, hg0.1, d.1, d.2, hg0.2.resolve_right w, r11 g e w, fun z h1 => r10 z h1 (fun q => by rw [e] at q; have := Option.some.inj q.1; subst this; exact w q.2), fun z h1 h2 => r12 z h1 (fun q => h2 (by rw [e] at q; exact (Option.some.inj q.1).symm))⟩)
  clear r5 r6 r7 r8 r9 r10 r11 r12
  unfold sO
  rcases hb with ⟨b1, b2, b3⟩ | ⟨b, b1, b2, b3, b4, b5, b6, b7, b8, b9⟩ <;> rcases hg with ⟨g1, g2, g3, g4, g5⟩ | ⟨g, g1, g2, g3, g4, g5, g6, g7, g8, g9⟩ | ⟨g, g1, g2, g3, g4, g5, g6, g7, g8, g9⟩ <;> refine ⟨?_, ?_, ?_, ?_, ?_, ?_, ?_, ?_, ?_, t10⟩ <;> grind (splits := 25) (ematch := 12) (instances := 4000)
/-- a new entry at the left of x, which has none there -/
theorem TI.insL {x q : Nat} (T : TI N n rt lf rg pa ix lo hi) (hx : N x) (hl : lf x = none) (hq : ¬ N q) : TI (fun z => z = q ∨ N z) (n + 1) rt (sO (sO lf q none) x (some q)) (sO rg q none) (sO pa q (some x)) (fun z => if z = q then ix x else if ix z < ix x then ix z else ix z + 1) (fun z => if z = q then ix x else if lo z ≤ ix x then lo z else lo z + 1) (fun z => if z = q then ix x + 1 else if hi z ≤ ix x then hi z else hi z + 1) := by
  obtain ⟨t1, t2, t3, t4, t5, t6, t7, t8, t9, t10⟩ := T
  have hx1 := t1 x hx
  have hx2 := t2 x hx hl
  have hne : x ≠ q := by intro z; subst z; exact hq hx
  unfold sO
  refine ⟨?_, ?_, ?_, ?_, ?_, ?_, ?_, ?_, ?_, ?_⟩
  · intro y hy
    grind (splits := 25) (ematch := 12) (instances := 4000)
  · intro y hy
    grind (splits := 25) (ematch := 12) (instances := 4000)
  · intro y z hy
    grind (splits := 25) (ematch := 12) (instances := 4000)
  · intro y hy
    grind (splits := 25) (ematch := 12) (instances := 4000)
  · intro y z hy
    grind (splits := 25) (ematch := 12) (instances := 4000)
  · intro y z hy
    grind (splits := 25) (ematch := 12) (instances := 4000)
  · intro y hy
    grind (splits := 25) (ematch := 12) (instances := 4000)
  · grind (splits := 25) (ematch := 12) (instances := 4000)
  · intro y
    grind (splits := 25) (ematch := 12) (instances := 4000)
  · intro y z hy hz
    grind (splits := 25) (ematch := 12) (instances := 4000)
/-- a new entry at the right of x, which has none there -/
theorem TI.insR {x q : Nat} (T : TI N n rt lf rg pa ix lo hi) (hx : N x) (hl : rg x = none) (hq : ¬ N q) : TI (fun z => z = q ∨ N z) (n + 1) rt (sO lf q none) (sO (sO rg q none) x (some q)) (sO pa q (some x)) (fun z => if z = q then ix x + 1 else if ix z ≤ ix x then ix z else ix z + 1) (fun z => if z = q then ix x + 1 else if lo z ≤ ix x then lo z else lo z + 1) (fun z => if z = q then ix x + 2 else if hi z ≤ ix x then hi z else hi z + 1) := by
  obtain ⟨t1, t2, t3, t4, t5, t6, t7, t8, t9, t10⟩ := T
  have hx1 := t1 x hx
  have hx2 := t4 x hx hl
  have hne : x ≠ q := by intro z; subst z; exact hq hx
  unfold sO
  refine ⟨?_, ?_, ?_, ?_, ?_, ?_, ?_, ?_, ?_, ?_⟩
  · intro y hy
    grind (splits := 25) (ematch := 12) (instances := 4000)
  · intro y hy
    grind (splits := 25) (ematch := 12) (instances := 4000)
  · intro y z hy
    grind (splits := 25) (ematch := 12) (instances := 4000)
  · intro y hy
    grind (splits := 25) (ematch := 12) (instances := 4000)
  · intro y z hy
    grind (splits := 25) (ematch := 12) (instances := 4000)
  · intro y z hy
    grind (splits := 25) (ematch := 12) (instances := 4000)
  · intro y hy
    grind (splits := 25) (ematch := 12) (instances := 4000)
  · grind (splits := 25) (ematch := 12) (instances := 4000)
  · intro y
    grind (splits := 25) (ematch := 12) (instances := 4000)
  · intro y z hy hz
    grind (splits := 25) (ematch := 12) (instances := 4000)
/-- the places behind d move up -/
def dn (d i : Nat) : Nat := if i ≤ d then i else i - 1
/-- a leaf is cut off its parent g -/
theorem TI.delLeaf {z g : Nat} (T : TI N n rt lf rg pa ix lo hi) (hz : N z) (hl : lf z = none) (hr : rg z = none) (hg : pa z = some g) (e1 : lf g = some z → lf' g = none) (e2 : ∀ y, y ≠ z → ¬ (y = g ∧ lf g = some z) → lf' y = lf y) (e3 : lf g ≠ some z → rg' g = none) (e4 : ∀ y, y ≠ z → ¬ (y = g ∧ lf g ≠ some z) → rg' y = rg y) (e5 : ∀ y, y ≠ z → pa' y = pa y) :
    TI (fun y => N y ∧ y ≠ z) (n - 1) rt lf' rg' pa' (fun y => dn (ix z) (ix y)) (fun y => dn (ix z) (lo y)) (fun y => dn (ix z) (hi y)) := by
  obtain ⟨t1, t2, t3, t4, t5, t6, t7, t8, t9, t10⟩ := T
  have hz1 := t1 z hz
  have hz2 := t2 z hz hl
  have hz3 := t4 z hz hr
  have hz4 := t6 z g hz hg
  have hg1 := t1 g hz4.1
  have hgz : g ≠ z := by intro w; subst w; grind
  unfold dn
  refine ⟨?_, ?_, ?_, ?_, ?_, ?_, ?_, ?_, ?_, ?_⟩
  · rintro y ⟨hy, hyz⟩
    grind (splits := 25) (ematch := 12) (instances := 4000)
  · rintro y ⟨hy, hyz⟩
    grind (splits := 25) (ematch := 12) (instances := 4000)
  · rintro y w ⟨hy, hyz⟩
    grind (splits := 25) (ematch := 12) (instances := 4000)
  · rintro y ⟨hy, hyz⟩
    grind (splits := 25) (ematch := 12) (instances := 4000)
  · rintro y w ⟨hy, hyz⟩
    grind (splits := 25) (ematch := 12) (instances := 4000)
  · rintro y w ⟨hy, hyz⟩
    grind (splits := 25) (ematch := 12) (instances := 4000)
  · rintro y ⟨hy, hyz⟩
    grind (splits := 25) (ematch := 12) (instances := 4000)
  · grind (splits := 25) (ematch := 12) (instances := 4000)
  · intro y
    grind (splits := 25) (ematch := 12) (instances := 4000)
  · rintro y w ⟨hy, hyz⟩ ⟨hw, hwz⟩
    grind (splits := 25) (ematch := 12) (instances := 4000)
/-- an entry with one child c is taken out -/
theorem TI.delOne {z c : Nat} (T : TI N n rt lf rg pa ix lo hi) (hz : N z) (hc : (lf z = some c ∧ rg z = none) ∨ (lf z = none ∧ rg z = some c)) (e1 : pa' c = pa z) (e2 : ∀ y, y ≠ z → y ≠ c → pa' y = pa y) (e3 : pa z = none → rt' = some c) (e4 : pa z ≠ none → rt' = rt)
    (e5 : ∀ g, pa z = some g → lf g = some z → lf' g = some c) (e6 : ∀ y, y ≠ z → ¬ (pa z = some y ∧ lf y = some z) → lf' y = lf y) (e7 : ∀ g, pa z = some g → lf g ≠ some z → rg' g = some c) (e8 : ∀ y, y ≠ z → ¬ (pa z = some y ∧ lf y ≠ some z) → rg' y = rg y) :
    TI (fun y => N y ∧ y ≠ z) (n - 1) rt' lf' rg' pa' (fun y => dn (ix z) (ix y)) (fun y => dn (ix z) (lo y)) (fun y => dn (ix z) (hi y)) := by
  obtain ⟨t1, t2, t3, t4, t5, t6, t7, t8, t9, t10⟩ := T
  have hz1 := t1 z hz
  have hc1 : N c ∧ pa c = some z ∧ ((lf z = some c ∧ rg z = none ∧ lo c = lo z ∧ hi c = ix z ∧ hi z = ix z + 1) ∨ (lf z = none ∧ rg z = some c ∧ lo c = ix z + 1 ∧ hi c = hi z ∧ lo z = ix z)) := by grind
  have hcz : c ≠ z := by intro w; subst w; grind
  have hc2 := t1 c hc1.1
  have hg : (pa z = none ∧ rt' = some c ∧ rt = some z ∧ (∀ y, y ≠ z → lf' y = lf y) ∧ ∀ y, y ≠ z → rg' y = rg y) ∨
      (∃ g, pa z = some g ∧ rt' = rt ∧ N g ∧ g ≠ z ∧ g ≠ c ∧ lf g = some z ∧ lf' g = some c ∧ (∀ y, y ≠ z → y ≠ g → lf' y = lf y) ∧ ∀ y, y ≠ z → rg' y = rg y) ∨
      (∃ g, pa z = some g ∧ rt' = rt ∧ N g ∧ g ≠ z ∧ g ≠ c ∧ rg g = some z ∧ rg' g = some c ∧ (∀ y, y ≠ z → lf' y = lf y) ∧ ∀ y, y ≠ z → y ≠ g → rg' y = rg y) := by
    cases e : pa z with
    | none => exact Or.inl ⟨rfl, e3 e, t7 z hz e, fun y h1 => e6 y h1 (by rw [e]; exact fun w => nomatch w.1), fun y h1 => e8 y h1 (by rw [e]; exact fun w => nomatch w.1)⟩
    | some g =>
      have hg0 := t6 z g hz e
      have hg1 := t1 g hg0.1
      have e4' : rt' = rt := e4 (by rw [e]; exact fun w => nomatch w)
      have d : g ≠ z ∧ g ≠ c := by
        rcases hg0.2 with w | w
        · have := t3 g z hg0.1 w
          exact ⟨by intro q; subst q; omega, by intro q; subst q; omega⟩
        · have := t5 g z hg0.1 w
          exact ⟨by intro q; subst q; omega, by intro q; subst q; omega⟩
      by_cases w : lf g = some z
      · exact Or.inr (Or.inl ⟨g, rfl, e4', hg0.1, d.1, d.2, w, e5 g e w, fun y h1 h2 => e6 y h1 (fun q => h2 (by rw [e] at q; exact (Option.some.inj q.1).symm)), fun y h1 => e8 y h1 (fun q => by rw [e] at q; have := Option.some.inj q.1; subst this; exact q.2 w)⟩)
      · exact Or.inr (Or.inr ⟨g, rfl, e4', hg0.1, d.1, d.2, hg0.2.resolve_left w, e7 g e w, fun y h1 => e6 y h1 (fun q => by rw [e] at q; have := Option.some.inj q.1; subst this; exact w q.2), fun y h1 h2 => e8 y h1 (fun q => h2 (by rw [e] at q; exact (Option.some.inj q.1).symm))⟩)
  clear e3 e4 e5 e6 e7 e8 hc
  unfold dn
  obtain ⟨c1, c2, c3⟩ := hc1
  rcases c3 with c3 | c3 <;> rcases hg with ⟨g1, g2, g3, g4, g5⟩ | ⟨g, g1, g2, g3, g4, g5, g6, g7, g8, g9⟩ | ⟨g, g1, g2, g3, g4, g5, g6, g7, g8, g9⟩ <;> refine ⟨?_, ?_, ?_, ?_, ?_, ?_, ?_, ?_, ?_, ?_⟩ <;> grind (splits := 25) (ematch := 12) (instances := 4000)
/-- the last entry goes -/
theorem TI.delRoot {z : Nat} (T : TI N n rt lf rg pa ix lo hi) (hz : N z) (hl : lf z = none) (hr : rg z = none) (hg : pa z = none) : n = 1 ∧ (∀ y, N y → y = z) ∧ TI (fun y => N y ∧ y ≠ z) 0 none lf' rg' pa' (fun y => dn (ix z) (ix y)) (fun y => dn (ix z) (lo y)) (fun y => dn (ix z) (hi y)) := by
  obtain ⟨t1, t2, t3, t4, t5, t6, t7, t8, t9, t10⟩ := T
  have hz1 := t1 z hz
  have hz2 := t2 z hz hl
  have hz3 := t4 z hz hr
  have hz4 := t9 z (t7 z hz hg)
  have hn : n = 1 := by omega
  have hall : ∀ y, N y → y = z := fun y hy => t10 y z hy hz (by have := t1 y hy; omega)
  refine ⟨hn, hall, ?_⟩
  refine ⟨?_, ?_, ?_, ?_, ?_, ?_, ?_, ?_, ?_, ?_⟩
  · exact fun y hy => absurd (hall y hy.1) hy.2
  · exact fun y hy => absurd (hall y hy.1) hy.2
  · exact fun y w hy => absurd (hall y hy.1) hy.2
  · exact fun y hy => absurd (hall y hy.1) hy.2
  · exact fun y w hy => absurd (hall y hy.1) hy.2
  · exact fun y w hy => absurd (hall y hy.1) hy.2
  · exact fun y hy => absurd (hall y hy.1) hy.2
  · exact fun _ => ⟨rfl, fun y hy => hy.2 (hall y hy.1)⟩
  · exact fun r hr => nomatch hr
  · exact fun y w hy => absurd (hall y hy.1) hy.2
end
