/-! PLAIN LAW, part MJ: bind on the desk -/
set_option maxRecDepth 100000
/-- r sheets' stocks are less by v -/
def btS (s : Nat → Nat) (j v : Nat) : Nat → Nat → Nat
  | 0 => s
  | r + 1 => sU (btS s j v r) (300 + (8 * j + r)) (s (300 + (8 * j + r)) - v)
theorem btS_out {s : Nat → Nat} {j v : Nat} : ∀ {r i : Nat}, (i < 300 + 8 * j ∨ 300 + 8 * j + r ≤ i) → btS s j v r i = s i
  | 0, _, _ => rfl
  | r + 1, i, h => by
    unfold btS
    rw [sU_ne (by omega)]
    exact btS_out (by omega)
theorem btS_le {s : Nat → Nat} {j v : Nat} (h : ∀ i, i < 32 → s (300 + i) ≤ 9999) (hj : j < 4) : ∀ (r : Nat), r ≤ 8 → ∀ i, i < 32 → btS s j v r (300 + i) ≤ 9999
  | 0, _ => h
  | r + 1, hr => fun i hi => by
    have := h (8 * j + r) (by omega)
    unfold btS sU
    split
    · omega
    · exact btS_le h hj r (by omega) i hi
theorem btS_sZ {s : Nat → Nat} {j v r : Nat} (hj : j < 4) (hr : r ≤ 8) : sZ s (btS s j v r) := fun i hi => btS_out (by omega)
theorem btS_IV {s : Nat → Nat} {j v r : Nat} (I : IV s) (hj : j < 4) (hr : r ≤ 8) : IV (btS s j v r) := sZ_IV (btS_sZ hj hr) (btS_le I.2.2.2.2.2.2.1 hj r hr) I
/-- a new lot of job j, its first k states told -/
def ltK (s : Nat → Nat) (j v k : Nat) : Nat → Nat := fun i => if i = 500 + s 3 then j else if i = 600 + s 3 then v else if i = 700 + s 3 then s (130 + j) else if 6000 + 16 * s 3 ≤ i ∧ i < 6000 + 16 * s 3 + k then s (100 + s (200 + (16 * j + (i - (6000 + 16 * s 3))))) else s i
def ltS (s : Nat → Nat) (j v : Nat) : Nat → Nat := sU (ltK s j v (s (130 + j))) 3 (s 3 + 1)
theorem ltK_ne {s : Nat → Nat} {j v k i : Nat} (h1 : i ≠ 500 + s 3) (h2 : i ≠ 600 + s 3) (h3 : i ≠ 700 + s 3) (h4 : i < 6000 + 16 * s 3 ∨ 6000 + 16 * s 3 + k ≤ i) : ltK s j v k i = s i := by
  unfold ltK
  rw [if_neg h1, if_neg h2, if_neg h3, if_neg (by omega)]
theorem ltS_ne {s : Nat → Nat} {j v i : Nat} (h0 : i ≠ 3) (h1 : i ≠ 500 + s 3) (h2 : i ≠ 600 + s 3) (h3 : i ≠ 700 + s 3) (h4 : i < 6000 + 16 * s 3 ∨ 6000 + 16 * s 3 + s (130 + j) ≤ i) : ltS s j v i = s i := by
  unfold ltS
  rw [sU_ne h0]
  exact ltK_ne h1 h2 h3 h4
theorem ltS_3 {s : Nat → Nat} {j v : Nat} : ltS s j v 3 = s 3 + 1 := sU_self _ _ _
theorem ltS_5 {s : Nat → Nat} {j v : Nat} : ltS s j v (500 + s 3) = j := by
  unfold ltS ltK
  rw [sU_ne (by omega), if_pos rfl]
theorem ltS_6 {s : Nat → Nat} {j v : Nat} (h : s 3 < 100) : ltS s j v (600 + s 3) = v := by
  unfold ltS ltK
  rw [sU_ne (by omega), if_neg (by omega), if_pos rfl]
theorem ltS_7 {s : Nat → Nat} {j v : Nat} (h : s 3 < 100) : ltS s j v (700 + s 3) = s (130 + j) := by
  unfold ltS ltK
  rw [sU_ne (by omega), if_neg (by omega), if_neg (by omega), if_pos rfl]
theorem ltS_8 {s : Nat → Nat} {j v i : Nat} (h : s 3 < 100) (hi : i < s (130 + j)) : ltS s j v (6000 + (16 * s 3 + i)) = s (100 + s (200 + (16 * j + i))) := by
  unfold ltS ltK
  rw [sU_ne (by omega), if_neg (by omega), if_neg (by omega), if_neg (by omega), if_pos (by omega), show 6000 + (16 * s 3 + i) - (6000 + 16 * s 3) = i by omega]
theorem ltK_0 {s : Nat → Nat} {j v : Nat} (h : s 3 < 100) : sU (sU (sU s (500 + s 3) j) (600 + s 3) v) (700 + s 3) (s (130 + j)) = ltK s j v 0 := by
  funext i
  unfold sU ltK
  by_cases h1 : i = 500 + s 3
  · rw [if_neg (show i ≠ 700 + s 3 by omega), if_neg (show i ≠ 600 + s 3 by omega), if_pos h1, if_pos h1]
  · by_cases h2 : i = 600 + s 3
    · rw [if_neg (show i ≠ 700 + s 3 by omega), if_pos h2, if_neg h1, if_pos h2]
    · by_cases h3 : i = 700 + s 3
      · rw [if_pos h3, if_neg h1, if_neg h2, if_pos h3]
      · rw [if_neg h3, if_neg h2, if_neg h1, if_neg h1, if_neg h2, if_neg h3, if_neg (by omega)]
theorem ltK_s {s : Nat → Nat} {j v k : Nat} (h : s 3 < 100) : sU (ltK s j v k) (6000 + (16 * s 3 + k)) (s (100 + s (200 + (16 * j + k)))) = ltK s j v (k + 1) := by
  funext i
  unfold sU
  by_cases h1 : i = 6000 + (16 * s 3 + k)
  · rw [if_pos h1]
    unfold ltK
    rw [if_neg (by omega), if_neg (by omega), if_neg (by omega), if_pos (by omega), show i - (6000 + 16 * s 3) = k by omega]
  · rw [if_neg h1]
    unfold ltK
    by_cases h5 : i = 500 + s 3
    · rw [if_pos h5, if_pos h5]
    · by_cases h6 : i = 600 + s 3
      · rw [if_neg h5, if_pos h6, if_neg h5, if_pos h6]
      · by_cases h7 : i = 700 + s 3
        · rw [if_neg h5, if_neg h6, if_pos h7, if_neg h5, if_neg h6, if_pos h7]
        · rw [if_neg h5, if_neg h6, if_neg h7, if_neg h5, if_neg h6, if_neg h7]
          by_cases h8 : 6000 + 16 * s 3 ≤ i ∧ i < 6000 + 16 * s 3 + k
          · rw [if_pos h8, if_pos (by omega)]
          · rw [if_neg h8, if_neg (by omega)]
theorem LOT_cg3 {κ ca la la' s s' : Nat → Nat} {k : Nat} {h : gh_H} (q : ∀ i, i = 600 + k ∨ i = 700 + k ∨ (6000 + 16 * k ≤ i ∧ i < 6016 + 16 * k) → s' i = s i) (hp : s (700 + k) ≤ 16) (hl : ∀ i, i < s (700 + k) → lCt s' k i = lCt s k i) (hla : la' k = la k) (L : LOT κ ca la s k h) : LOT κ ca la' s' k h := by
  obtain ⟨ac, ar, f, e1, e2, e3, e4⟩ := L
  have q7 : s' (700 + k) = s (700 + k) := q _ (by omega)
  refine ⟨ac, ar, f, ?_, ?_, ?_, fun i hi => ?_⟩
  · rw [q _ (by omega), hla]
    exact e1
  · rw [q7, show (List.range (s (700 + k))).map (fun i => ca (lCt s' k i)) = (List.range (s (700 + k))).map (fun i => ca (lCt s k i)) from List.map_congr_left (fun i hi => congrArg ca (hl i (List.mem_range.mp hi)))]
    exact e2
  · rw [q7]
    exact e3
  · rw [q7] at hi
    rw [q _ (by omega)]
    exact e4 i hi
theorem LOT.keep2 {κ ca la s : Nat → Nat} {k : Nat} {h h' : gh_H} {S : Nat → Prop} (L : LOT κ ca la s k h) (o : Only S h h') (n : ∀ t, 1000 + 10 * k ≤ t → t < 1010 + 10 * k → ¬ S t) : LOT κ ca la s k h' := by
  obtain ⟨ac, ar, f, h1, h2, h3, h4⟩ := L
  exact ⟨ac, ar, f, o _ _ _ h1 (n _ (by omega) (by omega)), h2.keep o (n _ (by omega) (by omega)) (n _ (by omega) (by omega)), o _ _ _ h3 (n _ (by omega) (by omega)), h4⟩
theorem ltS_lCt {s : Nat → Nat} {j v k i : Nat} (I : IV s) (J : IW s) (hk : k < s 3) (hi : i < s (700 + k)) : lCt (ltS s j v) k i = lCt s k i := by
  have i2 := I.2.1
  have j3 := J.1
  have l3 := J.2.2.2.2.2.2.2.2 k hk
  have l4 := ltp16 I J hk
  unfold lCt
  rw [ltS_ne (i := 500 + k) (by omega) (by omega) (by omega) (by omega) (by omega)]
  exact ltS_ne (by omega) (by omega) (by omega) (by omega) (by omega)
/-- a lot's labels -/
def Lo (k t : Nat) : Prop := 1000 + 10 * k ≤ t ∧ t < 1010 + 10 * k
section
variable {κ bd ca ja la A : Nat → Nat} {T : Nat → gh_H → Prop} {d : Nat} {s : Nat → Nat} {ev : List Nat} {h h' : gh_H} {X : String → gh_H → Prop}
theorem DP.lot {q j v : Nat} (P : DP κ bd ca ja la A T d s ev h) (hT : TK T) (I : IV s) (J : IW s) (E : IE s ev) (hj : j < s 2) (o : Only (fun t => Lo (s 3) t ∨ t = 8 ∨ t = 9) h h') (G : GL κ 8 (A 3) ((List.range (s 3)).map la ++ [q]) h') (Lt : LOT κ ca (fun i => if i = s 3 then q else la i) (ltS s j v) (s 3) h') : DP κ bd ca ja (fun i => if i = s 3 then q else la i) A T d (ltS s j v) ev h' := by
  have h1 := I.1
  have h2 := I.2.1
  have j3 := J.1
  have hp := (I.2.2.1 j (by omega)).2
  obtain ⟨p1, p2, p3, p4, p5, ⟨xs, p6, p6b⟩, p7, p8, p9, p10, ⟨f, p11, p12⟩, p13⟩ := P
  have lw : ∀ i, i < 500 → i ≠ 3 → ltS s j v i = s i := fun i hi h3 => ltS_ne h3 (by omega) (by omega) (by omega) (by omega)
  unfold DP DKf pbV
  rw [lw 1 (by decide) (by decide), lw 2 (by decide) (by decide), ltS_3, lw 5 (by decide) (by decide), lw 6 (by decide) (by decide), lw 7 (by decide) (by decide), lw 8 (by decide) (by decide), lw 9 (by decide) (by decide), lw 10 (by decide) (by decide), lw 11 (by decide) (by decide)]
  refine ⟨o _ _ _ p1 (by unfold Lo; omega), p2.keep o (by unfold Lo; omega) (by unfold Lo; omega), fun c hc => ?_, p4.keep o (by unfold Lo; omega) (by unfold Lo; omega), fun i hi => ?_, ⟨xs, p6.keep o (by unfold Lo; omega) (by unfold Lo; omega), ?_⟩, ?_, fun k hk => ?_, o _ _ _ p9 (by unfold Lo; omega), o _ _ _ p10 (by unfold Lo; omega), ⟨f, o _ _ _ p11 (by unfold Lo; omega), p12⟩, hT _ _ _ _ o (by unfold Lo; omega) (fun t a b => by unfold Lo; omega) p13⟩
  · rw [lw 1 (by decide) (by decide)] at hc
    rw [lw (100 + c) (by omega) (by omega), lw (340 + c) (by omega) (by omega)]
    exact o _ _ _ (p3 c hc) (by unfold Lo; omega)
  · exact JP_cg3 (fun t ht => lw t (by omega) (by omega)) (I.2.2.1 i (by omega)).2 ((p5 i hi).keep o (fun t a b => by unfold Lo; omega))
  · have E2 := p6b.keep o (by unfold Lo; omega)
    refine ⟨E2.1, fun i hi hx => ⟨(E2.2 i hi hx).1, fun w => ?_⟩⟩
    have := (E.1 _ (List.getElem_mem hi)).2 w
    show xs[i] = if ev[i] / 2 = s 3 then q else la (ev[i] / 2)
    rw [if_neg (by omega)]
    exact (E2.2 i hi hx).2 w
  · rw [rg_succ]
    have e1 : (List.range (s 3)).map (fun i => if i = s 3 then q else la i) = (List.range (s 3)).map la := List.map_congr_left (fun i hi => if_neg (by have := List.mem_range.mp hi; omega))
    rw [e1]
    show GL κ 8 (A 3) ((List.range (s 3)).map la ++ [if s 3 = s 3 then q else la (s 3)]) h'
    rw [if_pos rfl]
    exact G
  · by_cases e : k = s 3
    · rw [e]
      exact Lt
    · have hk3 : k < s 3 := by omega
      have l3 := J.2.2.2.2.2.2.2.2 k hk3
      have l4 := ltp16 I J hk3
      exact LOT_cg3 (fun i hi => ltS_ne (by omega) (by omega) (by omega) (by omega) (by omega)) l4 (fun i hi => ltS_lCt I J hk3 hi) (if_neg e) ((p8 k hk3).keep2 o (fun t a b => by unfold Lo; omega))
/-- a lot is made out of a list of pages -/
theorem lt_init {q j v l ag : Nat} {mc : Int32} {x y z : Value} {Q : gh_H → Prop} (e : h q = some (1000 + 10 * l, .inr (6, [x, y, z]))) (hj : j < 4) (L : LR κ (101 + 100 * j) ag mc (jpg ca s j) h) (hne : 0 < s (130 + j)) (I : IV s) (Cp : CP ca s h)
    (k : ∀ (h' : gh_H) (ac ar : Nat) (f : Nat → Int32), Only (Lo l) h h' → h' q = some (1000 + 10 * l, .inr (6, [.int (nI v), va_rf (some ac), va_rf (some ar)])) → LR κ (1001 + 10 * l) ac 0 (jpg ca s j) h' → h' ar = some (1003 + 10 * l, .inl (0, s (130 + j), .inl f)) → (∀ i, i < s (130 + j) → f i = nI (s (100 + s (200 + (16 * j + i))))) → Q h') : wp_X10_init κ q (nI v) (some ag) Q X h := by
  have hp := (I.2.2.1 j hj).2
  have h1 := I.1
  have z0 : 1000 + 10 * l ≠ 0 := by omega
  have ob : ∀ (h' : gh_H), CP ca s h' → ∀ y ∈ jpg ca s j, OB h' y := by
    intro h' C y hy
    obtain ⟨i, hi, rfl⟩ := List.mem_map.mp hy
    exact OB.of (C _ (I.2.2.2.2.1 j i hj (List.mem_range.mp hi))) (by decide)
  unfold wp_X10_init
  refine gs_PV e z0 (Nat.le_of_ble_eq_true rfl) ?_
  obtain ⟨g1, eg1⟩ : ∃ g1, g1 = gh_up h q (1000 + 10 * l, .inr (6, [x, y, z].set 0 (.int (nI v)))) := ⟨_, rfl⟩
  rw [← eg1]
  have o1 : Only (fun t => t = 1000 + 10 * l) h g1 := by rw [eg1]; exact Only.up e rfl
  have e1 : g1 q = some (1000 + 10 * l, .inr (6, [.int (nI v), y, z])) := by rw [eg1]; exact gu_self _ _ _
  have L1 := L.keep o1 (by omega) (by omega)
  have C1 := Cp.keep o1 I.1 (fun t a b => by omega)
  refine gs_NO (1001 + 10 * l) (by omega) (fun ac hac => ?_)
  obtain ⟨g2, eg2⟩ : ∃ g2, g2 = gh_up g1 ac (1001 + 10 * l, .inr (8, [.int 0, va_rf none, .int 0])) := ⟨_, rfl⟩
  rw [← eg2]
  have o2 : Only (fun _ => False) g1 g2 := by rw [eg2]; exact Only.new hac
  have e2 : g2 ac = some (1001 + 10 * l, .inr (8, [.int 0, va_rf none, .int 0])) := by rw [eg2]; exact gu_self _ _ _
  have L2 : LR κ (101 + 100 * j) ag mc (jpg ca s j) g2 := L1.keep o2 (fun w => w) (fun w => w)
  have C2 := C1.keep o2 I.1 (fun t a b w => w)
  obtain ⟨al, hal, -⟩ := id L2
  refine ls_copy L2 (fun w => by have := congrArg List.length w; rw [jpg_len] at this; simp at this; omega) (by omega) e2 (lb_ne hal e2 (by omega)) (by omega) (ob g2 C2) (fun g3 o3 L3 => ?_)
  have e3 : g3 q = some (1000 + 10 * l, .inr (6, [.int (nI v), y, z])) := o3 _ _ _ (o2 _ _ _ e1 (fun w => w)) (by omega)
  have C3 := C2.keep o3 I.1 (fun t a b => by omega)
  refine gs_PV e3 z0 (Nat.le_of_ble_eq_true rfl) ?_
  obtain ⟨g4, eg4⟩ : ∃ g4, g4 = gh_up g3 q (1000 + 10 * l, .inr (6, [Value.int (nI v), y, z].set 1 (va_rf (some ac)))) := ⟨_, rfl⟩
  rw [← eg4]
  have o4 : Only (fun t => t = 1000 + 10 * l) g3 g4 := by rw [eg4]; exact Only.up e3 rfl
  have e4 : g4 q = some (1000 + 10 * l, .inr (6, [.int (nI v), va_rf (some ac), z])) := by rw [eg4]; exact gu_self _ _ _
  have L4 : LR κ (1001 + 10 * l) ac 0 (jpg ca s j) g4 := L3.keep o4 (by omega) (by omega)
  have C4 := C3.keep o4 I.1 (fun t a b => by omega)
  obtain ⟨bl, hbl, -⟩ := id L4
  refine gs_GR e4 rfl (gs_RC hbl (ls_size L4 ?_))
  rw [jpg_len]
  refine gs_NA (1003 + 10 * l) (by omega) hp (by decide) (fun ar har => ?_)
  obtain ⟨g5, eg5⟩ : ∃ g5, g5 = gh_up g4 ar (1003 + 10 * l, .inl (0, s (130 + j), .inl (fun _ => (0 : Int32)))) := ⟨_, rfl⟩
  rw [← eg5]
  have o5 : Only (fun _ => False) g4 g5 := by rw [eg5]; exact Only.new har
  have e5 : g5 ar = some (1003 + 10 * l, .inl (0, s (130 + j), .inl (fun _ => (0 : Int32)))) := by rw [eg5]; exact gu_self _ _ _
  have e5q := o5 _ _ _ e4 (fun w => w)
  refine gs_PV e5q z0 (Nat.le_of_ble_eq_true rfl) ?_
  obtain ⟨g6, eg6⟩ : ∃ g6, g6 = gh_up g5 q (1000 + 10 * l, .inr (6, [Value.int (nI v), va_rf (some ac), z].set 2 (va_rf (some ar)))) := ⟨_, rfl⟩
  rw [← eg6]
  have o6 : Only (fun t => t = 1000 + 10 * l) g5 g6 := by rw [eg6]; exact Only.up e5q rfl
  have e6 : g6 q = some (1000 + 10 * l, .inr (6, [.int (nI v), va_rf (some ac), va_rf (some ar)])) := by rw [eg6]; exact gu_self _ _ _
  have L6 := (L4.keep o5 (fun w => w) (fun w => w)).keep o6 (by omega) (by omega)
  have C6 := (C4.keep o5 I.1 (fun t a b w => w)).keep o6 I.1 (fun t a b => by omega)
  have a6 := o6 _ _ _ e5 (by omega)
  have oo : Only (Lo l) h g6 := ((((o1.mono (fun t ht => by unfold Lo; omega)).trans (o2.mono (fun t ht => ht.elim))).trans (o3.mono (fun t ht => by unfold Lo; omega))).trans (o4.mono (fun t ht => by unfold Lo; omega))).trans ((o5.mono (fun t ht => ht.elim)).trans (o6.mono (fun t ht => by unfold Lo; omega)))
  have key : ∀ (r i : Nat) (f : Nat → Int32) (g7 : gh_H), i + r = s (130 + j) → Only (Lo l) h g7 → g7 q = some (1000 + 10 * l, .inr (6, [.int (nI v), va_rf (some ac), va_rf (some ar)])) → LR κ (1001 + 10 * l) ac 0 (jpg ca s j) g7 → CP ca s g7 → g7 ar = some (1003 + 10 * l, .inl (0, s (130 + j), .inl f)) → (∀ t, t < i → f t = nI (s (100 + s (200 + (16 * j + t))))) → wl_X10_init_38 κ Q X (r + 1) q (nI i) g7 := by
    intro r
    induction r with
    | zero =>
      intro i f g7 hi o7 e7 L7 C7 a7 hf
      show wb_X10_init_38 κ _ Q X q (nI i) g7
      unfold wb_X10_init_38
      have ei : i = s (130 + j) := by omega
      refine gs_GR e7 rfl (gs_LN a7 ⟨fun _ => k g7 ac ar f o7 e7 L7 a7 (fun t ht => hf t (by omega)), fun w => absurd (nI_le (by show s (130 + j) ≤ i; omega) (n31 (by omega))) w⟩)
    | succ r ih =>
      intro i f g7 hi o7 e7 L7 C7 a7 hf
      show wb_X10_init_38 κ (wl_X10_init_38 κ Q X (r + 1)) Q X q (nI i) g7
      unfold wb_X10_init_38
      obtain ⟨cl, hcl, -⟩ := id L7
      have hil : i < (jpg ca s j).length := by rw [jpg_len]; omega
      refine gs_GR e7 rfl (gs_LN a7 ⟨fun w => absurd w (nI_ge (show i < s (130 + j) by omega) (n31 (by omega))), fun _ => gs_GR e7 rfl (gs_GR e7 rfl (gs_RC hcl (ls_get L7 hil ?_)))⟩)
      rw [jpg_at]
      have ec := C7 _ (I.2.2.2.2.1 j i hj (show i < s (130 + j) by omega))
      refine gs_CK ec (by decide) (gs_GI ec rfl (gs_SI a7 (by omega) (show i < s (130 + j) by omega) (n31 (by omega)) ?_))
      obtain ⟨g8, eg8⟩ : ∃ g8, g8 = gh_up g7 ar (1003 + 10 * l, .inl (0, s (130 + j), .inl (upd f i (nI (s (100 + s (200 + (16 * j + i)))))))) := ⟨_, rfl⟩
      rw [← eg8, nI_1]
      have o8 : Only (fun t => t = 1003 + 10 * l) g7 g8 := by rw [eg8]; exact Only.up a7 rfl
      refine ih (i + 1) (upd f i (nI (s (100 + s (200 + (16 * j + i)))))) g8 (by omega) (o7.trans (o8.mono (fun t ht => by unfold Lo; omega))) (o8 _ _ _ e7 (by omega)) (L7.keep o8 (by omega) (by omega)) (C7.keep o8 I.1 (fun t a b => by omega)) (by rw [eg8]; exact gu_self _ _ _) (fun t ht => ?_)
      by_cases w : t = i
      · rw [w]
        simp [upd]
      · simp only [upd, if_neg w]
        exact hf t (by omega)
  exact ⟨_, key _ 0 _ g6 (Nat.zero_add _) oo e6 L6 C6 a6 (fun t ht => absurd ht (Nat.not_lt_zero _))⟩
theorem lkN_0 {j v : Nat} : ∀ r, lkN s j v r = 0 → ∀ n, n < r → v ≤ s (300 + (8 * j + n))
  | 0, _, n, h => absurd h (Nat.not_lt_zero _)
  | r + 1, e, n, h => by
    have e2 : lkN s j v r + (v - s (300 + (8 * j + r))) = 0 := e
    rcases Nat.lt_or_ge n r with w | w
    · exact lkN_0 r (by omega) n w
    · rw [show n = r by omega]
      omega
theorem dj_bind {x y : Int32} {Q : Int32 → gh_H → Prop} (P : DP κ bd ca ja la A T d s ev h) (N : CN0 κ h) (B : BD bd h) (hT : TK T) (I : IV s) (J : IW s) (E : IE s ev) (h3 : s 3 < 64) (hev : ev.length ≤ 64)
    (k1 : ∀ j c, j < s 2 → x = nI j → c < 500 → y = nI (c + 1) → whole s j → lkN s j (c + 1) (cnt s j) = 0 → ∀ h' la', Only De h h' → DP κ bd ca ja la' A T d (ltS (btS s j (c + 1) (cnt s j)) j (c + 1)) (ev ++ [2 * s 3 + 1]) h' → Q (nI (s 3)) h')
    (k4 : ∀ j c, j < s 2 → x = nI j → c < 500 → y = nI (c + 1) → whole s j → lkN s j (c + 1) (cnt s j) ≠ 0 → X "java/lang/UnsupportedOperationException" h)
    (k3 : ∀ j c, j < s 2 → x = nI j → c < 500 → y = nI (c + 1) → ¬ whole s j → X "java/lang/IllegalStateException" h)
    (k2 : ∀ j, j < s 2 → x = nI j → (y < 1 ∨ nI 500 < y) → X "java/lang/IllegalArgumentException" h) (k0 : x < 0 ∨ nI (s 2) ≤ x → X "java/lang/IndexOutOfBoundsException" h) : wp_X1_bind κ d x y Q X h := by
  have i1 := I.1
  have i2 := I.2.1
  unfold wp_X1_bind
  refine gs_RC P.1 (dk_job P I (fun j hj hx => dk_count (fun c hc hy => ?_) (k2 j hj hx)) k0)
  have hj4 : j < 4 := by omega
  have Jb := P.2.2.2.2.1 j hj
  obtain ⟨ag, ai, pa, e1, -⟩ := id Jb
  have q1 := k1 j c hj hx hc hy
  have q4 := k4 j c hj hx hc hy
  have q3 := k3 j c hj hx hc hy
  obtain ⟨mc8, p7⟩ := id P.2.2.2.2.2.2.1
  obtain ⟨al8, hal8, -⟩ := id p7
  rw [hy]
  refine gs_RC e1 (jb_isComplete Jb B I hj (fun hw => ⟨(fun z => by cases z), fun _ => gs_GR P.1 rfl (gs_RC hal8 (ls_size p7.lr ?_))⟩) (fun hw => ⟨fun _ => ?_, fun z => absurd rfl z⟩))
  rotate_left
  · unfold wb_X1_bind_35 wb_X1_bind_36 wp_X1_requireState
    exact ⟨fun _ => q3 hw, fun z => absurd rfl z⟩
  rw [rg_len]
  refine ⟨fun z => absurd z (nI_ge (show s 3 < 100 by omega) (by decide)), fun _ => ?_⟩
  unfold wb_X1_bind_36 wp_X1_requireState
  refine ⟨(fun z => by cases z), fun _ => gs_RC e1 (jb_lacks Jb B I hj hw (by omega) ?_)⟩
  have h8 := cnt8 I hj4
  have lkb := lkN_le (s := s) (j := j) (c := c + 1) (cnt s j)
  have lkb2 : cnt s j * (c + 1) ≤ 8 * 500 := Nat.mul_le_mul h8 (by omega)
  refine ⟨fun z => ?_, fun z => ?_⟩
  rotate_left
  · unfold wb_X1_bind_52 wp_X1_requirePossible
    exact ⟨fun _ => q4 hw (fun w => z (by rw [w]; rfl)), fun w => absurd rfl w⟩
  have lk0 : lkN s j (c + 1) (cnt s j) = 0 := (nI_eq (b := 0) (n31 (by omega)) (by decide)).mp z
  have q5 := q1 hw lk0
  have enough := lkN_0 _ lk0
  unfold wb_X1_bind_52 wp_X1_requirePossible
  refine ⟨(fun z => by cases z), fun _ => ?_⟩
  have key : ∀ (r i : Nat) (h1 : gh_H), i + r = cnt s j → Only (Jo j) h h1 → DP κ bd ca ja la A T d (btS s j (c + 1) i) ev h1 → wl_X1_bind_58 κ Q X (r + 1) d (nI (c + 1)) (some (ja j)) (nI i) h1 := by
    intro r
    induction r with
    | zero =>
      intro i h1 hi o1 P1
      show wb_X1_bind_58 κ _ Q X d (nI (c + 1)) (some (ja j)) (nI i) h1
      have ei : i = cnt s j := by omega
      have zi := btS_sZ (s := s) (v := c + 1) (r := i) hj4 (by omega)
      have I1 := btS_IV (v := c + 1) (r := i) I hj4 (by omega)
      have JW1 : IW (btS s j (c + 1) i) := IW_of J I (fun t ht => zi t (by omega))
      have B1 : BD bd h1 := B.keep o1 (by unfold Jo; omega)
      have b2 : btS s j (c + 1) i 2 = s 2 := zi 2 (by omega)
      have b3 : btS s j (c + 1) i 3 = s 3 := zi 3 (by omega)
      have E1 : IE (btS s j (c + 1) i) ev := by
        refine ⟨fun y hy => ?_, fun q hq => ?_, fun l hl => ?_⟩
        · rw [zi 1 (by omega), b3]
          exact E.1 y hy
        · rw [zi 1 (by omega)] at hq
          rw [zi _ (by omega)]
          exact E.2.1 q hq
        · rw [b3] at hl
          obtain ⟨pre, suf, g1, g2, g3⟩ := E.2.2 l hl
          have l3 := J.2.2.2.2.2.2.2.2 l hl
          have l4 := ltp16 I J hl
          refine ⟨pre, suf, g1, g2, fun t ht => ?_⟩
          rw [zi (700 + l) (by omega)] at ht
          have : lCt (btS s j (c + 1) i) l t = lCt s l t := by
            unfold lCt
            rw [zi (500 + l) (by omega), zi _ (by omega)]
          rw [zi _ (by omega), this]
          exact g3 t ht
      have Jb1 := P1.2.2.2.2.1 j (by rw [b2]; exact hj)
      have hp1 : btS s j (c + 1) i (130 + j) = s (130 + j) := zi _ (by omega)
      have hcn : cnt (btS s j (c + 1) i) j = cnt s j := sZ_cnt zi hj4
      obtain ⟨bg, bi, pb, f1, ⟨mcb, f2⟩, -⟩ := id Jb1
      have ec3 : (btS s j (c + 1) (cnt s j)) = btS s j (c + 1) i := by rw [ei]
      rw [ec3] at q5
      unfold wb_X1_bind_58
      refine gs_RC f1 (jb_sheets Jb1 B1 I1 (by rw [b2]; exact hj) ?_)
      rw [hcn]
      refine ⟨fun _ => gs_NO (1000 + 10 * s 3) (by omega) (fun q hq => ?_), fun w => absurd (nI_le (by omega) (n31 (by omega))) w⟩
      obtain ⟨h2, eh2⟩ : ∃ h2, h2 = gh_up h1 q (1000 + 10 * s 3, .inr (6, [.int 0, va_rf none, va_rf none])) := ⟨_, rfl⟩
      rw [← eh2]
      have o2 : Only (fun _ => False) h1 h2 := by rw [eh2]; exact Only.new hq
      have e2 : h2 q = some (1000 + 10 * s 3, .inr (6, [.int 0, va_rf none, va_rf none])) := by rw [eh2]; exact gu_self _ _ _
      have P2 := P1.keep hT I1 o2 (fun w => w) (fun t _ _ w => w)
      refine gs_GR (o2 _ _ _ f1 (fun w => w)) rfl ?_
      have hpos : 0 < btS s j (c + 1) i (130 + j) := by rw [hp1]; exact hw.1
      refine lt_init (s := btS s j (c + 1) i) (v := c + 1) e2 hj4 (LG.lr (f2.keep o2 (fun w => w) (fun w => w))) hpos I1 P2.2.2.1 (fun h3 ac ar f o3 e3 L3 a3 hf => ?_)
      have L8 : GL κ 8 (A 3) ((List.range (s 3)).map la) h3 := by
        have := P2.2.2.2.2.2.2.1
        rw [b3] at this
        exact this.keep o3 (by unfold Lo; omega) (by unfold Lo; omega)
      obtain ⟨mc3, L8m⟩ := id L8
      obtain ⟨bl8, hbl8, -⟩ := id L8m
      have N3 : CN0 κ h3 := ((N.keep o1 (by unfold Jo; omega)).keep o2 (fun w => w)).keep o3 (by unfold Lo; omega)
      refine gs_GR (o3 _ _ _ P2.1 (by unfold Lo; omega)) rfl (gs_RC hbl8 (ls_add N3 L8 (by decide) (by rw [rg_len]; omega) (fun y hy => ?_) (OB.of e3 (by decide)) (fun h4 o4 L9 => ?_)))
      · obtain ⟨k', hk', rfl⟩ := List.mem_map.mp hy
        have hk2 := List.mem_range.mp hk'
        obtain ⟨ac', ar', f', g1, -⟩ := P2.2.2.2.2.2.2.2.1 k' (by rw [b3]; exact hk2)
        exact OB.of (o3 _ _ _ g1 (by unfold Lo; omega)) (by decide)
      have o34 : Only (fun t => Lo (s 3) t ∨ t = 8 ∨ t = 9) h2 h4 := (o3.mono (fun t ht => Or.inl ht)).trans (o4.mono (fun t ht => Or.inr (by omega)))
      have Ln : LOT κ ca (fun t => if t = s 3 then q else la t) (ltS (btS s j (c + 1) i) j (c + 1)) (s 3) h4 := by
        have g5 := ltS_5 (s := btS s j (c + 1) i) (j := j) (v := c + 1)
        have g6 := ltS_6 (s := btS s j (c + 1) i) (j := j) (v := c + 1) (by rw [b3]; omega)
        have g7 := ltS_7 (s := btS s j (c + 1) i) (j := j) (v := c + 1) (by rw [b3]; omega)
        have g8 := fun t ht => ltS_8 (s := btS s j (c + 1) i) (j := j) (v := c + 1) (i := t) (by rw [b3]; omega) ht
        rw [b3] at g5 g6 g7
        rw [b3] at g8
        refine ⟨ac, ar, f, ?_, ?_, ?_, fun t ht => ?_⟩
        · rw [g6]
          show h4 (if s 3 = s 3 then q else la (s 3)) = _
          rw [if_pos rfl]
          exact o4 _ _ _ e3 (by omega)
        · have ej : (List.range (ltS (btS s j (c + 1) i) j (c + 1) (700 + s 3))).map (fun t => ca (lCt (ltS (btS s j (c + 1) i) j (c + 1)) (s 3) t)) = jpg ca (btS s j (c + 1) i) j := by
            unfold jpg
            rw [g7]
            refine List.map_congr_left (fun t ht => ?_)
            have ht2 := List.mem_range.mp ht
            have := (I1.2.2.1 j hj4).2
            unfold lCt
            rw [g5, ltS_ne (by omega) (by omega) (by omega) (by omega) (by omega)]
          rw [ej]
          exact L3.keep o4 (by omega) (by omega)
        · rw [g7]
          exact o4 _ _ _ a3 (by omega)
        · rw [g7] at ht
          rw [hf t ht, g8 t ht]
      have P4 := P2.lot (q := q) (j := j) (v := c + 1) hT I1 JW1 E1 (by rw [b2]; exact hj) (by rw [b3]; exact o34) (by rw [b3]; exact L9) (by rw [b3]; exact Ln)
      rw [b3] at P4
      have I4 : IV (ltS (btS s j (c + 1) i) j (c + 1)) := by
        have lw : ∀ t, t < 500 → t ≠ 3 → ltS (btS s j (c + 1) i) j (c + 1) t = btS s j (c + 1) i t := fun t ht h3 => ltS_ne h3 (by omega) (by omega) (by omega) (by omega)
        unfold IV
        rw [lw 1 (by decide) (by decide), lw 2 (by decide) (by decide), lw 10 (by decide) (by decide), lw 11 (by decide) (by decide)]
        refine ⟨I1.1, I1.2.1, fun j' hj' => ?_, fun j' hj' => ?_, fun j' t hj' ht => ?_, fun q hq => ?_, fun t ht => ?_, I1.2.2.2.2.2.2.2.1, I1.2.2.2.2.2.2.2.2⟩
        · rw [lw _ (by omega) (by omega), lw _ (by omega) (by omega)]
          exact I1.2.2.1 j' hj'
        · rw [lw _ (by omega) (by omega)]
          exact I1.2.2.2.1 j' hj'
        · rw [lw _ (by omega) (by omega)] at ht
          have := (I1.2.2.1 j' hj').2
          rw [lw _ (by omega) (by omega)]
          exact I1.2.2.2.2.1 j' t hj' ht
        · rw [lw _ (by omega) (by omega), lw _ (by omega) (by omega)]
          exact I1.2.2.2.2.2.1 q hq
        · rw [lw _ (by omega) (by omega)]
          exact I1.2.2.2.2.2.2.1 t ht
      obtain ⟨xs, p6, Ex⟩ := id P4.2.2.2.2.2.1
      obtain ⟨mc6, p6m⟩ := id p6
      obtain ⟨al6, hal6, -⟩ := id p6m
      have N4 : CN0 κ h4 := N3.keep o4 (by omega)
      have l3s : ltS (btS s j (c + 1) i) j (c + 1) 3 = s 3 + 1 := by rw [ltS_3, b3]
      have obx : ∀ y ∈ xs, OB h4 y := by
        intro y hy
        obtain ⟨t, ht, rfl⟩ := List.mem_iff_getElem.mp hy
        have ht2 : t < ev.length := by rw [← Ex.1]; exact ht
        have em := E.1 _ (List.getElem_mem ht2)
        rcases Nat.mod_two_eq_zero_or_one ev[t] with w | w
        · exact OB.of ((Ex.2 t ht2 ht).1 w) (by decide)
        · rw [(Ex.2 t ht2 ht).2 w]
          obtain ⟨ac', ar', f', g1, -⟩ := P4.2.2.2.2.2.2.2.1 (ev[t] / 2) (by rw [l3s]; have := em.2 w; omega)
          exact OB.of g1 (by decide)
      have e4 : h4 q = some (1000 + 10 * s 3, .inr (6, [.int (nI (c + 1)), va_rf (some ac), va_rf (some ar)])) := o4 _ _ _ e3 (by omega)
      refine gs_GR P4.1 rfl (gs_RC hal6 (ls_add N4 p6 (by decide) (by rw [Ex.1]; omega) obx (OB.of e4 (by decide)) (fun h5 o5 L5 => ?_)))
      have P5 := P4.log (e := 2 * s 3 + 1) hT I4 Ex o5 L5 (fun w => by omega) (fun _ => by
        show q = if (2 * s 3 + 1) / 2 = s 3 then q else la ((2 * s 3 + 1) / 2)
        rw [if_pos (by omega)])
      obtain ⟨mc9, p9⟩ := id P5.2.2.2.2.2.2.1
      obtain ⟨al9, hal9, -⟩ := id p9
      refine gs_GR P5.1 rfl (gs_RC hal9 (ls_size p9.lr ?_))
      rw [rg_len, l3s, show nI (s 3 + 1) - 1 = nI (s 3) from nI_pred _]
      exact q5 h5 _ ((((o1.mono (fun t ht => by unfold Jo at ht; unfold De; omega)).trans (o2.mono (fun t w => w.elim))).trans (o34.mono (fun t ht => by unfold Lo at ht; unfold De; omega))).trans (o5.mono (fun t ht => by unfold De; omega))) P5
    | succ r ih =>
      intro i h1 hi o1 P1
      show wb_X1_bind_58 κ (wl_X1_bind_58 κ Q X (r + 1)) Q X d (nI (c + 1)) (some (ja j)) (nI i) h1
      have zi := btS_sZ (s := s) (v := c + 1) (r := i) hj4 (by omega)
      have I1 := btS_IV (v := c + 1) (r := i) I hj4 (by omega)
      have JW1 : IW (btS s j (c + 1) i) := IW_of J I (fun t ht => zi t (by omega))
      have B1 : BD bd h1 := B.keep o1 (by unfold Jo; omega)
      have b2 : btS s j (c + 1) i 2 = s 2 := zi 2 (by omega)
      have Jb1 := P1.2.2.2.2.1 j (by rw [b2]; exact hj)
      have hcn : cnt (btS s j (c + 1) i) j = cnt s j := sZ_cnt zi hj4
      have hp16 := (I1.2.2.1 j hj4).2
      obtain ⟨bg, bi, pb, f1, f2, ⟨mcb, f3⟩, f4⟩ := id Jb1
      obtain ⟨bl, hbl, -⟩ := id f3
      unfold wb_X1_bind_58
      refine gs_RC f1 (jb_sheets Jb1 B1 I1 (by rw [b2]; exact hj) ?_)
      rw [hcn]
      refine ⟨fun w => absurd w (nI_ge (by omega) (n31 (by omega))), fun _ => gs_GR f1 rfl (gs_RC hbl (ls_get f3.lr (by rw [rg_len]; omega) ?_))⟩
      rw [rg_at]
      have e5 := f4 i (by omega)
      have sv : btS s j (c + 1) i (300 + (8 * j + i)) = s (300 + (8 * j + i)) := btS_out (by omega)
      have hst := I.2.2.2.2.2.2.1 (8 * j + i) (by omega)
      have hen := enough i (by omega)
      refine gs_CK e5 (by decide) (gs_RC e5 (pl_take e5 (by omega) (by rw [sv]; exact hen) (n31 (by rw [sv]; omega)) ?_))
      have J2 := JPx_pile (w := btS s j (c + 1) i (300 + (8 * j + i)) - (c + 1)) ⟨f1, f2, ⟨mcb, f3⟩, f4⟩ hp16 hj4 (show i < 8 by omega)
      have o2 : Only (Jo j) h1 (gh_up h1 (pb i) (105 + 100 * j + i, .inr (3, [.long (lN (btS s j (c + 1) i (300 + (8 * j + i)) - (c + 1))), va_rf (some (A 5))]))) := Only.up e5 (by unfold Jo; omega)
      have es : sU (btS s j (c + 1) i) (300 + (8 * j + i)) (btS s j (c + 1) i (300 + (8 * j + i)) - (c + 1)) = btS s j (c + 1) (i + 1) := by
        rw [sv]
        rfl
      rw [es] at J2
      have P2 := P1.stk (s' := btS s j (c + 1) (i + 1)) hT I1 JW1 (by rw [b2]; exact hj) o2 (fun t ht => sU_ne (by omega)) J2
      rw [nI_1]
      exact ih (i + 1) _ (by omega) (o1.trans o2) P2
  exact ⟨_, key _ 0 h (Nat.zero_add _) Only.refl P⟩
end
