set_option maxRecDepth 100000
/-! BinderyDeskLaw.law ([I)Z -/
theorem nd_X1 : ∀ j, j < 11 → defaultValue (tyX1 j) = vp_V [va_rf none, va_rf none, va_rf none, va_rf none, va_rf none, va_rf none, va_rf none, .int 0, .long 0, va_rf none, va_rf none] j := by
  intro j hj
  rcases (show j = 0 ∨ j = 1 ∨ j = 2 ∨ j = 3 ∨ j = 4 ∨ j = 5 ∨ j = 6 ∨ j = 7 ∨ j = 8 ∨ j = 9 ∨ j = 10 by omega) with rfl | rfl | rfl | rfl | rfl | rfl | rfl | rfl | rfl | rfl | rfl <;> rfl
theorem nd_X3 : ∀ j, j < 26 → defaultValue (tyX3 j) = vp_V [.int 0, .int 0, .int 0, .int 0, .int 0, .int 0, .int 0, .int 0, .int 0, .int 0, .long 0, .long 0, va_rf none, va_rf none, va_rf none, va_rf none, va_rf none, va_rf none, va_rf none, va_rf none, va_rf none, va_rf none, va_rf none, va_rf none, va_rf none, va_rf none] j := by
  intro j hj
  rcases (show j = 0 ∨ j = 1 ∨ j = 2 ∨ j = 3 ∨ j = 4 ∨ j = 5 ∨ j = 6 ∨ j = 7 ∨ j = 8 ∨ j = 9 ∨ j = 10 ∨ j = 11 ∨ j = 12 ∨ j = 13 ∨ j = 14 ∨ j = 15 ∨ j = 16 ∨ j = 17 ∨ j = 18 ∨ j = 19 ∨ j = 20 ∨ j = 21 ∨ j = 22 ∨ j = 23 ∨ j = 24 ∨ j = 25 by omega) with rfl | rfl | rfl | rfl | rfl | rfl | rfl | rfl | rfl | rfl | rfl | rfl | rfl | rfl | rfl | rfl | rfl | rfl | rfl | rfl | rfl | rfl | rfl | rfl | rfl | rfl <;> rfl
def wb_L_law_1712 (κ : Nat → Nat) (K28 : Nat → Option Nat → Option Nat → Option Nat → Option Nat → Option Nat → Int32 → gh_H → Prop) (it28 : Nat) (v0 : Option Nat) (v1 : Option Nat) (v2 : Option Nat) (v3 : Option Nat) (v4 : Option Nat) (v5 : Int32) (h : gh_H) : Prop := K28 (it28 + 1) v0 v1 v2 v3 v4 (v5 + (4 : Int32)) h
def wb_L_law_209 (κ : Nat → Nat) (K28 : Nat → Option Nat → Option Nat → Option Nat → Option Nat → Option Nat → Int32 → gh_H → Prop) (it28 : Nat) (v0 : Option Nat) (v1 : Option Nat) (v2 : Option Nat) (v3 : Option Nat) (v4 : Option Nat) (v5 : Int32) (h : gh_H) : Prop := wb_L_law_1712 κ K28 it28 v0 v1 v2 v3 v4 v5 h
def wb_L_law_272 (κ : Nat → Nat) (K28 : Nat → Option Nat → Option Nat → Option Nat → Option Nat → Option Nat → Int32 → gh_H → Prop) (it28 : Nat) (v0 : Option Nat) (v1 : Option Nat) (v2 : Option Nat) (v3 : Option Nat) (v4 : Option Nat) (v5 : Int32) (h : gh_H) : Prop := wb_L_law_1712 κ K28 it28 v0 v1 v2 v3 v4 v5 h
def wb_L_law_266 (κ : Nat → Nat) (K28 : Nat → Option Nat → Option Nat → Option Nat → Option Nat → Option Nat → Int32 → gh_H → Prop) (it28 : Nat) (v0 : Option Nat) (v1 : Option Nat) (v2 : Option Nat) (v3 : Option Nat) (v4 : Option Nat) (v5 : Int32) (t0 : Int64) (t1 : Int64) (h : gh_H) : Prop := (((lg_cmp t0 t1) = 0 → wb_L_law_272 κ K28 it28 v0 v1 v2 v3 v4 v5 h) ∧ (¬ (lg_cmp t0 t1) = 0 → ((0 : Int32) = 1)))
def wb_L_law_328 (κ : Nat → Nat) (K28 : Nat → Option Nat → Option Nat → Option Nat → Option Nat → Option Nat → Int32 → gh_H → Prop) (it28 : Nat) (v0 : Option Nat) (v1 : Option Nat) (v2 : Option Nat) (v3 : Option Nat) (v4 : Option Nat) (v5 : Int32) (h : gh_H) : Prop := wb_L_law_1712 κ K28 it28 v0 v1 v2 v3 v4 v5 h
def wb_L_law_384 (κ : Nat → Nat) (K28 : Nat → Option Nat → Option Nat → Option Nat → Option Nat → Option Nat → Int32 → gh_H → Prop) (it28 : Nat) (v0 : Option Nat) (v1 : Option Nat) (v2 : Option Nat) (v3 : Option Nat) (v4 : Option Nat) (v5 : Int32) (h : gh_H) : Prop := wb_L_law_1712 κ K28 it28 v0 v1 v2 v3 v4 v5 h
def wb_L_law_442 (κ : Nat → Nat) (K28 : Nat → Option Nat → Option Nat → Option Nat → Option Nat → Option Nat → Int32 → gh_H → Prop) (it28 : Nat) (v0 : Option Nat) (v1 : Option Nat) (v2 : Option Nat) (v3 : Option Nat) (v4 : Option Nat) (v5 : Int32) (h : gh_H) : Prop := wb_L_law_1712 κ K28 it28 v0 v1 v2 v3 v4 v5 h
def wb_L_law_510 (κ : Nat → Nat) (K28 : Nat → Option Nat → Option Nat → Option Nat → Option Nat → Option Nat → Int32 → gh_H → Prop) (it28 : Nat) (v0 : Option Nat) (v1 : Option Nat) (v2 : Option Nat) (v3 : Option Nat) (v4 : Option Nat) (v5 : Int32) (h : gh_H) : Prop := wb_L_law_1712 κ K28 it28 v0 v1 v2 v3 v4 v5 h
def wb_L_law_566 (κ : Nat → Nat) (K28 : Nat → Option Nat → Option Nat → Option Nat → Option Nat → Option Nat → Int32 → gh_H → Prop) (it28 : Nat) (v0 : Option Nat) (v1 : Option Nat) (v2 : Option Nat) (v3 : Option Nat) (v4 : Option Nat) (v5 : Int32) (h : gh_H) : Prop := wb_L_law_1712 κ K28 it28 v0 v1 v2 v3 v4 v5 h
def wb_L_law_622 (κ : Nat → Nat) (K28 : Nat → Option Nat → Option Nat → Option Nat → Option Nat → Option Nat → Int32 → gh_H → Prop) (it28 : Nat) (v0 : Option Nat) (v1 : Option Nat) (v2 : Option Nat) (v3 : Option Nat) (v4 : Option Nat) (v5 : Int32) (h : gh_H) : Prop := wb_L_law_1712 κ K28 it28 v0 v1 v2 v3 v4 v5 h
def wb_L_law_702 (κ : Nat → Nat) (K28 : Nat → Option Nat → Option Nat → Option Nat → Option Nat → Option Nat → Int32 → gh_H → Prop) (it28 : Nat) (v0 : Option Nat) (v1 : Option Nat) (v2 : Option Nat) (v3 : Option Nat) (v4 : Option Nat) (v5 : Int32) (h : gh_H) : Prop := wb_L_law_1712 κ K28 it28 v0 v1 v2 v3 v4 v5 h
def wb_L_law_770 (κ : Nat → Nat) (K28 : Nat → Option Nat → Option Nat → Option Nat → Option Nat → Option Nat → Int32 → gh_H → Prop) (it28 : Nat) (v0 : Option Nat) (v1 : Option Nat) (v2 : Option Nat) (v3 : Option Nat) (v4 : Option Nat) (v5 : Int32) (h : gh_H) : Prop := wb_L_law_1712 κ K28 it28 v0 v1 v2 v3 v4 v5 h
def wb_L_law_850 (κ : Nat → Nat) (K28 : Nat → Option Nat → Option Nat → Option Nat → Option Nat → Option Nat → Int32 → gh_H → Prop) (it28 : Nat) (v0 : Option Nat) (v1 : Option Nat) (v2 : Option Nat) (v3 : Option Nat) (v4 : Option Nat) (v5 : Int32) (h : gh_H) : Prop := wb_L_law_1712 κ K28 it28 v0 v1 v2 v3 v4 v5 h
def wb_L_law_918 (κ : Nat → Nat) (K28 : Nat → Option Nat → Option Nat → Option Nat → Option Nat → Option Nat → Int32 → gh_H → Prop) (it28 : Nat) (v0 : Option Nat) (v1 : Option Nat) (v2 : Option Nat) (v3 : Option Nat) (v4 : Option Nat) (v5 : Int32) (h : gh_H) : Prop := wb_L_law_1712 κ K28 it28 v0 v1 v2 v3 v4 v5 h
def wb_L_law_974 (κ : Nat → Nat) (K28 : Nat → Option Nat → Option Nat → Option Nat → Option Nat → Option Nat → Int32 → gh_H → Prop) (it28 : Nat) (v0 : Option Nat) (v1 : Option Nat) (v2 : Option Nat) (v3 : Option Nat) (v4 : Option Nat) (v5 : Int32) (h : gh_H) : Prop := wb_L_law_1712 κ K28 it28 v0 v1 v2 v3 v4 v5 h
def wb_L_law_1030 (κ : Nat → Nat) (K28 : Nat → Option Nat → Option Nat → Option Nat → Option Nat → Option Nat → Int32 → gh_H → Prop) (it28 : Nat) (v0 : Option Nat) (v1 : Option Nat) (v2 : Option Nat) (v3 : Option Nat) (v4 : Option Nat) (v5 : Int32) (h : gh_H) : Prop := wb_L_law_1712 κ K28 it28 v0 v1 v2 v3 v4 v5 h
def wb_L_law_1098 (κ : Nat → Nat) (K28 : Nat → Option Nat → Option Nat → Option Nat → Option Nat → Option Nat → Int32 → gh_H → Prop) (it28 : Nat) (v0 : Option Nat) (v1 : Option Nat) (v2 : Option Nat) (v3 : Option Nat) (v4 : Option Nat) (v5 : Int32) (h : gh_H) : Prop := wb_L_law_1712 κ K28 it28 v0 v1 v2 v3 v4 v5 h
def wb_L_law_1167 (κ : Nat → Nat) (K28 : Nat → Option Nat → Option Nat → Option Nat → Option Nat → Option Nat → Int32 → gh_H → Prop) (it28 : Nat) (v0 : Option Nat) (v1 : Option Nat) (v2 : Option Nat) (v3 : Option Nat) (v4 : Option Nat) (v5 : Int32) (h : gh_H) : Prop := wb_L_law_1712 κ K28 it28 v0 v1 v2 v3 v4 v5 h
def wb_L_law_1235 (κ : Nat → Nat) (K28 : Nat → Option Nat → Option Nat → Option Nat → Option Nat → Option Nat → Int32 → gh_H → Prop) (it28 : Nat) (v0 : Option Nat) (v1 : Option Nat) (v2 : Option Nat) (v3 : Option Nat) (v4 : Option Nat) (v5 : Int32) (h : gh_H) : Prop := wb_L_law_1712 κ K28 it28 v0 v1 v2 v3 v4 v5 h
def wb_L_law_1303 (κ : Nat → Nat) (K28 : Nat → Option Nat → Option Nat → Option Nat → Option Nat → Option Nat → Int32 → gh_H → Prop) (it28 : Nat) (v0 : Option Nat) (v1 : Option Nat) (v2 : Option Nat) (v3 : Option Nat) (v4 : Option Nat) (v5 : Int32) (h : gh_H) : Prop := wb_L_law_1712 κ K28 it28 v0 v1 v2 v3 v4 v5 h
def wb_L_law_1372 (κ : Nat → Nat) (K28 : Nat → Option Nat → Option Nat → Option Nat → Option Nat → Option Nat → Int32 → gh_H → Prop) (it28 : Nat) (v0 : Option Nat) (v1 : Option Nat) (v2 : Option Nat) (v3 : Option Nat) (v4 : Option Nat) (v5 : Int32) (h : gh_H) : Prop := wb_L_law_1712 κ K28 it28 v0 v1 v2 v3 v4 v5 h
def wb_L_law_1440 (κ : Nat → Nat) (K28 : Nat → Option Nat → Option Nat → Option Nat → Option Nat → Option Nat → Int32 → gh_H → Prop) (it28 : Nat) (v0 : Option Nat) (v1 : Option Nat) (v2 : Option Nat) (v3 : Option Nat) (v4 : Option Nat) (v5 : Int32) (h : gh_H) : Prop := wb_L_law_1712 κ K28 it28 v0 v1 v2 v3 v4 v5 h
def wb_L_law_1508 (κ : Nat → Nat) (K28 : Nat → Option Nat → Option Nat → Option Nat → Option Nat → Option Nat → Int32 → gh_H → Prop) (it28 : Nat) (v0 : Option Nat) (v1 : Option Nat) (v2 : Option Nat) (v3 : Option Nat) (v4 : Option Nat) (v5 : Int32) (h : gh_H) : Prop := wb_L_law_1712 κ K28 it28 v0 v1 v2 v3 v4 v5 h
def wb_L_law_1564 (κ : Nat → Nat) (K28 : Nat → Option Nat → Option Nat → Option Nat → Option Nat → Option Nat → Int32 → gh_H → Prop) (it28 : Nat) (v0 : Option Nat) (v1 : Option Nat) (v2 : Option Nat) (v3 : Option Nat) (v4 : Option Nat) (v5 : Int32) (h : gh_H) : Prop := wb_L_law_1712 κ K28 it28 v0 v1 v2 v3 v4 v5 h
def wb_L_law_1644 (κ : Nat → Nat) (K28 : Nat → Option Nat → Option Nat → Option Nat → Option Nat → Option Nat → Int32 → gh_H → Prop) (it28 : Nat) (v0 : Option Nat) (v1 : Option Nat) (v2 : Option Nat) (v3 : Option Nat) (v4 : Option Nat) (v5 : Int32) (h : gh_H) : Prop := wb_L_law_1712 κ K28 it28 v0 v1 v2 v3 v4 v5 h
def wb_L_law_1642 (κ : Nat → Nat)   (h : gh_H) : Prop := ((0 : Int32) = 1)
def wb_L_law_1709 (κ : Nat → Nat) (K28 : Nat → Option Nat → Option Nat → Option Nat → Option Nat → Option Nat → Int32 → gh_H → Prop) (it28 : Nat) (v0 : Option Nat) (v1 : Option Nat) (v2 : Option Nat) (v3 : Option Nat) (v4 : Option Nat) (v5 : Int32) (h : gh_H) : Prop := wb_L_law_1712 κ K28 it28 v0 v1 v2 v3 v4 v5 h
def wb_L_law_1707 (κ : Nat → Nat)   (h : gh_H) : Prop := ((0 : Int32) = 1)
def wb_L_law_28 (κ : Nat → Nat) (K28 : Nat → Option Nat → Option Nat → Option Nat → Option Nat → Option Nat → Int32 → gh_H → Prop) (it28 : Nat) (v0 : Option Nat) (v1 : Option Nat) (v2 : Option Nat) (v3 : Option Nat) (v4 : Option Nat) (v5 : Int32) (h : gh_H) : Prop := (gh_LN h v0 (fun x1 => (((x1 - (4 : Int32)) < v5 → ((1 : Int32) = 1)) ∧ (¬ (x1 - (4 : Int32)) < v5 → (gh_LI h v0 v5 (fun x2 => (((x2 &&& (31 : Int32)) = (0 : Int32) → (wp_X0_addContent κ v1 v3 (fun r3 h4 => (gh_RC h4 v2 1 (fun a5 => (wp_X3_addContent κ a5 (fun r6 h7 => (gh_RC h7 (some a5) 1 (fun _ => (wp_X3_thrown κ a5 (fun r9 h10 => ((r9 = r3 → ((r3 = 0 → (gh_LJ h10 v3 (0 : Int32) (fun x11 => (((lg_cmp x11 (r6.toInt64)) = 0 → wb_L_law_209 κ K28 it28 v0 v1 (some a5) v3 v4 v5 h10) ∧ (¬ (lg_cmp x11 (r6.toInt64)) = 0 → ((0 : Int32) = 1)))))) ∧ (¬ r3 = 0 → wb_L_law_209 κ K28 it28 v0 v1 (some a5) v3 v4 v5 h10))) ∧ (¬ r9 = r3 → ((0 : Int32) = 1)))) (fun _ _ => False) h7)))) (fun _ _ => False) h4)))) (fun _ _ => False) h)) ∧ ((x2 &&& (31 : Int32)) = (1 : Int32) → (gh_LI h v0 (v5 + (1 : Int32)) (fun x12 => (wp_X0_approve κ v1 x12 v3 (fun r13 h14 => (gh_LI h14 v0 (v5 + (1 : Int32)) (fun x15 => (gh_RC h14 v2 1 (fun a16 => (wp_X3_approve κ a16 x15 (fun r17 h18 => (gh_RC h18 (some a16) 1 (fun _ => (wp_X3_thrown κ a16 (fun r20 h21 => ((r20 = r13 → ((r13 = 0 → (gh_LJ h21 v3 (0 : Int32) (fun x22 => ((r17 = 0 → wb_L_law_266 κ K28 it28 v0 v1 (some a16) v3 v4 v5 x22 (0 : Int64) h21) ∧ (¬ r17 = 0 → wb_L_law_266 κ K28 it28 v0 v1 (some a16) v3 v4 v5 x22 (1 : Int64) h21))))) ∧ (¬ r13 = 0 → wb_L_law_272 κ K28 it28 v0 v1 (some a16) v3 v4 v5 h21))) ∧ (¬ r20 = r13 → ((0 : Int32) = 1)))) (fun _ _ => False) h18)))) (fun _ _ => False) h14)))))) (fun _ _ => False) h)))) ∧ ((x2 &&& (31 : Int32)) = (2 : Int32) → (gh_LI h v0 (v5 + (1 : Int32)) (fun x23 => (wp_X0_correct κ v1 x23 v3 (fun r24 h25 => (gh_LI h25 v0 (v5 + (1 : Int32)) (fun x26 => (gh_RC h25 v2 1 (fun a27 => (wp_X3_correct κ a27 x26 (fun r28 h29 => (gh_RC h29 (some a27) 1 (fun _ => (wp_X3_thrown κ a27 (fun r31 h32 => ((r31 = r24 → ((r24 = 0 → (gh_LJ h32 v3 (0 : Int32) (fun x33 => (((lg_cmp x33 (r28.toInt64)) = 0 → wb_L_law_328 κ K28 it28 v0 v1 (some a27) v3 v4 v5 h32) ∧ (¬ (lg_cmp x33 (r28.toInt64)) = 0 → ((0 : Int32) = 1)))))) ∧ (¬ r24 = 0 → wb_L_law_328 κ K28 it28 v0 v1 (some a27) v3 v4 v5 h32))) ∧ (¬ r31 = r24 → ((0 : Int32) = 1)))) (fun _ _ => False) h29)))) (fun _ _ => False) h25)))))) (fun _ _ => False) h)))) ∧ ((x2 &&& (31 : Int32)) = (3 : Int32) → (gh_LI h v0 (v5 + (1 : Int32)) (fun x34 => (wp_X0_state κ v1 x34 v3 (fun r35 h36 => (gh_LI h36 v0 (v5 + (1 : Int32)) (fun x37 => (gh_RC h36 v2 1 (fun a38 => (wp_X3_state κ a38 x37 (fun r39 h40 => (gh_RC h40 (some a38) 1 (fun _ => (wp_X3_thrown κ a38 (fun r42 h43 => ((r42 = r35 → ((r35 = 0 → (gh_LJ h43 v3 (0 : Int32) (fun x44 => (((lg_cmp x44 (r39.toInt64)) = 0 → wb_L_law_384 κ K28 it28 v0 v1 (some a38) v3 v4 v5 h43) ∧ (¬ (lg_cmp x44 (r39.toInt64)) = 0 → ((0 : Int32) = 1)))))) ∧ (¬ r35 = 0 → wb_L_law_384 κ K28 it28 v0 v1 (some a38) v3 v4 v5 h43))) ∧ (¬ r42 = r35 → ((0 : Int32) = 1)))) (fun _ _ => False) h40)))) (fun _ _ => False) h36)))))) (fun _ _ => False) h)))) ∧ ((x2 &&& (31 : Int32)) = (4 : Int32) → (gh_LI h v0 (v5 + (1 : Int32)) (fun x45 => (wp_X0_addJob κ v1 ((x45.toUInt32 % 65536).toInt32) v3 (fun r46 h47 => (gh_LI h47 v0 (v5 + (1 : Int32)) (fun x48 => (gh_RC h47 v2 1 (fun a49 => (wp_X3_addJob κ a49 ((x48.toUInt32 % 65536).toInt32) (fun r50 h51 => (gh_RC h51 (some a49) 1 (fun _ => (wp_X3_thrown κ a49 (fun r53 h54 => ((r53 = r46 → ((r46 = 0 → (gh_LJ h54 v3 (0 : Int32) (fun x55 => (((lg_cmp x55 (r50.toInt64)) = 0 → wb_L_law_442 κ K28 it28 v0 v1 (some a49) v3 v4 v5 h54) ∧ (¬ (lg_cmp x55 (r50.toInt64)) = 0 → ((0 : Int32) = 1)))))) ∧ (¬ r46 = 0 → wb_L_law_442 κ K28 it28 v0 v1 (some a49) v3 v4 v5 h54))) ∧ (¬ r53 = r46 → ((0 : Int32) = 1)))) (fun _ _ => False) h51)))) (fun _ _ => False) h47)))))) (fun _ _ => False) h)))) ∧ ((x2 &&& (31 : Int32)) = (5 : Int32) → (gh_LI h v0 (v5 + (1 : Int32)) (fun x56 => (gh_LI h v0 (v5 + (2 : Int32)) (fun x57 => (wp_X0_addPage κ v1 x56 x57 v3 (fun r58 h59 => (gh_LI h59 v0 (v5 + (1 : Int32)) (fun x60 => (gh_LI h59 v0 (v5 + (2 : Int32)) (fun x61 => (gh_RC h59 v2 1 (fun a62 => (wp_X3_addPage κ a62 x60 x61 (fun r63 h64 => (gh_RC h64 (some a62) 1 (fun _ => (wp_X3_thrown κ a62 (fun r66 h67 => ((r66 = r58 → ((r58 = 0 → (gh_LJ h67 v3 (0 : Int32) (fun x68 => (((lg_cmp x68 (r63.toInt64)) = 0 → wb_L_law_510 κ K28 it28 v0 v1 (some a62) v3 v4 v5 h67) ∧ (¬ (lg_cmp x68 (r63.toInt64)) = 0 → ((0 : Int32) = 1)))))) ∧ (¬ r58 = 0 → wb_L_law_510 κ K28 it28 v0 v1 (some a62) v3 v4 v5 h67))) ∧ (¬ r66 = r58 → ((0 : Int32) = 1)))) (fun _ _ => False) h64)))) (fun _ _ => False) h59)))))))) (fun _ _ => False) h)))))) ∧ ((x2 &&& (31 : Int32)) = (6 : Int32) → (gh_LI h v0 (v5 + (1 : Int32)) (fun x69 => (wp_X0_pages κ v1 x69 v3 (fun r70 h71 => (gh_LI h71 v0 (v5 + (1 : Int32)) (fun x72 => (gh_RC h71 v2 1 (fun a73 => (wp_X3_pages κ a73 x72 (fun r74 h75 => (gh_RC h75 (some a73) 1 (fun _ => (wp_X3_thrown κ a73 (fun r77 h78 => ((r77 = r70 → ((r70 = 0 → (gh_LJ h78 v3 (0 : Int32) (fun x79 => (((lg_cmp x79 (r74.toInt64)) = 0 → wb_L_law_566 κ K28 it28 v0 v1 (some a73) v3 v4 v5 h78) ∧ (¬ (lg_cmp x79 (r74.toInt64)) = 0 → ((0 : Int32) = 1)))))) ∧ (¬ r70 = 0 → wb_L_law_566 κ K28 it28 v0 v1 (some a73) v3 v4 v5 h78))) ∧ (¬ r77 = r70 → ((0 : Int32) = 1)))) (fun _ _ => False) h75)))) (fun _ _ => False) h71)))))) (fun _ _ => False) h)))) ∧ ((x2 &&& (31 : Int32)) = (7 : Int32) → (gh_LI h v0 (v5 + (1 : Int32)) (fun x80 => (wp_X0_sheets κ v1 x80 v3 (fun r81 h82 => (gh_LI h82 v0 (v5 + (1 : Int32)) (fun x83 => (gh_RC h82 v2 1 (fun a84 => (wp_X3_sheets κ a84 x83 (fun r85 h86 => (gh_RC h86 (some a84) 1 (fun _ => (wp_X3_thrown κ a84 (fun r88 h89 => ((r88 = r81 → ((r81 = 0 → (gh_LJ h89 v3 (0 : Int32) (fun x90 => (((lg_cmp x90 (r85.toInt64)) = 0 → wb_L_law_622 κ K28 it28 v0 v1 (some a84) v3 v4 v5 h89) ∧ (¬ (lg_cmp x90 (r85.toInt64)) = 0 → ((0 : Int32) = 1)))))) ∧ (¬ r81 = 0 → wb_L_law_622 κ K28 it28 v0 v1 (some a84) v3 v4 v5 h89))) ∧ (¬ r88 = r81 → ((0 : Int32) = 1)))) (fun _ _ => False) h86)))) (fun _ _ => False) h82)))))) (fun _ _ => False) h)))) ∧ ((x2 &&& (31 : Int32)) = (8 : Int32) → (gh_LI h v0 (v5 + (1 : Int32)) (fun x91 => (gh_LI h v0 (v5 + (2 : Int32)) (fun x92 => (gh_LI h v0 (v5 + (3 : Int32)) (fun x93 => (wp_X0_pageAt κ v1 x91 x92 x93 v3 (fun r94 h95 => (gh_LI h95 v0 (v5 + (1 : Int32)) (fun x96 => (gh_LI h95 v0 (v5 + (2 : Int32)) (fun x97 => (gh_LI h95 v0 (v5 + (3 : Int32)) (fun x98 => (gh_RC h95 v2 1 (fun a99 => (wp_X3_pageAt κ a99 x96 x97 x98 (fun r100 h101 => (gh_RC h101 (some a99) 1 (fun _ => (wp_X3_thrown κ a99 (fun r103 h104 => ((r103 = r94 → ((r94 = 0 → (gh_LJ h104 v3 (0 : Int32) (fun x105 => (((lg_cmp x105 (r100.toInt64)) = 0 → wb_L_law_702 κ K28 it28 v0 v1 (some a99) v3 v4 v5 h104) ∧ (¬ (lg_cmp x105 (r100.toInt64)) = 0 → ((0 : Int32) = 1)))))) ∧ (¬ r94 = 0 → wb_L_law_702 κ K28 it28 v0 v1 (some a99) v3 v4 v5 h104))) ∧ (¬ r103 = r94 → ((0 : Int32) = 1)))) (fun _ _ => False) h101)))) (fun _ _ => False) h95)))))))))) (fun _ _ => False) h)))))))) ∧ ((x2 &&& (31 : Int32)) = (9 : Int32) → (gh_LI h v0 (v5 + (1 : Int32)) (fun x106 => (gh_LI h v0 (v5 + (2 : Int32)) (fun x107 => (wp_X0_sheetOf κ v1 x106 x107 v3 (fun r108 h109 => (gh_LI h109 v0 (v5 + (1 : Int32)) (fun x110 => (gh_LI h109 v0 (v5 + (2 : Int32)) (fun x111 => (gh_RC h109 v2 1 (fun a112 => (wp_X3_sheetOf κ a112 x110 x111 (fun r113 h114 => (gh_RC h114 (some a112) 1 (fun _ => (wp_X3_thrown κ a112 (fun r116 h117 => ((r116 = r108 → ((r108 = 0 → (gh_LJ h117 v3 (0 : Int32) (fun x118 => (((lg_cmp x118 (r113.toInt64)) = 0 → wb_L_law_770 κ K28 it28 v0 v1 (some a112) v3 v4 v5 h117) ∧ (¬ (lg_cmp x118 (r113.toInt64)) = 0 → ((0 : Int32) = 1)))))) ∧ (¬ r108 = 0 → wb_L_law_770 κ K28 it28 v0 v1 (some a112) v3 v4 v5 h117))) ∧ (¬ r116 = r108 → ((0 : Int32) = 1)))) (fun _ _ => False) h114)))) (fun _ _ => False) h109)))))))) (fun _ _ => False) h)))))) ∧ ((x2 &&& (31 : Int32)) = (10 : Int32) → (gh_LI h v0 (v5 + (1 : Int32)) (fun x119 => (gh_LI h v0 (v5 + (2 : Int32)) (fun x120 => (gh_LI h v0 (v5 + (3 : Int32)) (fun x121 => (wp_X0_print κ v1 x119 x120 x121 v3 (fun r122 h123 => (gh_LI h123 v0 (v5 + (1 : Int32)) (fun x124 => (gh_LI h123 v0 (v5 + (2 : Int32)) (fun x125 => (gh_LI h123 v0 (v5 + (3 : Int32)) (fun x126 => (gh_RC h123 v2 1 (fun a127 => (wp_X3_print κ a127 x124 x125 x126 (fun r128 h129 => (gh_RC h129 (some a127) 1 (fun _ => (wp_X3_thrown κ a127 (fun r131 h132 => ((r131 = r122 → ((r122 = 0 → (gh_LJ h132 v3 (0 : Int32) (fun x133 => (((lg_cmp x133 (r128.toInt64)) = 0 → wb_L_law_850 κ K28 it28 v0 v1 (some a127) v3 v4 v5 h132) ∧ (¬ (lg_cmp x133 (r128.toInt64)) = 0 → ((0 : Int32) = 1)))))) ∧ (¬ r122 = 0 → wb_L_law_850 κ K28 it28 v0 v1 (some a127) v3 v4 v5 h132))) ∧ (¬ r131 = r122 → ((0 : Int32) = 1)))) (fun _ _ => False) h129)))) (fun _ _ => False) h123)))))))))) (fun _ _ => False) h)))))))) ∧ ((x2 &&& (31 : Int32)) = (11 : Int32) → (gh_LI h v0 (v5 + (1 : Int32)) (fun x134 => (gh_LI h v0 (v5 + (2 : Int32)) (fun x135 => (wp_X0_makeready κ v1 x134 x135 v3 (fun r136 h137 => (gh_LI h137 v0 (v5 + (1 : Int32)) (fun x138 => (gh_LI h137 v0 (v5 + (2 : Int32)) (fun x139 => (gh_RC h137 v2 1 (fun a140 => (wp_X3_makeready κ a140 x138 x139 (fun r141 h142 => (gh_RC h142 (some a140) 1 (fun _ => (wp_X3_thrown κ a140 (fun r144 h145 => ((r144 = r136 → ((r136 = 0 → (gh_LJ h145 v3 (0 : Int32) (fun x146 => (((lg_cmp x146 (r141.toInt64)) = 0 → wb_L_law_918 κ K28 it28 v0 v1 (some a140) v3 v4 v5 h145) ∧ (¬ (lg_cmp x146 (r141.toInt64)) = 0 → ((0 : Int32) = 1)))))) ∧ (¬ r136 = 0 → wb_L_law_918 κ K28 it28 v0 v1 (some a140) v3 v4 v5 h145))) ∧ (¬ r144 = r136 → ((0 : Int32) = 1)))) (fun _ _ => False) h142)))) (fun _ _ => False) h137)))))))) (fun _ _ => False) h)))))) ∧ ((x2 &&& (31 : Int32)) = (12 : Int32) → (gh_LI h v0 (v5 + (1 : Int32)) (fun x147 => (wp_X0_leastMakeready κ v1 x147 v3 (fun r148 h149 => (gh_LI h149 v0 (v5 + (1 : Int32)) (fun x150 => (gh_RC h149 v2 1 (fun a151 => (wp_X3_leastMakeready κ a151 x150 (fun r152 h153 => (gh_RC h153 (some a151) 1 (fun _ => (wp_X3_thrown κ a151 (fun r155 h156 => ((r155 = r148 → ((r148 = 0 → (gh_LJ h156 v3 (0 : Int32) (fun x157 => (((lg_cmp x157 (r152.toInt64)) = 0 → wb_L_law_974 κ K28 it28 v0 v1 (some a151) v3 v4 v5 h156) ∧ (¬ (lg_cmp x157 (r152.toInt64)) = 0 → ((0 : Int32) = 1)))))) ∧ (¬ r148 = 0 → wb_L_law_974 κ K28 it28 v0 v1 (some a151) v3 v4 v5 h156))) ∧ (¬ r155 = r148 → ((0 : Int32) = 1)))) (fun _ _ => False) h153)))) (fun _ _ => False) h149)))))) (fun _ _ => False) h)))) ∧ ((x2 &&& (31 : Int32)) = (13 : Int32) → (gh_LI h v0 (v5 + (1 : Int32)) (fun x158 => (wp_X0_leastByTrying κ v1 x158 v3 (fun r159 h160 => (gh_LI h160 v0 (v5 + (1 : Int32)) (fun x161 => (gh_RC h160 v2 1 (fun a162 => (wp_X3_leastByTrying κ a162 x161 (fun r163 h164 => (gh_RC h164 (some a162) 1 (fun _ => (wp_X3_thrown κ a162 (fun r166 h167 => ((r166 = r159 → ((r159 = 0 → (gh_LJ h167 v3 (0 : Int32) (fun x168 => (((lg_cmp x168 (r163.toInt64)) = 0 → wb_L_law_1030 κ K28 it28 v0 v1 (some a162) v3 v4 v5 h167) ∧ (¬ (lg_cmp x168 (r163.toInt64)) = 0 → ((0 : Int32) = 1)))))) ∧ (¬ r159 = 0 → wb_L_law_1030 κ K28 it28 v0 v1 (some a162) v3 v4 v5 h167))) ∧ (¬ r166 = r159 → ((0 : Int32) = 1)))) (fun _ _ => False) h164)))) (fun _ _ => False) h160)))))) (fun _ _ => False) h)))) ∧ ((x2 &&& (31 : Int32)) = (14 : Int32) → (gh_LI h v0 (v5 + (1 : Int32)) (fun x169 => (gh_LI h v0 (v5 + (2 : Int32)) (fun x170 => (wp_X0_stock κ v1 x169 x170 v3 (fun r171 h172 => (gh_LI h172 v0 (v5 + (1 : Int32)) (fun x173 => (gh_LI h172 v0 (v5 + (2 : Int32)) (fun x174 => (gh_RC h172 v2 1 (fun a175 => (wp_X3_stock κ a175 x173 x174 (fun r176 h177 => (gh_RC h177 (some a175) 1 (fun _ => (wp_X3_thrown κ a175 (fun r179 h180 => ((r179 = r171 → ((r171 = 0 → (gh_LJ h180 v3 (0 : Int32) (fun x181 => (((lg_cmp x181 (r176.toInt64)) = 0 → wb_L_law_1098 κ K28 it28 v0 v1 (some a175) v3 v4 v5 h180) ∧ (¬ (lg_cmp x181 (r176.toInt64)) = 0 → ((0 : Int32) = 1)))))) ∧ (¬ r171 = 0 → wb_L_law_1098 κ K28 it28 v0 v1 (some a175) v3 v4 v5 h180))) ∧ (¬ r179 = r171 → ((0 : Int32) = 1)))) (fun _ _ => False) h177)))) (fun _ _ => False) h172)))))))) (fun _ _ => False) h)))))) ∧ ((x2 &&& (31 : Int32)) = (15 : Int32) → (gh_RC h v1 0 (fun a182 => (wp_X1_plates κ a182 (fun r183 h184 => (gh_RC h184 v2 1 (fun a185 => (wp_X3_plates κ a185 (fun r186 h187 => ((r183 = r186 → wb_L_law_1712 κ K28 it28 v0 (some a182) (some a185) v3 v4 v5 h187) ∧ (¬ r183 = r186 → ((0 : Int32) = 1)))) (fun _ _ => False) h184)))) (fun _ _ => False) h)))) ∧ ((x2 &&& (31 : Int32)) = (16 : Int32) → (gh_LI h v0 (v5 + (1 : Int32)) (fun x188 => (wp_X0_platesNeeded κ v1 x188 v3 (fun r189 h190 => (gh_LI h190 v0 (v5 + (1 : Int32)) (fun x191 => (gh_RC h190 v2 1 (fun a192 => (wp_X3_platesNeeded κ a192 x191 (fun r193 h194 => (gh_RC h194 (some a192) 1 (fun _ => (wp_X3_thrown κ a192 (fun r196 h197 => ((r196 = r189 → ((r189 = 0 → (gh_LJ h197 v3 (0 : Int32) (fun x198 => (((lg_cmp x198 (r193.toInt64)) = 0 → wb_L_law_1167 κ K28 it28 v0 v1 (some a192) v3 v4 v5 h197) ∧ (¬ (lg_cmp x198 (r193.toInt64)) = 0 → ((0 : Int32) = 1)))))) ∧ (¬ r189 = 0 → wb_L_law_1167 κ K28 it28 v0 v1 (some a192) v3 v4 v5 h197))) ∧ (¬ r196 = r189 → ((0 : Int32) = 1)))) (fun _ _ => False) h194)))) (fun _ _ => False) h190)))))) (fun _ _ => False) h)))) ∧ ((x2 &&& (31 : Int32)) = (17 : Int32) → (gh_LI h v0 (v5 + (1 : Int32)) (fun x199 => (gh_LI h v0 (v5 + (2 : Int32)) (fun x200 => (wp_X0_bind κ v1 x199 x200 v3 (fun r201 h202 => (gh_LI h202 v0 (v5 + (1 : Int32)) (fun x203 => (gh_LI h202 v0 (v5 + (2 : Int32)) (fun x204 => (gh_RC h202 v2 1 (fun a205 => (wp_X3_bind κ a205 x203 x204 (fun r206 h207 => (gh_RC h207 (some a205) 1 (fun _ => (wp_X3_thrown κ a205 (fun r209 h210 => ((r209 = r201 → ((r201 = 0 → (gh_LJ h210 v3 (0 : Int32) (fun x211 => (((lg_cmp x211 (r206.toInt64)) = 0 → wb_L_law_1235 κ K28 it28 v0 v1 (some a205) v3 v4 v5 h210) ∧ (¬ (lg_cmp x211 (r206.toInt64)) = 0 → ((0 : Int32) = 1)))))) ∧ (¬ r201 = 0 → wb_L_law_1235 κ K28 it28 v0 v1 (some a205) v3 v4 v5 h210))) ∧ (¬ r209 = r201 → ((0 : Int32) = 1)))) (fun _ _ => False) h207)))) (fun _ _ => False) h202)))))))) (fun _ _ => False) h)))))) ∧ ((x2 &&& (31 : Int32)) = (18 : Int32) → (gh_LI h v0 (v5 + (1 : Int32)) (fun x212 => (gh_LI h v0 (v5 + (2 : Int32)) (fun x213 => (wp_X0_lacks κ v1 x212 x213 v3 (fun r214 h215 => (gh_LI h215 v0 (v5 + (1 : Int32)) (fun x216 => (gh_LI h215 v0 (v5 + (2 : Int32)) (fun x217 => (gh_RC h215 v2 1 (fun a218 => (wp_X3_lacks κ a218 x216 x217 (fun r219 h220 => (gh_RC h220 (some a218) 1 (fun _ => (wp_X3_thrown κ a218 (fun r222 h223 => ((r222 = r214 → ((r214 = 0 → (gh_LJ h223 v3 (0 : Int32) (fun x224 => (((lg_cmp x224 (r219.toInt64)) = 0 → wb_L_law_1303 κ K28 it28 v0 v1 (some a218) v3 v4 v5 h223) ∧ (¬ (lg_cmp x224 (r219.toInt64)) = 0 → ((0 : Int32) = 1)))))) ∧ (¬ r214 = 0 → wb_L_law_1303 κ K28 it28 v0 v1 (some a218) v3 v4 v5 h223))) ∧ (¬ r222 = r214 → ((0 : Int32) = 1)))) (fun _ _ => False) h220)))) (fun _ _ => False) h215)))))))) (fun _ _ => False) h)))))) ∧ ((x2 &&& (31 : Int32)) = (19 : Int32) → (gh_RC h v1 0 (fun a225 => (wp_X1_lots κ a225 (fun r226 h227 => (gh_RC h227 v2 1 (fun a228 => (wp_X3_lots κ a228 (fun r229 h230 => ((r226 = r229 → wb_L_law_1712 κ K28 it28 v0 (some a225) (some a228) v3 v4 v5 h230) ∧ (¬ r226 = r229 → ((0 : Int32) = 1)))) (fun _ _ => False) h227)))) (fun _ _ => False) h)))) ∧ ((x2 &&& (31 : Int32)) = (20 : Int32) → (gh_LI h v0 (v5 + (1 : Int32)) (fun x231 => (wp_X0_copies κ v1 x231 v3 (fun r232 h233 => (gh_LI h233 v0 (v5 + (1 : Int32)) (fun x234 => (gh_RC h233 v2 1 (fun a235 => (wp_X3_copies κ a235 x234 (fun r236 h237 => (gh_RC h237 (some a235) 1 (fun _ => (wp_X3_thrown κ a235 (fun r239 h240 => ((r239 = r232 → ((r232 = 0 → (gh_LJ h240 v3 (0 : Int32) (fun x241 => (((lg_cmp x241 (r236.toInt64)) = 0 → wb_L_law_1372 κ K28 it28 v0 v1 (some a235) v3 v4 v5 h240) ∧ (¬ (lg_cmp x241 (r236.toInt64)) = 0 → ((0 : Int32) = 1)))))) ∧ (¬ r232 = 0 → wb_L_law_1372 κ K28 it28 v0 v1 (some a235) v3 v4 v5 h240))) ∧ (¬ r239 = r232 → ((0 : Int32) = 1)))) (fun _ _ => False) h237)))) (fun _ _ => False) h233)))))) (fun _ _ => False) h)))) ∧ ((x2 &&& (31 : Int32)) = (21 : Int32) → (gh_LI h v0 (v5 + (1 : Int32)) (fun x242 => (gh_LI h v0 (v5 + (2 : Int32)) (fun x243 => (wp_X0_stateIn κ v1 x242 x243 v3 (fun r244 h245 => (gh_LI h245 v0 (v5 + (1 : Int32)) (fun x246 => (gh_LI h245 v0 (v5 + (2 : Int32)) (fun x247 => (gh_RC h245 v2 1 (fun a248 => (wp_X3_stateIn κ a248 x246 x247 (fun r249 h250 => (gh_RC h250 (some a248) 1 (fun _ => (wp_X3_thrown κ a248 (fun r252 h253 => ((r252 = r244 → ((r244 = 0 → (gh_LJ h253 v3 (0 : Int32) (fun x254 => (((lg_cmp x254 (r249.toInt64)) = 0 → wb_L_law_1440 κ K28 it28 v0 v1 (some a248) v3 v4 v5 h253) ∧ (¬ (lg_cmp x254 (r249.toInt64)) = 0 → ((0 : Int32) = 1)))))) ∧ (¬ r244 = 0 → wb_L_law_1440 κ K28 it28 v0 v1 (some a248) v3 v4 v5 h253))) ∧ (¬ r252 = r244 → ((0 : Int32) = 1)))) (fun _ _ => False) h250)))) (fun _ _ => False) h245)))))))) (fun _ _ => False) h)))))) ∧ ((x2 &&& (31 : Int32)) = (22 : Int32) → (gh_LI h v0 (v5 + (1 : Int32)) (fun x255 => (gh_LI h v0 (v5 + (2 : Int32)) (fun x256 => (wp_X0_stateByReplay κ v1 x255 x256 v3 (fun r257 h258 => (gh_LI h258 v0 (v5 + (1 : Int32)) (fun x259 => (gh_LI h258 v0 (v5 + (2 : Int32)) (fun x260 => (gh_RC h258 v2 1 (fun a261 => (wp_X3_stateByReplay κ a261 x259 x260 (fun r262 h263 => (gh_RC h263 (some a261) 1 (fun _ => (wp_X3_thrown κ a261 (fun r265 h266 => ((r265 = r257 → ((r257 = 0 → (gh_LJ h266 v3 (0 : Int32) (fun x267 => (((lg_cmp x267 (r262.toInt64)) = 0 → wb_L_law_1508 κ K28 it28 v0 v1 (some a261) v3 v4 v5 h266) ∧ (¬ (lg_cmp x267 (r262.toInt64)) = 0 → ((0 : Int32) = 1)))))) ∧ (¬ r257 = 0 → wb_L_law_1508 κ K28 it28 v0 v1 (some a261) v3 v4 v5 h266))) ∧ (¬ r265 = r257 → ((0 : Int32) = 1)))) (fun _ _ => False) h263)))) (fun _ _ => False) h258)))))))) (fun _ _ => False) h)))))) ∧ ((x2 &&& (31 : Int32)) = (23 : Int32) → (gh_LI h v0 (v5 + (1 : Int32)) (fun x268 => (wp_X0_outdated κ v1 x268 v3 (fun r269 h270 => (gh_LI h270 v0 (v5 + (1 : Int32)) (fun x271 => (gh_RC h270 v2 1 (fun a272 => (wp_X3_outdated κ a272 x271 (fun r273 h274 => (gh_RC h274 (some a272) 1 (fun _ => (wp_X3_thrown κ a272 (fun r276 h277 => ((r276 = r269 → ((r269 = 0 → (gh_LJ h277 v3 (0 : Int32) (fun x278 => (((lg_cmp x278 (r273.toInt64)) = 0 → wb_L_law_1564 κ K28 it28 v0 v1 (some a272) v3 v4 v5 h277) ∧ (¬ (lg_cmp x278 (r273.toInt64)) = 0 → ((0 : Int32) = 1)))))) ∧ (¬ r269 = 0 → wb_L_law_1564 κ K28 it28 v0 v1 (some a272) v3 v4 v5 h277))) ∧ (¬ r276 = r269 → ((0 : Int32) = 1)))) (fun _ _ => False) h274)))) (fun _ _ => False) h270)))))) (fun _ _ => False) h)))) ∧ ((x2 &&& (31 : Int32)) = (24 : Int32) → (gh_RC h v1 0 (fun a279 => (wp_X1_waste κ a279 (fun r280 h281 => (gh_RC h281 v2 1 (fun a282 => (wp_X3_waste κ a282 (fun r283 h284 => (((lg_cmp r280 r283) = 0 → wb_L_law_1712 κ K28 it28 v0 (some a279) (some a282) v3 v4 v5 h284) ∧ (¬ (lg_cmp r280 r283) = 0 → ((0 : Int32) = 1)))) (fun _ _ => False) h281)))) (fun _ _ => False) h)))) ∧ ((x2 &&& (31 : Int32)) = (25 : Int32) → (wp_X0_wasteShare κ v1 v4 (fun r285 h286 => (gh_RC h286 v2 1 (fun a287 => (wp_X3_wasteShare κ a287 (fun r288 h289 => (gh_RC h289 (some a287) 1 (fun _ => (wp_X3_thrown κ a287 (fun r291 h292 => ((r291 = r285 → ((r285 = 0 → (gh_LD h292 v4 (0 : Int32) (fun x293 => (vf_n64 (FP.f2d r288) ∧ (((Op.cmpValue (FP.dcmp x293 (FP.f2d r288)) .l) = 0 → wb_L_law_1644 κ K28 it28 v0 v1 (some a287) v3 v4 v5 h292) ∧ (¬ (Op.cmpValue (FP.dcmp x293 (FP.f2d r288)) .l) = 0 → (gh_LD h292 v4 (0 : Int32) (fun x294 => (gh_LD h292 v4 (0 : Int32) (fun x295 => (((Op.cmpValue (FP.dcmp x294 x295) .l) = 0 → wb_L_law_1642 κ h292) ∧ (¬ (Op.cmpValue (FP.dcmp x294 x295) .l) = 0 → (((Op.cmpValue (FP.fcmp r288 r288) .l) = 0 → wb_L_law_1642 κ h292) ∧ (¬ (Op.cmpValue (FP.fcmp r288 r288) .l) = 0 → wb_L_law_1644 κ K28 it28 v0 v1 (some a287) v3 v4 v5 h292)))))))))))))) ∧ (¬ r285 = 0 → wb_L_law_1644 κ K28 it28 v0 v1 (some a287) v3 v4 v5 h292))) ∧ (¬ r291 = r285 → ((0 : Int32) = 1)))) (fun _ _ => False) h289)))) (fun _ _ => False) h286)))) (fun _ _ => False) h)) ∧ ((x2 &&& (31 : Int32)) = (26 : Int32) → (wp_X0_meanMakeready κ v1 v4 (fun r296 h297 => (gh_RC h297 v2 1 (fun a298 => (wp_X3_meanMakeready κ a298 (fun r299 h300 => (gh_RC h300 (some a298) 1 (fun _ => (wp_X3_thrown κ a298 (fun r302 h303 => ((r302 = r296 → ((r296 = 0 → (gh_LD h303 v4 (0 : Int32) (fun x304 => (((Op.cmpValue (FP.dcmp x304 r299) .l) = 0 → wb_L_law_1709 κ K28 it28 v0 v1 (some a298) v3 v4 v5 h303) ∧ (¬ (Op.cmpValue (FP.dcmp x304 r299) .l) = 0 → (gh_LD h303 v4 (0 : Int32) (fun x305 => (gh_LD h303 v4 (0 : Int32) (fun x306 => (((Op.cmpValue (FP.dcmp x305 x306) .l) = 0 → wb_L_law_1707 κ h303) ∧ (¬ (Op.cmpValue (FP.dcmp x305 x306) .l) = 0 → (((Op.cmpValue (FP.dcmp r299 r299) .l) = 0 → wb_L_law_1707 κ h303) ∧ (¬ (Op.cmpValue (FP.dcmp r299 r299) .l) = 0 → wb_L_law_1709 κ K28 it28 v0 v1 (some a298) v3 v4 v5 h303))))))))))))) ∧ (¬ r296 = 0 → wb_L_law_1709 κ K28 it28 v0 v1 (some a298) v3 v4 v5 h303))) ∧ (¬ r302 = r296 → ((0 : Int32) = 1)))) (fun _ _ => False) h300)))) (fun _ _ => False) h297)))) (fun _ _ => False) h)) ∧ (¬ (x2 &&& (31 : Int32)) = (0 : Int32) ∧ ¬ (x2 &&& (31 : Int32)) = (1 : Int32) ∧ ¬ (x2 &&& (31 : Int32)) = (2 : Int32) ∧ ¬ (x2 &&& (31 : Int32)) = (3 : Int32) ∧ ¬ (x2 &&& (31 : Int32)) = (4 : Int32) ∧ ¬ (x2 &&& (31 : Int32)) = (5 : Int32) ∧ ¬ (x2 &&& (31 : Int32)) = (6 : Int32) ∧ ¬ (x2 &&& (31 : Int32)) = (7 : Int32) ∧ ¬ (x2 &&& (31 : Int32)) = (8 : Int32) ∧ ¬ (x2 &&& (31 : Int32)) = (9 : Int32) ∧ ¬ (x2 &&& (31 : Int32)) = (10 : Int32) ∧ ¬ (x2 &&& (31 : Int32)) = (11 : Int32) ∧ ¬ (x2 &&& (31 : Int32)) = (12 : Int32) ∧ ¬ (x2 &&& (31 : Int32)) = (13 : Int32) ∧ ¬ (x2 &&& (31 : Int32)) = (14 : Int32) ∧ ¬ (x2 &&& (31 : Int32)) = (15 : Int32) ∧ ¬ (x2 &&& (31 : Int32)) = (16 : Int32) ∧ ¬ (x2 &&& (31 : Int32)) = (17 : Int32) ∧ ¬ (x2 &&& (31 : Int32)) = (18 : Int32) ∧ ¬ (x2 &&& (31 : Int32)) = (19 : Int32) ∧ ¬ (x2 &&& (31 : Int32)) = (20 : Int32) ∧ ¬ (x2 &&& (31 : Int32)) = (21 : Int32) ∧ ¬ (x2 &&& (31 : Int32)) = (22 : Int32) ∧ ¬ (x2 &&& (31 : Int32)) = (23 : Int32) ∧ ¬ (x2 &&& (31 : Int32)) = (24 : Int32) ∧ ¬ (x2 &&& (31 : Int32)) = (25 : Int32) ∧ ¬ (x2 &&& (31 : Int32)) = (26 : Int32) → wb_L_law_1712 κ K28 it28 v0 v1 v2 v3 v4 v5 h))))))))
def wl_L_law_28 (κ : Nat → Nat)  : Nat → Nat → Option Nat → Option Nat → Option Nat → Option Nat → Option Nat → Int32 → gh_H → Prop
  | 0 => fun _ _ _ _ _ _ _ _ => False
  | n + 1 => fun it28 v0 v1 v2 v3 v4 v5 h => it28 ≤ 64 ∧ wb_L_law_28 κ (wl_L_law_28 κ  n) it28 v0 v1 v2 v3 v4 v5 h
def wp_L_law (κ : Nat → Nat) (v0 : Option Nat) (h : gh_H) : Prop := (gh_NO h 0 [va_rf none, va_rf none, va_rf none, va_rf none, va_rf none, va_rf none, va_rf none, .int 0, .long 0, va_rf none, va_rf none] (fun q1 h2 => (wp_X1_init κ q1 (fun h3 => (gh_NO h3 1 [.int 0, .int 0, .int 0, .int 0, .int 0, .int 0, .int 0, .int 0, .int 0, .int 0, .long 0, .long 0, va_rf none, va_rf none, va_rf none, va_rf none, va_rf none, va_rf none, va_rf none, va_rf none, va_rf none, va_rf none, va_rf none, va_rf none, va_rf none, va_rf none] (fun q4 h5 => (wp_X3_init κ q4 (fun h6 => (gh_NA h6 1 (1 : Int32) 1 (.inr (.inl (fun _ => 0))) (fun q7 h8 => (gh_NA h8 2 (1 : Int32) 1 (.inr (.inr (.inr (.inl (fun _ => 0))))) (fun q9 h10 => (∃ n : Nat, wl_L_law_28 κ n 0 v0 (some q1) (some q4) (some q7) (some q9) (0 : Int32) h10)))))) (fun _ _ => False) h5)))) (fun _ _ => False) h2)))
set_option maxHeartbeats 4000000 in
theorem wk_L_law_1712 {D : gh_D} {p : Program} {l : Launch} {e : Env} {s : State} {m : MethodId} {b0 : Nat} {below : List Frame} {meth : Method} {c : Code} {h0 : gh_H} (M : gh_M D p l s m #[Value.ref b0] meth c R_law code 9 (gh_A h0 s.heap.size)) (hz0 : ∀ (a lb : Nat) (e : gh_C), h0 a = some (lb, e) → lb = 0) (hr : meth.sig.returnType = some .boolean) {K28 : Nat → Option Nat → Option Nat → Option Nat → Option Nat → Option Nat → Int32 → gh_H → Prop} {it28 : Nat}  (k28 : ∀ (it28 : Nat) (v0 : Option Nat) (v1 : Option Nat) (v2 : Option Nat) (v3 : Option Nat) (v4 : Option Nat) (v5 : Int32) (H : Heap) (locs : List Loc) (ls : Array Slot) (h : gh_H) (_ : gh_Inv D h0 (gh_A h0 s.heap.size) s.heap s H locs h) (_ : gh_L ls 9 [(0, 1, va_rf v0), (1, 1, va_rf v1), (2, 1, va_rf v2), (3, 1, va_rf v3), (4, 1, va_rf v4), (5, 1, .int v5)]) (_ : K28 it28 v0 v1 v2 v3 v4 v5 h), W p l e room_1 s m #[Value.ref b0] below meth c H locs (27 + it28 * 440) (5257 + it28 * 2551) (lw_Z below #[Value.ref b0] s) (F0 m 28 ls [])) (hit28 : it28 ≤ 64) (v0 : Option Nat) (v1 : Option Nat) (v2 : Option Nat) (v3 : Option Nat) (v4 : Option Nat) (v5 : Int32) (H : Heap) (locs : List Loc) (ls : Array Slot) (h : gh_H) (G : gh_Inv D h0 (gh_A h0 s.heap.size) s.heap s H locs h) (hl : gh_L ls 9 [(0, 1, va_rf v0), (1, 1, va_rf v1), (2, 1, va_rf v2), (3, 1, va_rf v3), (4, 1, va_rf v4), (5, 1, .int v5)]) (hw : wb_L_law_1712 D.2.2 K28 it28 v0 v1 v2 v3 v4 v5 h) : W p l e room_1 s m #[Value.ref b0] below meth c H locs (467 + it28 * 440) (7808 + it28 * 2551) (lw_Z below #[Value.ref b0] s) (F0 m 1712 ls []) := by
  unfold wb_L_law_1712 at hw
  have hx := M.1.1
  have hb := M.1.2.1
  refine gh_iinc (k := 5) (v := (v5 + (4 : Int32))) (lv' := [(5, 1, .int (v5 + (4 : Int32))), (0, 1, va_rf v0), (1, 1, va_rf v1), (2, 1, va_rf v2), (3, 1, va_rf v3), (4, 1, va_rf v4)]) hx hb dL_law_1712 hl rfl rfl (by decide) rfl (fun ls hl => ?_)
  refine lv_goto (tgt := 28) hx hb dL_law_1715 (by decide) ?_
  refine W.widen (k := 27 + (it28 + 1) * 440) (n := 5257 + (it28 + 1) * 2551) (by omega) (by omega) ?_
  exact k28 (it28 + 1) v0 v1 v2 v3 v4 (v5 + (4 : Int32)) _ _ _ _ G (gh_sub hl [1, 2, 3, 4, 5, 0] rfl) hw
set_option maxHeartbeats 4000000 in
theorem wk_L_law_209 {D : gh_D} {p : Program} {l : Launch} {e : Env} {s : State} {m : MethodId} {b0 : Nat} {below : List Frame} {meth : Method} {c : Code} {h0 : gh_H} (M : gh_M D p l s m #[Value.ref b0] meth c R_law code 9 (gh_A h0 s.heap.size)) (hz0 : ∀ (a lb : Nat) (e : gh_C), h0 a = some (lb, e) → lb = 0) (hr : meth.sig.returnType = some .boolean) {K28 : Nat → Option Nat → Option Nat → Option Nat → Option Nat → Option Nat → Int32 → gh_H → Prop} {it28 : Nat}  (k28 : ∀ (it28 : Nat) (v0 : Option Nat) (v1 : Option Nat) (v2 : Option Nat) (v3 : Option Nat) (v4 : Option Nat) (v5 : Int32) (H : Heap) (locs : List Loc) (ls : Array Slot) (h : gh_H) (_ : gh_Inv D h0 (gh_A h0 s.heap.size) s.heap s H locs h) (_ : gh_L ls 9 [(0, 1, va_rf v0), (1, 1, va_rf v1), (2, 1, va_rf v2), (3, 1, va_rf v3), (4, 1, va_rf v4), (5, 1, .int v5)]) (_ : K28 it28 v0 v1 v2 v3 v4 v5 h), W p l e room_1 s m #[Value.ref b0] below meth c H locs (27 + it28 * 440) (5257 + it28 * 2551) (lw_Z below #[Value.ref b0] s) (F0 m 28 ls [])) (hit28 : it28 ≤ 64) (v0 : Option Nat) (v1 : Option Nat) (v2 : Option Nat) (v3 : Option Nat) (v4 : Option Nat) (v5 : Int32) (H : Heap) (locs : List Loc) (ls : Array Slot) (h : gh_H) (G : gh_Inv D h0 (gh_A h0 s.heap.size) s.heap s H locs h) (hl : gh_L ls 9 [(0, 1, va_rf v0), (1, 1, va_rf v1), (2, 1, va_rf v2), (3, 1, va_rf v3), (4, 1, va_rf v4), (5, 1, .int v5)]) (hw : wb_L_law_209 D.2.2 K28 it28 v0 v1 v2 v3 v4 v5 h) : W p l e room_1 s m #[Value.ref b0] below meth c H locs (30 + it28 * 440) (5346 + it28 * 2551) (lw_Z below #[Value.ref b0] s) (F0 m 209 ls []) := by
  unfold wb_L_law_209 at hw
  have hx := M.1.1
  have hb := M.1.2.1
  refine lv_goto (tgt := 1712) hx hb dL_law_209 (by decide) ?_
  refine W.widen (k := 467 + it28 * 440) (n := 7808 + it28 * 2551) (by omega) (by omega) ?_
  exact wk_L_law_1712 M hz0 hr k28 hit28 v0 v1 v2 v3 v4 v5 _ _ _ _ G (gh_sub hl [0, 1, 2, 3, 4, 5] rfl) hw
set_option maxHeartbeats 4000000 in
theorem wk_L_law_272 {D : gh_D} {p : Program} {l : Launch} {e : Env} {s : State} {m : MethodId} {b0 : Nat} {below : List Frame} {meth : Method} {c : Code} {h0 : gh_H} (M : gh_M D p l s m #[Value.ref b0] meth c R_law code 9 (gh_A h0 s.heap.size)) (hz0 : ∀ (a lb : Nat) (e : gh_C), h0 a = some (lb, e) → lb = 0) (hr : meth.sig.returnType = some .boolean) {K28 : Nat → Option Nat → Option Nat → Option Nat → Option Nat → Option Nat → Int32 → gh_H → Prop} {it28 : Nat}  (k28 : ∀ (it28 : Nat) (v0 : Option Nat) (v1 : Option Nat) (v2 : Option Nat) (v3 : Option Nat) (v4 : Option Nat) (v5 : Int32) (H : Heap) (locs : List Loc) (ls : Array Slot) (h : gh_H) (_ : gh_Inv D h0 (gh_A h0 s.heap.size) s.heap s H locs h) (_ : gh_L ls 9 [(0, 1, va_rf v0), (1, 1, va_rf v1), (2, 1, va_rf v2), (3, 1, va_rf v3), (4, 1, va_rf v4), (5, 1, .int v5)]) (_ : K28 it28 v0 v1 v2 v3 v4 v5 h), W p l e room_1 s m #[Value.ref b0] below meth c H locs (27 + it28 * 440) (5257 + it28 * 2551) (lw_Z below #[Value.ref b0] s) (F0 m 28 ls [])) (hit28 : it28 ≤ 64) (v0 : Option Nat) (v1 : Option Nat) (v2 : Option Nat) (v3 : Option Nat) (v4 : Option Nat) (v5 : Int32) (H : Heap) (locs : List Loc) (ls : Array Slot) (h : gh_H) (G : gh_Inv D h0 (gh_A h0 s.heap.size) s.heap s H locs h) (hl : gh_L ls 9 [(0, 1, va_rf v0), (1, 1, va_rf v1), (2, 1, va_rf v2), (3, 1, va_rf v3), (4, 1, va_rf v4), (5, 1, .int v5)]) (hw : wb_L_law_272 D.2.2 K28 it28 v0 v1 v2 v3 v4 v5 h) : W p l e room_1 s m #[Value.ref b0] below meth c H locs (28 + it28 * 440) (5263 + it28 * 2551) (lw_Z below #[Value.ref b0] s) (F0 m 272 ls []) := by
  unfold wb_L_law_272 at hw
  have hx := M.1.1
  have hb := M.1.2.1
  refine lv_goto (tgt := 1712) hx hb dL_law_272 (by decide) ?_
  refine W.widen (k := 467 + it28 * 440) (n := 7808 + it28 * 2551) (by omega) (by omega) ?_
  exact wk_L_law_1712 M hz0 hr k28 hit28 v0 v1 v2 v3 v4 v5 _ _ _ _ G (gh_sub hl [0, 1, 2, 3, 4, 5] rfl) hw
set_option maxHeartbeats 4000000 in
theorem wk_L_law_266 {D : gh_D} {p : Program} {l : Launch} {e : Env} {s : State} {m : MethodId} {b0 : Nat} {below : List Frame} {meth : Method} {c : Code} {h0 : gh_H} (M : gh_M D p l s m #[Value.ref b0] meth c R_law code 9 (gh_A h0 s.heap.size)) (hz0 : ∀ (a lb : Nat) (e : gh_C), h0 a = some (lb, e) → lb = 0) (hr : meth.sig.returnType = some .boolean) {K28 : Nat → Option Nat → Option Nat → Option Nat → Option Nat → Option Nat → Int32 → gh_H → Prop} {it28 : Nat}  (k28 : ∀ (it28 : Nat) (v0 : Option Nat) (v1 : Option Nat) (v2 : Option Nat) (v3 : Option Nat) (v4 : Option Nat) (v5 : Int32) (H : Heap) (locs : List Loc) (ls : Array Slot) (h : gh_H) (_ : gh_Inv D h0 (gh_A h0 s.heap.size) s.heap s H locs h) (_ : gh_L ls 9 [(0, 1, va_rf v0), (1, 1, va_rf v1), (2, 1, va_rf v2), (3, 1, va_rf v3), (4, 1, va_rf v4), (5, 1, .int v5)]) (_ : K28 it28 v0 v1 v2 v3 v4 v5 h), W p l e room_1 s m #[Value.ref b0] below meth c H locs (27 + it28 * 440) (5257 + it28 * 2551) (lw_Z below #[Value.ref b0] s) (F0 m 28 ls [])) (hit28 : it28 ≤ 64) (v0 : Option Nat) (v1 : Option Nat) (v2 : Option Nat) (v3 : Option Nat) (v4 : Option Nat) (v5 : Int32) (t0 : Int64) (t1 : Int64) (H : Heap) (locs : List Loc) (ls : Array Slot) (h : gh_H) (G : gh_Inv D h0 (gh_A h0 s.heap.size) s.heap s H locs h) (hl : gh_L ls 9 [(0, 1, va_rf v0), (1, 1, va_rf v1), (2, 1, va_rf v2), (3, 1, va_rf v3), (4, 1, va_rf v4), (5, 1, .int v5)]) (hw : wb_L_law_266 D.2.2 K28 it28 v0 v1 v2 v3 v4 v5 t0 t1 h) : W p l e room_1 s m #[Value.ref b0] below meth c H locs (28 + it28 * 440) (5263 + it28 * 2551) (lw_Z below #[Value.ref b0] s) (F0 m 266 ls [.long t1, .long t0]) := by
  unfold wb_L_law_266 at hw
  have hx := M.1.1
  have hb := M.1.2.1
  refine W.lcmp hx hb dL_law_266 ?_
  refine lv_if_eq (tgt := 272) hx hb dL_law_267 (by decide) (fun hc => ?_) (fun hc => ?_)
  · replace hw := hw.1 hc
    exact wk_L_law_272 M hz0 hr k28 hit28 v0 v1 v2 v3 v4 v5 _ _ _ _ G (gh_sub hl [0, 1, 2, 3, 4, 5] rfl) hw
  · replace hw := hw.2 hc
    refine lv_iconst (v := (0 : Int32)) hx hb dL_law_270 (by decide) ?_
    exact gh_lawret M G hz0 hr hw (by omega) (by omega) dL_law_271
set_option maxHeartbeats 4000000 in
theorem wk_L_law_328 {D : gh_D} {p : Program} {l : Launch} {e : Env} {s : State} {m : MethodId} {b0 : Nat} {below : List Frame} {meth : Method} {c : Code} {h0 : gh_H} (M : gh_M D p l s m #[Value.ref b0] meth c R_law code 9 (gh_A h0 s.heap.size)) (hz0 : ∀ (a lb : Nat) (e : gh_C), h0 a = some (lb, e) → lb = 0) (hr : meth.sig.returnType = some .boolean) {K28 : Nat → Option Nat → Option Nat → Option Nat → Option Nat → Option Nat → Int32 → gh_H → Prop} {it28 : Nat}  (k28 : ∀ (it28 : Nat) (v0 : Option Nat) (v1 : Option Nat) (v2 : Option Nat) (v3 : Option Nat) (v4 : Option Nat) (v5 : Int32) (H : Heap) (locs : List Loc) (ls : Array Slot) (h : gh_H) (_ : gh_Inv D h0 (gh_A h0 s.heap.size) s.heap s H locs h) (_ : gh_L ls 9 [(0, 1, va_rf v0), (1, 1, va_rf v1), (2, 1, va_rf v2), (3, 1, va_rf v3), (4, 1, va_rf v4), (5, 1, .int v5)]) (_ : K28 it28 v0 v1 v2 v3 v4 v5 h), W p l e room_1 s m #[Value.ref b0] below meth c H locs (27 + it28 * 440) (5257 + it28 * 2551) (lw_Z below #[Value.ref b0] s) (F0 m 28 ls [])) (hit28 : it28 ≤ 64) (v0 : Option Nat) (v1 : Option Nat) (v2 : Option Nat) (v3 : Option Nat) (v4 : Option Nat) (v5 : Int32) (H : Heap) (locs : List Loc) (ls : Array Slot) (h : gh_H) (G : gh_Inv D h0 (gh_A h0 s.heap.size) s.heap s H locs h) (hl : gh_L ls 9 [(0, 1, va_rf v0), (1, 1, va_rf v1), (2, 1, va_rf v2), (3, 1, va_rf v3), (4, 1, va_rf v4), (5, 1, .int v5)]) (hw : wb_L_law_328 D.2.2 K28 it28 v0 v1 v2 v3 v4 v5 h) : W p l e room_1 s m #[Value.ref b0] below meth c H locs (41 + it28 * 440) (5408 + it28 * 2551) (lw_Z below #[Value.ref b0] s) (F0 m 328 ls []) := by
  unfold wb_L_law_328 at hw
  have hx := M.1.1
  have hb := M.1.2.1
  refine lv_goto (tgt := 1712) hx hb dL_law_328 (by decide) ?_
  refine W.widen (k := 467 + it28 * 440) (n := 7808 + it28 * 2551) (by omega) (by omega) ?_
  exact wk_L_law_1712 M hz0 hr k28 hit28 v0 v1 v2 v3 v4 v5 _ _ _ _ G (gh_sub hl [0, 1, 2, 3, 4, 5] rfl) hw
set_option maxHeartbeats 4000000 in
theorem wk_L_law_384 {D : gh_D} {p : Program} {l : Launch} {e : Env} {s : State} {m : MethodId} {b0 : Nat} {below : List Frame} {meth : Method} {c : Code} {h0 : gh_H} (M : gh_M D p l s m #[Value.ref b0] meth c R_law code 9 (gh_A h0 s.heap.size)) (hz0 : ∀ (a lb : Nat) (e : gh_C), h0 a = some (lb, e) → lb = 0) (hr : meth.sig.returnType = some .boolean) {K28 : Nat → Option Nat → Option Nat → Option Nat → Option Nat → Option Nat → Int32 → gh_H → Prop} {it28 : Nat}  (k28 : ∀ (it28 : Nat) (v0 : Option Nat) (v1 : Option Nat) (v2 : Option Nat) (v3 : Option Nat) (v4 : Option Nat) (v5 : Int32) (H : Heap) (locs : List Loc) (ls : Array Slot) (h : gh_H) (_ : gh_Inv D h0 (gh_A h0 s.heap.size) s.heap s H locs h) (_ : gh_L ls 9 [(0, 1, va_rf v0), (1, 1, va_rf v1), (2, 1, va_rf v2), (3, 1, va_rf v3), (4, 1, va_rf v4), (5, 1, .int v5)]) (_ : K28 it28 v0 v1 v2 v3 v4 v5 h), W p l e room_1 s m #[Value.ref b0] below meth c H locs (27 + it28 * 440) (5257 + it28 * 2551) (lw_Z below #[Value.ref b0] s) (F0 m 28 ls [])) (hit28 : it28 ≤ 64) (v0 : Option Nat) (v1 : Option Nat) (v2 : Option Nat) (v3 : Option Nat) (v4 : Option Nat) (v5 : Int32) (H : Heap) (locs : List Loc) (ls : Array Slot) (h : gh_H) (G : gh_Inv D h0 (gh_A h0 s.heap.size) s.heap s H locs h) (hl : gh_L ls 9 [(0, 1, va_rf v0), (1, 1, va_rf v1), (2, 1, va_rf v2), (3, 1, va_rf v3), (4, 1, va_rf v4), (5, 1, .int v5)]) (hw : wb_L_law_384 D.2.2 K28 it28 v0 v1 v2 v3 v4 v5 h) : W p l e room_1 s m #[Value.ref b0] below meth c H locs (28 + it28 * 440) (5263 + it28 * 2551) (lw_Z below #[Value.ref b0] s) (F0 m 384 ls []) := by
  unfold wb_L_law_384 at hw
  have hx := M.1.1
  have hb := M.1.2.1
  refine lv_goto (tgt := 1712) hx hb dL_law_384 (by decide) ?_
  refine W.widen (k := 467 + it28 * 440) (n := 7808 + it28 * 2551) (by omega) (by omega) ?_
  exact wk_L_law_1712 M hz0 hr k28 hit28 v0 v1 v2 v3 v4 v5 _ _ _ _ G (gh_sub hl [0, 1, 2, 3, 4, 5] rfl) hw
set_option maxHeartbeats 4000000 in
theorem wk_L_law_442 {D : gh_D} {p : Program} {l : Launch} {e : Env} {s : State} {m : MethodId} {b0 : Nat} {below : List Frame} {meth : Method} {c : Code} {h0 : gh_H} (M : gh_M D p l s m #[Value.ref b0] meth c R_law code 9 (gh_A h0 s.heap.size)) (hz0 : ∀ (a lb : Nat) (e : gh_C), h0 a = some (lb, e) → lb = 0) (hr : meth.sig.returnType = some .boolean) {K28 : Nat → Option Nat → Option Nat → Option Nat → Option Nat → Option Nat → Int32 → gh_H → Prop} {it28 : Nat}  (k28 : ∀ (it28 : Nat) (v0 : Option Nat) (v1 : Option Nat) (v2 : Option Nat) (v3 : Option Nat) (v4 : Option Nat) (v5 : Int32) (H : Heap) (locs : List Loc) (ls : Array Slot) (h : gh_H) (_ : gh_Inv D h0 (gh_A h0 s.heap.size) s.heap s H locs h) (_ : gh_L ls 9 [(0, 1, va_rf v0), (1, 1, va_rf v1), (2, 1, va_rf v2), (3, 1, va_rf v3), (4, 1, va_rf v4), (5, 1, .int v5)]) (_ : K28 it28 v0 v1 v2 v3 v4 v5 h), W p l e room_1 s m #[Value.ref b0] below meth c H locs (27 + it28 * 440) (5257 + it28 * 2551) (lw_Z below #[Value.ref b0] s) (F0 m 28 ls [])) (hit28 : it28 ≤ 64) (v0 : Option Nat) (v1 : Option Nat) (v2 : Option Nat) (v3 : Option Nat) (v4 : Option Nat) (v5 : Int32) (H : Heap) (locs : List Loc) (ls : Array Slot) (h : gh_H) (G : gh_Inv D h0 (gh_A h0 s.heap.size) s.heap s H locs h) (hl : gh_L ls 9 [(0, 1, va_rf v0), (1, 1, va_rf v1), (2, 1, va_rf v2), (3, 1, va_rf v3), (4, 1, va_rf v4), (5, 1, .int v5)]) (hw : wb_L_law_442 D.2.2 K28 it28 v0 v1 v2 v3 v4 v5 h) : W p l e room_1 s m #[Value.ref b0] below meth c H locs (52 + it28 * 440) (6099 + it28 * 2551) (lw_Z below #[Value.ref b0] s) (F0 m 442 ls []) := by
  unfold wb_L_law_442 at hw
  have hx := M.1.1
  have hb := M.1.2.1
  refine lv_goto (tgt := 1712) hx hb dL_law_442 (by decide) ?_
  refine W.widen (k := 467 + it28 * 440) (n := 7808 + it28 * 2551) (by omega) (by omega) ?_
  exact wk_L_law_1712 M hz0 hr k28 hit28 v0 v1 v2 v3 v4 v5 _ _ _ _ G (gh_sub hl [0, 1, 2, 3, 4, 5] rfl) hw
set_option maxHeartbeats 4000000 in
theorem wk_L_law_510 {D : gh_D} {p : Program} {l : Launch} {e : Env} {s : State} {m : MethodId} {b0 : Nat} {below : List Frame} {meth : Method} {c : Code} {h0 : gh_H} (M : gh_M D p l s m #[Value.ref b0] meth c R_law code 9 (gh_A h0 s.heap.size)) (hz0 : ∀ (a lb : Nat) (e : gh_C), h0 a = some (lb, e) → lb = 0) (hr : meth.sig.returnType = some .boolean) {K28 : Nat → Option Nat → Option Nat → Option Nat → Option Nat → Option Nat → Int32 → gh_H → Prop} {it28 : Nat}  (k28 : ∀ (it28 : Nat) (v0 : Option Nat) (v1 : Option Nat) (v2 : Option Nat) (v3 : Option Nat) (v4 : Option Nat) (v5 : Int32) (H : Heap) (locs : List Loc) (ls : Array Slot) (h : gh_H) (_ : gh_Inv D h0 (gh_A h0 s.heap.size) s.heap s H locs h) (_ : gh_L ls 9 [(0, 1, va_rf v0), (1, 1, va_rf v1), (2, 1, va_rf v2), (3, 1, va_rf v3), (4, 1, va_rf v4), (5, 1, .int v5)]) (_ : K28 it28 v0 v1 v2 v3 v4 v5 h), W p l e room_1 s m #[Value.ref b0] below meth c H locs (27 + it28 * 440) (5257 + it28 * 2551) (lw_Z below #[Value.ref b0] s) (F0 m 28 ls [])) (hit28 : it28 ≤ 64) (v0 : Option Nat) (v1 : Option Nat) (v2 : Option Nat) (v3 : Option Nat) (v4 : Option Nat) (v5 : Int32) (H : Heap) (locs : List Loc) (ls : Array Slot) (h : gh_H) (G : gh_Inv D h0 (gh_A h0 s.heap.size) s.heap s H locs h) (hl : gh_L ls 9 [(0, 1, va_rf v0), (1, 1, va_rf v1), (2, 1, va_rf v2), (3, 1, va_rf v3), (4, 1, va_rf v4), (5, 1, .int v5)]) (hw : wb_L_law_510 D.2.2 K28 it28 v0 v1 v2 v3 v4 v5 h) : W p l e room_1 s m #[Value.ref b0] below meth c H locs (31 + it28 * 440) (5355 + it28 * 2551) (lw_Z below #[Value.ref b0] s) (F0 m 510 ls []) := by
  unfold wb_L_law_510 at hw
  have hx := M.1.1
  have hb := M.1.2.1
  refine lv_goto (tgt := 1712) hx hb dL_law_510 (by decide) ?_
  refine W.widen (k := 467 + it28 * 440) (n := 7808 + it28 * 2551) (by omega) (by omega) ?_
  exact wk_L_law_1712 M hz0 hr k28 hit28 v0 v1 v2 v3 v4 v5 _ _ _ _ G (gh_sub hl [0, 1, 2, 3, 4, 5] rfl) hw
set_option maxHeartbeats 4000000 in
theorem wk_L_law_566 {D : gh_D} {p : Program} {l : Launch} {e : Env} {s : State} {m : MethodId} {b0 : Nat} {below : List Frame} {meth : Method} {c : Code} {h0 : gh_H} (M : gh_M D p l s m #[Value.ref b0] meth c R_law code 9 (gh_A h0 s.heap.size)) (hz0 : ∀ (a lb : Nat) (e : gh_C), h0 a = some (lb, e) → lb = 0) (hr : meth.sig.returnType = some .boolean) {K28 : Nat → Option Nat → Option Nat → Option Nat → Option Nat → Option Nat → Int32 → gh_H → Prop} {it28 : Nat}  (k28 : ∀ (it28 : Nat) (v0 : Option Nat) (v1 : Option Nat) (v2 : Option Nat) (v3 : Option Nat) (v4 : Option Nat) (v5 : Int32) (H : Heap) (locs : List Loc) (ls : Array Slot) (h : gh_H) (_ : gh_Inv D h0 (gh_A h0 s.heap.size) s.heap s H locs h) (_ : gh_L ls 9 [(0, 1, va_rf v0), (1, 1, va_rf v1), (2, 1, va_rf v2), (3, 1, va_rf v3), (4, 1, va_rf v4), (5, 1, .int v5)]) (_ : K28 it28 v0 v1 v2 v3 v4 v5 h), W p l e room_1 s m #[Value.ref b0] below meth c H locs (27 + it28 * 440) (5257 + it28 * 2551) (lw_Z below #[Value.ref b0] s) (F0 m 28 ls [])) (hit28 : it28 ≤ 64) (v0 : Option Nat) (v1 : Option Nat) (v2 : Option Nat) (v3 : Option Nat) (v4 : Option Nat) (v5 : Int32) (H : Heap) (locs : List Loc) (ls : Array Slot) (h : gh_H) (G : gh_Inv D h0 (gh_A h0 s.heap.size) s.heap s H locs h) (hl : gh_L ls 9 [(0, 1, va_rf v0), (1, 1, va_rf v1), (2, 1, va_rf v2), (3, 1, va_rf v3), (4, 1, va_rf v4), (5, 1, .int v5)]) (hw : wb_L_law_566 D.2.2 K28 it28 v0 v1 v2 v3 v4 v5 h) : W p l e room_1 s m #[Value.ref b0] below meth c H locs (28 + it28 * 440) (5263 + it28 * 2551) (lw_Z below #[Value.ref b0] s) (F0 m 566 ls []) := by
  unfold wb_L_law_566 at hw
  have hx := M.1.1
  have hb := M.1.2.1
  refine lv_goto (tgt := 1712) hx hb dL_law_566 (by decide) ?_
  refine W.widen (k := 467 + it28 * 440) (n := 7808 + it28 * 2551) (by omega) (by omega) ?_
  exact wk_L_law_1712 M hz0 hr k28 hit28 v0 v1 v2 v3 v4 v5 _ _ _ _ G (gh_sub hl [0, 1, 2, 3, 4, 5] rfl) hw
set_option maxHeartbeats 4000000 in
theorem wk_L_law_622 {D : gh_D} {p : Program} {l : Launch} {e : Env} {s : State} {m : MethodId} {b0 : Nat} {below : List Frame} {meth : Method} {c : Code} {h0 : gh_H} (M : gh_M D p l s m #[Value.ref b0] meth c R_law code 9 (gh_A h0 s.heap.size)) (hz0 : ∀ (a lb : Nat) (e : gh_C), h0 a = some (lb, e) → lb = 0) (hr : meth.sig.returnType = some .boolean) {K28 : Nat → Option Nat → Option Nat → Option Nat → Option Nat → Option Nat → Int32 → gh_H → Prop} {it28 : Nat}  (k28 : ∀ (it28 : Nat) (v0 : Option Nat) (v1 : Option Nat) (v2 : Option Nat) (v3 : Option Nat) (v4 : Option Nat) (v5 : Int32) (H : Heap) (locs : List Loc) (ls : Array Slot) (h : gh_H) (_ : gh_Inv D h0 (gh_A h0 s.heap.size) s.heap s H locs h) (_ : gh_L ls 9 [(0, 1, va_rf v0), (1, 1, va_rf v1), (2, 1, va_rf v2), (3, 1, va_rf v3), (4, 1, va_rf v4), (5, 1, .int v5)]) (_ : K28 it28 v0 v1 v2 v3 v4 v5 h), W p l e room_1 s m #[Value.ref b0] below meth c H locs (27 + it28 * 440) (5257 + it28 * 2551) (lw_Z below #[Value.ref b0] s) (F0 m 28 ls [])) (hit28 : it28 ≤ 64) (v0 : Option Nat) (v1 : Option Nat) (v2 : Option Nat) (v3 : Option Nat) (v4 : Option Nat) (v5 : Int32) (H : Heap) (locs : List Loc) (ls : Array Slot) (h : gh_H) (G : gh_Inv D h0 (gh_A h0 s.heap.size) s.heap s H locs h) (hl : gh_L ls 9 [(0, 1, va_rf v0), (1, 1, va_rf v1), (2, 1, va_rf v2), (3, 1, va_rf v3), (4, 1, va_rf v4), (5, 1, .int v5)]) (hw : wb_L_law_622 D.2.2 K28 it28 v0 v1 v2 v3 v4 v5 h) : W p l e room_1 s m #[Value.ref b0] below meth c H locs (29 + it28 * 440) (5269 + it28 * 2551) (lw_Z below #[Value.ref b0] s) (F0 m 622 ls []) := by
  unfold wb_L_law_622 at hw
  have hx := M.1.1
  have hb := M.1.2.1
  refine lv_goto (tgt := 1712) hx hb dL_law_622 (by decide) ?_
  refine W.widen (k := 467 + it28 * 440) (n := 7808 + it28 * 2551) (by omega) (by omega) ?_
  exact wk_L_law_1712 M hz0 hr k28 hit28 v0 v1 v2 v3 v4 v5 _ _ _ _ G (gh_sub hl [0, 1, 2, 3, 4, 5] rfl) hw
set_option maxHeartbeats 4000000 in
theorem wk_L_law_702 {D : gh_D} {p : Program} {l : Launch} {e : Env} {s : State} {m : MethodId} {b0 : Nat} {below : List Frame} {meth : Method} {c : Code} {h0 : gh_H} (M : gh_M D p l s m #[Value.ref b0] meth c R_law code 9 (gh_A h0 s.heap.size)) (hz0 : ∀ (a lb : Nat) (e : gh_C), h0 a = some (lb, e) → lb = 0) (hr : meth.sig.returnType = some .boolean) {K28 : Nat → Option Nat → Option Nat → Option Nat → Option Nat → Option Nat → Int32 → gh_H → Prop} {it28 : Nat}  (k28 : ∀ (it28 : Nat) (v0 : Option Nat) (v1 : Option Nat) (v2 : Option Nat) (v3 : Option Nat) (v4 : Option Nat) (v5 : Int32) (H : Heap) (locs : List Loc) (ls : Array Slot) (h : gh_H) (_ : gh_Inv D h0 (gh_A h0 s.heap.size) s.heap s H locs h) (_ : gh_L ls 9 [(0, 1, va_rf v0), (1, 1, va_rf v1), (2, 1, va_rf v2), (3, 1, va_rf v3), (4, 1, va_rf v4), (5, 1, .int v5)]) (_ : K28 it28 v0 v1 v2 v3 v4 v5 h), W p l e room_1 s m #[Value.ref b0] below meth c H locs (27 + it28 * 440) (5257 + it28 * 2551) (lw_Z below #[Value.ref b0] s) (F0 m 28 ls [])) (hit28 : it28 ≤ 64) (v0 : Option Nat) (v1 : Option Nat) (v2 : Option Nat) (v3 : Option Nat) (v4 : Option Nat) (v5 : Int32) (H : Heap) (locs : List Loc) (ls : Array Slot) (h : gh_H) (G : gh_Inv D h0 (gh_A h0 s.heap.size) s.heap s H locs h) (hl : gh_L ls 9 [(0, 1, va_rf v0), (1, 1, va_rf v1), (2, 1, va_rf v2), (3, 1, va_rf v3), (4, 1, va_rf v4), (5, 1, .int v5)]) (hw : wb_L_law_702 D.2.2 K28 it28 v0 v1 v2 v3 v4 v5 h) : W p l e room_1 s m #[Value.ref b0] below meth c H locs (31 + it28 * 440) (5281 + it28 * 2551) (lw_Z below #[Value.ref b0] s) (F0 m 702 ls []) := by
  unfold wb_L_law_702 at hw
  have hx := M.1.1
  have hb := M.1.2.1
  refine lv_goto (tgt := 1712) hx hb dL_law_702 (by decide) ?_
  refine W.widen (k := 467 + it28 * 440) (n := 7808 + it28 * 2551) (by omega) (by omega) ?_
  exact wk_L_law_1712 M hz0 hr k28 hit28 v0 v1 v2 v3 v4 v5 _ _ _ _ G (gh_sub hl [0, 1, 2, 3, 4, 5] rfl) hw
set_option maxHeartbeats 4000000 in
theorem wk_L_law_770 {D : gh_D} {p : Program} {l : Launch} {e : Env} {s : State} {m : MethodId} {b0 : Nat} {below : List Frame} {meth : Method} {c : Code} {h0 : gh_H} (M : gh_M D p l s m #[Value.ref b0] meth c R_law code 9 (gh_A h0 s.heap.size)) (hz0 : ∀ (a lb : Nat) (e : gh_C), h0 a = some (lb, e) → lb = 0) (hr : meth.sig.returnType = some .boolean) {K28 : Nat → Option Nat → Option Nat → Option Nat → Option Nat → Option Nat → Int32 → gh_H → Prop} {it28 : Nat}  (k28 : ∀ (it28 : Nat) (v0 : Option Nat) (v1 : Option Nat) (v2 : Option Nat) (v3 : Option Nat) (v4 : Option Nat) (v5 : Int32) (H : Heap) (locs : List Loc) (ls : Array Slot) (h : gh_H) (_ : gh_Inv D h0 (gh_A h0 s.heap.size) s.heap s H locs h) (_ : gh_L ls 9 [(0, 1, va_rf v0), (1, 1, va_rf v1), (2, 1, va_rf v2), (3, 1, va_rf v3), (4, 1, va_rf v4), (5, 1, .int v5)]) (_ : K28 it28 v0 v1 v2 v3 v4 v5 h), W p l e room_1 s m #[Value.ref b0] below meth c H locs (27 + it28 * 440) (5257 + it28 * 2551) (lw_Z below #[Value.ref b0] s) (F0 m 28 ls [])) (hit28 : it28 ≤ 64) (v0 : Option Nat) (v1 : Option Nat) (v2 : Option Nat) (v3 : Option Nat) (v4 : Option Nat) (v5 : Int32) (H : Heap) (locs : List Loc) (ls : Array Slot) (h : gh_H) (G : gh_Inv D h0 (gh_A h0 s.heap.size) s.heap s H locs h) (hl : gh_L ls 9 [(0, 1, va_rf v0), (1, 1, va_rf v1), (2, 1, va_rf v2), (3, 1, va_rf v3), (4, 1, va_rf v4), (5, 1, .int v5)]) (hw : wb_L_law_770 D.2.2 K28 it28 v0 v1 v2 v3 v4 v5 h) : W p l e room_1 s m #[Value.ref b0] below meth c H locs (30 + it28 * 440) (5275 + it28 * 2551) (lw_Z below #[Value.ref b0] s) (F0 m 770 ls []) := by
  unfold wb_L_law_770 at hw
  have hx := M.1.1
  have hb := M.1.2.1
  refine lv_goto (tgt := 1712) hx hb dL_law_770 (by decide) ?_
  refine W.widen (k := 467 + it28 * 440) (n := 7808 + it28 * 2551) (by omega) (by omega) ?_
  exact wk_L_law_1712 M hz0 hr k28 hit28 v0 v1 v2 v3 v4 v5 _ _ _ _ G (gh_sub hl [0, 1, 2, 3, 4, 5] rfl) hw
set_option maxHeartbeats 4000000 in
theorem wk_L_law_850 {D : gh_D} {p : Program} {l : Launch} {e : Env} {s : State} {m : MethodId} {b0 : Nat} {below : List Frame} {meth : Method} {c : Code} {h0 : gh_H} (M : gh_M D p l s m #[Value.ref b0] meth c R_law code 9 (gh_A h0 s.heap.size)) (hz0 : ∀ (a lb : Nat) (e : gh_C), h0 a = some (lb, e) → lb = 0) (hr : meth.sig.returnType = some .boolean) {K28 : Nat → Option Nat → Option Nat → Option Nat → Option Nat → Option Nat → Int32 → gh_H → Prop} {it28 : Nat}  (k28 : ∀ (it28 : Nat) (v0 : Option Nat) (v1 : Option Nat) (v2 : Option Nat) (v3 : Option Nat) (v4 : Option Nat) (v5 : Int32) (H : Heap) (locs : List Loc) (ls : Array Slot) (h : gh_H) (_ : gh_Inv D h0 (gh_A h0 s.heap.size) s.heap s H locs h) (_ : gh_L ls 9 [(0, 1, va_rf v0), (1, 1, va_rf v1), (2, 1, va_rf v2), (3, 1, va_rf v3), (4, 1, va_rf v4), (5, 1, .int v5)]) (_ : K28 it28 v0 v1 v2 v3 v4 v5 h), W p l e room_1 s m #[Value.ref b0] below meth c H locs (27 + it28 * 440) (5257 + it28 * 2551) (lw_Z below #[Value.ref b0] s) (F0 m 28 ls [])) (hit28 : it28 ≤ 64) (v0 : Option Nat) (v1 : Option Nat) (v2 : Option Nat) (v3 : Option Nat) (v4 : Option Nat) (v5 : Int32) (H : Heap) (locs : List Loc) (ls : Array Slot) (h : gh_H) (G : gh_Inv D h0 (gh_A h0 s.heap.size) s.heap s H locs h) (hl : gh_L ls 9 [(0, 1, va_rf v0), (1, 1, va_rf v1), (2, 1, va_rf v2), (3, 1, va_rf v3), (4, 1, va_rf v4), (5, 1, .int v5)]) (hw : wb_L_law_850 D.2.2 K28 it28 v0 v1 v2 v3 v4 v5 h) : W p l e room_1 s m #[Value.ref b0] below meth c H locs (38 + it28 * 440) (5308 + it28 * 2551) (lw_Z below #[Value.ref b0] s) (F0 m 850 ls []) := by
  unfold wb_L_law_850 at hw
  have hx := M.1.1
  have hb := M.1.2.1
  refine lv_goto (tgt := 1712) hx hb dL_law_850 (by decide) ?_
  refine W.widen (k := 467 + it28 * 440) (n := 7808 + it28 * 2551) (by omega) (by omega) ?_
  exact wk_L_law_1712 M hz0 hr k28 hit28 v0 v1 v2 v3 v4 v5 _ _ _ _ G (gh_sub hl [0, 1, 2, 3, 4, 5] rfl) hw
set_option maxHeartbeats 4000000 in
theorem wk_L_law_918 {D : gh_D} {p : Program} {l : Launch} {e : Env} {s : State} {m : MethodId} {b0 : Nat} {below : List Frame} {meth : Method} {c : Code} {h0 : gh_H} (M : gh_M D p l s m #[Value.ref b0] meth c R_law code 9 (gh_A h0 s.heap.size)) (hz0 : ∀ (a lb : Nat) (e : gh_C), h0 a = some (lb, e) → lb = 0) (hr : meth.sig.returnType = some .boolean) {K28 : Nat → Option Nat → Option Nat → Option Nat → Option Nat → Option Nat → Int32 → gh_H → Prop} {it28 : Nat}  (k28 : ∀ (it28 : Nat) (v0 : Option Nat) (v1 : Option Nat) (v2 : Option Nat) (v3 : Option Nat) (v4 : Option Nat) (v5 : Int32) (H : Heap) (locs : List Loc) (ls : Array Slot) (h : gh_H) (_ : gh_Inv D h0 (gh_A h0 s.heap.size) s.heap s H locs h) (_ : gh_L ls 9 [(0, 1, va_rf v0), (1, 1, va_rf v1), (2, 1, va_rf v2), (3, 1, va_rf v3), (4, 1, va_rf v4), (5, 1, .int v5)]) (_ : K28 it28 v0 v1 v2 v3 v4 v5 h), W p l e room_1 s m #[Value.ref b0] below meth c H locs (27 + it28 * 440) (5257 + it28 * 2551) (lw_Z below #[Value.ref b0] s) (F0 m 28 ls [])) (hit28 : it28 ≤ 64) (v0 : Option Nat) (v1 : Option Nat) (v2 : Option Nat) (v3 : Option Nat) (v4 : Option Nat) (v5 : Int32) (H : Heap) (locs : List Loc) (ls : Array Slot) (h : gh_H) (G : gh_Inv D h0 (gh_A h0 s.heap.size) s.heap s H locs h) (hl : gh_L ls 9 [(0, 1, va_rf v0), (1, 1, va_rf v1), (2, 1, va_rf v2), (3, 1, va_rf v3), (4, 1, va_rf v4), (5, 1, .int v5)]) (hw : wb_L_law_918 D.2.2 K28 it28 v0 v1 v2 v3 v4 v5 h) : W p l e room_1 s m #[Value.ref b0] below meth c H locs (30 + it28 * 440) (5275 + it28 * 2551) (lw_Z below #[Value.ref b0] s) (F0 m 918 ls []) := by
  unfold wb_L_law_918 at hw
  have hx := M.1.1
  have hb := M.1.2.1
  refine lv_goto (tgt := 1712) hx hb dL_law_918 (by decide) ?_
  refine W.widen (k := 467 + it28 * 440) (n := 7808 + it28 * 2551) (by omega) (by omega) ?_
  exact wk_L_law_1712 M hz0 hr k28 hit28 v0 v1 v2 v3 v4 v5 _ _ _ _ G (gh_sub hl [0, 1, 2, 3, 4, 5] rfl) hw
set_option maxHeartbeats 4000000 in
theorem wk_L_law_974 {D : gh_D} {p : Program} {l : Launch} {e : Env} {s : State} {m : MethodId} {b0 : Nat} {below : List Frame} {meth : Method} {c : Code} {h0 : gh_H} (M : gh_M D p l s m #[Value.ref b0] meth c R_law code 9 (gh_A h0 s.heap.size)) (hz0 : ∀ (a lb : Nat) (e : gh_C), h0 a = some (lb, e) → lb = 0) (hr : meth.sig.returnType = some .boolean) {K28 : Nat → Option Nat → Option Nat → Option Nat → Option Nat → Option Nat → Int32 → gh_H → Prop} {it28 : Nat}  (k28 : ∀ (it28 : Nat) (v0 : Option Nat) (v1 : Option Nat) (v2 : Option Nat) (v3 : Option Nat) (v4 : Option Nat) (v5 : Int32) (H : Heap) (locs : List Loc) (ls : Array Slot) (h : gh_H) (_ : gh_Inv D h0 (gh_A h0 s.heap.size) s.heap s H locs h) (_ : gh_L ls 9 [(0, 1, va_rf v0), (1, 1, va_rf v1), (2, 1, va_rf v2), (3, 1, va_rf v3), (4, 1, va_rf v4), (5, 1, .int v5)]) (_ : K28 it28 v0 v1 v2 v3 v4 v5 h), W p l e room_1 s m #[Value.ref b0] below meth c H locs (27 + it28 * 440) (5257 + it28 * 2551) (lw_Z below #[Value.ref b0] s) (F0 m 28 ls [])) (hit28 : it28 ≤ 64) (v0 : Option Nat) (v1 : Option Nat) (v2 : Option Nat) (v3 : Option Nat) (v4 : Option Nat) (v5 : Int32) (H : Heap) (locs : List Loc) (ls : Array Slot) (h : gh_H) (G : gh_Inv D h0 (gh_A h0 s.heap.size) s.heap s H locs h) (hl : gh_L ls 9 [(0, 1, va_rf v0), (1, 1, va_rf v1), (2, 1, va_rf v2), (3, 1, va_rf v3), (4, 1, va_rf v4), (5, 1, .int v5)]) (hw : wb_L_law_974 D.2.2 K28 it28 v0 v1 v2 v3 v4 v5 h) : W p l e room_1 s m #[Value.ref b0] below meth c H locs (286 + it28 * 440) (7573 + it28 * 2551) (lw_Z below #[Value.ref b0] s) (F0 m 974 ls []) := by
  unfold wb_L_law_974 at hw
  have hx := M.1.1
  have hb := M.1.2.1
  refine lv_goto (tgt := 1712) hx hb dL_law_974 (by decide) ?_
  refine W.widen (k := 467 + it28 * 440) (n := 7808 + it28 * 2551) (by omega) (by omega) ?_
  exact wk_L_law_1712 M hz0 hr k28 hit28 v0 v1 v2 v3 v4 v5 _ _ _ _ G (gh_sub hl [0, 1, 2, 3, 4, 5] rfl) hw
set_option maxHeartbeats 4000000 in
theorem wk_L_law_1030 {D : gh_D} {p : Program} {l : Launch} {e : Env} {s : State} {m : MethodId} {b0 : Nat} {below : List Frame} {meth : Method} {c : Code} {h0 : gh_H} (M : gh_M D p l s m #[Value.ref b0] meth c R_law code 9 (gh_A h0 s.heap.size)) (hz0 : ∀ (a lb : Nat) (e : gh_C), h0 a = some (lb, e) → lb = 0) (hr : meth.sig.returnType = some .boolean) {K28 : Nat → Option Nat → Option Nat → Option Nat → Option Nat → Option Nat → Int32 → gh_H → Prop} {it28 : Nat}  (k28 : ∀ (it28 : Nat) (v0 : Option Nat) (v1 : Option Nat) (v2 : Option Nat) (v3 : Option Nat) (v4 : Option Nat) (v5 : Int32) (H : Heap) (locs : List Loc) (ls : Array Slot) (h : gh_H) (_ : gh_Inv D h0 (gh_A h0 s.heap.size) s.heap s H locs h) (_ : gh_L ls 9 [(0, 1, va_rf v0), (1, 1, va_rf v1), (2, 1, va_rf v2), (3, 1, va_rf v3), (4, 1, va_rf v4), (5, 1, .int v5)]) (_ : K28 it28 v0 v1 v2 v3 v4 v5 h), W p l e room_1 s m #[Value.ref b0] below meth c H locs (27 + it28 * 440) (5257 + it28 * 2551) (lw_Z below #[Value.ref b0] s) (F0 m 28 ls [])) (hit28 : it28 ≤ 64) (v0 : Option Nat) (v1 : Option Nat) (v2 : Option Nat) (v3 : Option Nat) (v4 : Option Nat) (v5 : Int32) (H : Heap) (locs : List Loc) (ls : Array Slot) (h : gh_H) (G : gh_Inv D h0 (gh_A h0 s.heap.size) s.heap s H locs h) (hl : gh_L ls 9 [(0, 1, va_rf v0), (1, 1, va_rf v1), (2, 1, va_rf v2), (3, 1, va_rf v3), (4, 1, va_rf v4), (5, 1, .int v5)]) (hw : wb_L_law_1030 D.2.2 K28 it28 v0 v1 v2 v3 v4 v5 h) : W p l e room_1 s m #[Value.ref b0] below meth c H locs (30 + it28 * 440) (5275 + it28 * 2551) (lw_Z below #[Value.ref b0] s) (F0 m 1030 ls []) := by
  unfold wb_L_law_1030 at hw
  have hx := M.1.1
  have hb := M.1.2.1
  refine lv_goto (tgt := 1712) hx hb dL_law_1030 (by decide) ?_
  refine W.widen (k := 467 + it28 * 440) (n := 7808 + it28 * 2551) (by omega) (by omega) ?_
  exact wk_L_law_1712 M hz0 hr k28 hit28 v0 v1 v2 v3 v4 v5 _ _ _ _ G (gh_sub hl [0, 1, 2, 3, 4, 5] rfl) hw
set_option maxHeartbeats 4000000 in
theorem wk_L_law_1098 {D : gh_D} {p : Program} {l : Launch} {e : Env} {s : State} {m : MethodId} {b0 : Nat} {below : List Frame} {meth : Method} {c : Code} {h0 : gh_H} (M : gh_M D p l s m #[Value.ref b0] meth c R_law code 9 (gh_A h0 s.heap.size)) (hz0 : ∀ (a lb : Nat) (e : gh_C), h0 a = some (lb, e) → lb = 0) (hr : meth.sig.returnType = some .boolean) {K28 : Nat → Option Nat → Option Nat → Option Nat → Option Nat → Option Nat → Int32 → gh_H → Prop} {it28 : Nat}  (k28 : ∀ (it28 : Nat) (v0 : Option Nat) (v1 : Option Nat) (v2 : Option Nat) (v3 : Option Nat) (v4 : Option Nat) (v5 : Int32) (H : Heap) (locs : List Loc) (ls : Array Slot) (h : gh_H) (_ : gh_Inv D h0 (gh_A h0 s.heap.size) s.heap s H locs h) (_ : gh_L ls 9 [(0, 1, va_rf v0), (1, 1, va_rf v1), (2, 1, va_rf v2), (3, 1, va_rf v3), (4, 1, va_rf v4), (5, 1, .int v5)]) (_ : K28 it28 v0 v1 v2 v3 v4 v5 h), W p l e room_1 s m #[Value.ref b0] below meth c H locs (27 + it28 * 440) (5257 + it28 * 2551) (lw_Z below #[Value.ref b0] s) (F0 m 28 ls [])) (hit28 : it28 ≤ 64) (v0 : Option Nat) (v1 : Option Nat) (v2 : Option Nat) (v3 : Option Nat) (v4 : Option Nat) (v5 : Int32) (H : Heap) (locs : List Loc) (ls : Array Slot) (h : gh_H) (G : gh_Inv D h0 (gh_A h0 s.heap.size) s.heap s H locs h) (hl : gh_L ls 9 [(0, 1, va_rf v0), (1, 1, va_rf v1), (2, 1, va_rf v2), (3, 1, va_rf v3), (4, 1, va_rf v4), (5, 1, .int v5)]) (hw : wb_L_law_1098 D.2.2 K28 it28 v0 v1 v2 v3 v4 v5 h) : W p l e room_1 s m #[Value.ref b0] below meth c H locs (30 + it28 * 440) (5275 + it28 * 2551) (lw_Z below #[Value.ref b0] s) (F0 m 1098 ls []) := by
  unfold wb_L_law_1098 at hw
  have hx := M.1.1
  have hb := M.1.2.1
  refine lv_goto (tgt := 1712) hx hb dL_law_1098 (by decide) ?_
  refine W.widen (k := 467 + it28 * 440) (n := 7808 + it28 * 2551) (by omega) (by omega) ?_
  exact wk_L_law_1712 M hz0 hr k28 hit28 v0 v1 v2 v3 v4 v5 _ _ _ _ G (gh_sub hl [0, 1, 2, 3, 4, 5] rfl) hw
set_option maxHeartbeats 4000000 in
theorem wk_L_law_1167 {D : gh_D} {p : Program} {l : Launch} {e : Env} {s : State} {m : MethodId} {b0 : Nat} {below : List Frame} {meth : Method} {c : Code} {h0 : gh_H} (M : gh_M D p l s m #[Value.ref b0] meth c R_law code 9 (gh_A h0 s.heap.size)) (hz0 : ∀ (a lb : Nat) (e : gh_C), h0 a = some (lb, e) → lb = 0) (hr : meth.sig.returnType = some .boolean) {K28 : Nat → Option Nat → Option Nat → Option Nat → Option Nat → Option Nat → Int32 → gh_H → Prop} {it28 : Nat}  (k28 : ∀ (it28 : Nat) (v0 : Option Nat) (v1 : Option Nat) (v2 : Option Nat) (v3 : Option Nat) (v4 : Option Nat) (v5 : Int32) (H : Heap) (locs : List Loc) (ls : Array Slot) (h : gh_H) (_ : gh_Inv D h0 (gh_A h0 s.heap.size) s.heap s H locs h) (_ : gh_L ls 9 [(0, 1, va_rf v0), (1, 1, va_rf v1), (2, 1, va_rf v2), (3, 1, va_rf v3), (4, 1, va_rf v4), (5, 1, .int v5)]) (_ : K28 it28 v0 v1 v2 v3 v4 v5 h), W p l e room_1 s m #[Value.ref b0] below meth c H locs (27 + it28 * 440) (5257 + it28 * 2551) (lw_Z below #[Value.ref b0] s) (F0 m 28 ls [])) (hit28 : it28 ≤ 64) (v0 : Option Nat) (v1 : Option Nat) (v2 : Option Nat) (v3 : Option Nat) (v4 : Option Nat) (v5 : Int32) (H : Heap) (locs : List Loc) (ls : Array Slot) (h : gh_H) (G : gh_Inv D h0 (gh_A h0 s.heap.size) s.heap s H locs h) (hl : gh_L ls 9 [(0, 1, va_rf v0), (1, 1, va_rf v1), (2, 1, va_rf v2), (3, 1, va_rf v3), (4, 1, va_rf v4), (5, 1, .int v5)]) (hw : wb_L_law_1167 D.2.2 K28 it28 v0 v1 v2 v3 v4 v5 h) : W p l e room_1 s m #[Value.ref b0] below meth c H locs (467 + it28 * 440) (7808 + it28 * 2551) (lw_Z below #[Value.ref b0] s) (F0 m 1167 ls []) := by
  unfold wb_L_law_1167 at hw
  have hx := M.1.1
  have hb := M.1.2.1
  refine lv_goto (tgt := 1712) hx hb dL_law_1167 (by decide) ?_
  exact wk_L_law_1712 M hz0 hr k28 hit28 v0 v1 v2 v3 v4 v5 _ _ _ _ G (gh_sub hl [0, 1, 2, 3, 4, 5] rfl) hw
set_option maxHeartbeats 4000000 in
theorem wk_L_law_1235 {D : gh_D} {p : Program} {l : Launch} {e : Env} {s : State} {m : MethodId} {b0 : Nat} {below : List Frame} {meth : Method} {c : Code} {h0 : gh_H} (M : gh_M D p l s m #[Value.ref b0] meth c R_law code 9 (gh_A h0 s.heap.size)) (hz0 : ∀ (a lb : Nat) (e : gh_C), h0 a = some (lb, e) → lb = 0) (hr : meth.sig.returnType = some .boolean) {K28 : Nat → Option Nat → Option Nat → Option Nat → Option Nat → Option Nat → Int32 → gh_H → Prop} {it28 : Nat}  (k28 : ∀ (it28 : Nat) (v0 : Option Nat) (v1 : Option Nat) (v2 : Option Nat) (v3 : Option Nat) (v4 : Option Nat) (v5 : Int32) (H : Heap) (locs : List Loc) (ls : Array Slot) (h : gh_H) (_ : gh_Inv D h0 (gh_A h0 s.heap.size) s.heap s H locs h) (_ : gh_L ls 9 [(0, 1, va_rf v0), (1, 1, va_rf v1), (2, 1, va_rf v2), (3, 1, va_rf v3), (4, 1, va_rf v4), (5, 1, .int v5)]) (_ : K28 it28 v0 v1 v2 v3 v4 v5 h), W p l e room_1 s m #[Value.ref b0] below meth c H locs (27 + it28 * 440) (5257 + it28 * 2551) (lw_Z below #[Value.ref b0] s) (F0 m 28 ls [])) (hit28 : it28 ≤ 64) (v0 : Option Nat) (v1 : Option Nat) (v2 : Option Nat) (v3 : Option Nat) (v4 : Option Nat) (v5 : Int32) (H : Heap) (locs : List Loc) (ls : Array Slot) (h : gh_H) (G : gh_Inv D h0 (gh_A h0 s.heap.size) s.heap s H locs h) (hl : gh_L ls 9 [(0, 1, va_rf v0), (1, 1, va_rf v1), (2, 1, va_rf v2), (3, 1, va_rf v3), (4, 1, va_rf v4), (5, 1, .int v5)]) (hw : wb_L_law_1235 D.2.2 K28 it28 v0 v1 v2 v3 v4 v5 h) : W p l e room_1 s m #[Value.ref b0] below meth c H locs (38 + it28 * 440) (5623 + it28 * 2551) (lw_Z below #[Value.ref b0] s) (F0 m 1235 ls []) := by
  unfold wb_L_law_1235 at hw
  have hx := M.1.1
  have hb := M.1.2.1
  refine lv_goto (tgt := 1712) hx hb dL_law_1235 (by decide) ?_
  refine W.widen (k := 467 + it28 * 440) (n := 7808 + it28 * 2551) (by omega) (by omega) ?_
  exact wk_L_law_1712 M hz0 hr k28 hit28 v0 v1 v2 v3 v4 v5 _ _ _ _ G (gh_sub hl [0, 1, 2, 3, 4, 5] rfl) hw
set_option maxHeartbeats 4000000 in
theorem wk_L_law_1303 {D : gh_D} {p : Program} {l : Launch} {e : Env} {s : State} {m : MethodId} {b0 : Nat} {below : List Frame} {meth : Method} {c : Code} {h0 : gh_H} (M : gh_M D p l s m #[Value.ref b0] meth c R_law code 9 (gh_A h0 s.heap.size)) (hz0 : ∀ (a lb : Nat) (e : gh_C), h0 a = some (lb, e) → lb = 0) (hr : meth.sig.returnType = some .boolean) {K28 : Nat → Option Nat → Option Nat → Option Nat → Option Nat → Option Nat → Int32 → gh_H → Prop} {it28 : Nat}  (k28 : ∀ (it28 : Nat) (v0 : Option Nat) (v1 : Option Nat) (v2 : Option Nat) (v3 : Option Nat) (v4 : Option Nat) (v5 : Int32) (H : Heap) (locs : List Loc) (ls : Array Slot) (h : gh_H) (_ : gh_Inv D h0 (gh_A h0 s.heap.size) s.heap s H locs h) (_ : gh_L ls 9 [(0, 1, va_rf v0), (1, 1, va_rf v1), (2, 1, va_rf v2), (3, 1, va_rf v3), (4, 1, va_rf v4), (5, 1, .int v5)]) (_ : K28 it28 v0 v1 v2 v3 v4 v5 h), W p l e room_1 s m #[Value.ref b0] below meth c H locs (27 + it28 * 440) (5257 + it28 * 2551) (lw_Z below #[Value.ref b0] s) (F0 m 28 ls [])) (hit28 : it28 ≤ 64) (v0 : Option Nat) (v1 : Option Nat) (v2 : Option Nat) (v3 : Option Nat) (v4 : Option Nat) (v5 : Int32) (H : Heap) (locs : List Loc) (ls : Array Slot) (h : gh_H) (G : gh_Inv D h0 (gh_A h0 s.heap.size) s.heap s H locs h) (hl : gh_L ls 9 [(0, 1, va_rf v0), (1, 1, va_rf v1), (2, 1, va_rf v2), (3, 1, va_rf v3), (4, 1, va_rf v4), (5, 1, .int v5)]) (hw : wb_L_law_1303 D.2.2 K28 it28 v0 v1 v2 v3 v4 v5 h) : W p l e room_1 s m #[Value.ref b0] below meth c H locs (30 + it28 * 440) (5275 + it28 * 2551) (lw_Z below #[Value.ref b0] s) (F0 m 1303 ls []) := by
  unfold wb_L_law_1303 at hw
  have hx := M.1.1
  have hb := M.1.2.1
  refine lv_goto (tgt := 1712) hx hb dL_law_1303 (by decide) ?_
  refine W.widen (k := 467 + it28 * 440) (n := 7808 + it28 * 2551) (by omega) (by omega) ?_
  exact wk_L_law_1712 M hz0 hr k28 hit28 v0 v1 v2 v3 v4 v5 _ _ _ _ G (gh_sub hl [0, 1, 2, 3, 4, 5] rfl) hw
set_option maxHeartbeats 4000000 in
theorem wk_L_law_1372 {D : gh_D} {p : Program} {l : Launch} {e : Env} {s : State} {m : MethodId} {b0 : Nat} {below : List Frame} {meth : Method} {c : Code} {h0 : gh_H} (M : gh_M D p l s m #[Value.ref b0] meth c R_law code 9 (gh_A h0 s.heap.size)) (hz0 : ∀ (a lb : Nat) (e : gh_C), h0 a = some (lb, e) → lb = 0) (hr : meth.sig.returnType = some .boolean) {K28 : Nat → Option Nat → Option Nat → Option Nat → Option Nat → Option Nat → Int32 → gh_H → Prop} {it28 : Nat}  (k28 : ∀ (it28 : Nat) (v0 : Option Nat) (v1 : Option Nat) (v2 : Option Nat) (v3 : Option Nat) (v4 : Option Nat) (v5 : Int32) (H : Heap) (locs : List Loc) (ls : Array Slot) (h : gh_H) (_ : gh_Inv D h0 (gh_A h0 s.heap.size) s.heap s H locs h) (_ : gh_L ls 9 [(0, 1, va_rf v0), (1, 1, va_rf v1), (2, 1, va_rf v2), (3, 1, va_rf v3), (4, 1, va_rf v4), (5, 1, .int v5)]) (_ : K28 it28 v0 v1 v2 v3 v4 v5 h), W p l e room_1 s m #[Value.ref b0] below meth c H locs (27 + it28 * 440) (5257 + it28 * 2551) (lw_Z below #[Value.ref b0] s) (F0 m 28 ls [])) (hit28 : it28 ≤ 64) (v0 : Option Nat) (v1 : Option Nat) (v2 : Option Nat) (v3 : Option Nat) (v4 : Option Nat) (v5 : Int32) (H : Heap) (locs : List Loc) (ls : Array Slot) (h : gh_H) (G : gh_Inv D h0 (gh_A h0 s.heap.size) s.heap s H locs h) (hl : gh_L ls 9 [(0, 1, va_rf v0), (1, 1, va_rf v1), (2, 1, va_rf v2), (3, 1, va_rf v3), (4, 1, va_rf v4), (5, 1, .int v5)]) (hw : wb_L_law_1372 D.2.2 K28 it28 v0 v1 v2 v3 v4 v5 h) : W p l e room_1 s m #[Value.ref b0] below meth c H locs (28 + it28 * 440) (5263 + it28 * 2551) (lw_Z below #[Value.ref b0] s) (F0 m 1372 ls []) := by
  unfold wb_L_law_1372 at hw
  have hx := M.1.1
  have hb := M.1.2.1
  refine lv_goto (tgt := 1712) hx hb dL_law_1372 (by decide) ?_
  refine W.widen (k := 467 + it28 * 440) (n := 7808 + it28 * 2551) (by omega) (by omega) ?_
  exact wk_L_law_1712 M hz0 hr k28 hit28 v0 v1 v2 v3 v4 v5 _ _ _ _ G (gh_sub hl [0, 1, 2, 3, 4, 5] rfl) hw
set_option maxHeartbeats 4000000 in
theorem wk_L_law_1440 {D : gh_D} {p : Program} {l : Launch} {e : Env} {s : State} {m : MethodId} {b0 : Nat} {below : List Frame} {meth : Method} {c : Code} {h0 : gh_H} (M : gh_M D p l s m #[Value.ref b0] meth c R_law code 9 (gh_A h0 s.heap.size)) (hz0 : ∀ (a lb : Nat) (e : gh_C), h0 a = some (lb, e) → lb = 0) (hr : meth.sig.returnType = some .boolean) {K28 : Nat → Option Nat → Option Nat → Option Nat → Option Nat → Option Nat → Int32 → gh_H → Prop} {it28 : Nat}  (k28 : ∀ (it28 : Nat) (v0 : Option Nat) (v1 : Option Nat) (v2 : Option Nat) (v3 : Option Nat) (v4 : Option Nat) (v5 : Int32) (H : Heap) (locs : List Loc) (ls : Array Slot) (h : gh_H) (_ : gh_Inv D h0 (gh_A h0 s.heap.size) s.heap s H locs h) (_ : gh_L ls 9 [(0, 1, va_rf v0), (1, 1, va_rf v1), (2, 1, va_rf v2), (3, 1, va_rf v3), (4, 1, va_rf v4), (5, 1, .int v5)]) (_ : K28 it28 v0 v1 v2 v3 v4 v5 h), W p l e room_1 s m #[Value.ref b0] below meth c H locs (27 + it28 * 440) (5257 + it28 * 2551) (lw_Z below #[Value.ref b0] s) (F0 m 28 ls [])) (hit28 : it28 ≤ 64) (v0 : Option Nat) (v1 : Option Nat) (v2 : Option Nat) (v3 : Option Nat) (v4 : Option Nat) (v5 : Int32) (H : Heap) (locs : List Loc) (ls : Array Slot) (h : gh_H) (G : gh_Inv D h0 (gh_A h0 s.heap.size) s.heap s H locs h) (hl : gh_L ls 9 [(0, 1, va_rf v0), (1, 1, va_rf v1), (2, 1, va_rf v2), (3, 1, va_rf v3), (4, 1, va_rf v4), (5, 1, .int v5)]) (hw : wb_L_law_1440 D.2.2 K28 it28 v0 v1 v2 v3 v4 v5 h) : W p l e room_1 s m #[Value.ref b0] below meth c H locs (29 + it28 * 440) (5269 + it28 * 2551) (lw_Z below #[Value.ref b0] s) (F0 m 1440 ls []) := by
  unfold wb_L_law_1440 at hw
  have hx := M.1.1
  have hb := M.1.2.1
  refine lv_goto (tgt := 1712) hx hb dL_law_1440 (by decide) ?_
  refine W.widen (k := 467 + it28 * 440) (n := 7808 + it28 * 2551) (by omega) (by omega) ?_
  exact wk_L_law_1712 M hz0 hr k28 hit28 v0 v1 v2 v3 v4 v5 _ _ _ _ G (gh_sub hl [0, 1, 2, 3, 4, 5] rfl) hw
set_option maxHeartbeats 4000000 in
theorem wk_L_law_1508 {D : gh_D} {p : Program} {l : Launch} {e : Env} {s : State} {m : MethodId} {b0 : Nat} {below : List Frame} {meth : Method} {c : Code} {h0 : gh_H} (M : gh_M D p l s m #[Value.ref b0] meth c R_law code 9 (gh_A h0 s.heap.size)) (hz0 : ∀ (a lb : Nat) (e : gh_C), h0 a = some (lb, e) → lb = 0) (hr : meth.sig.returnType = some .boolean) {K28 : Nat → Option Nat → Option Nat → Option Nat → Option Nat → Option Nat → Int32 → gh_H → Prop} {it28 : Nat}  (k28 : ∀ (it28 : Nat) (v0 : Option Nat) (v1 : Option Nat) (v2 : Option Nat) (v3 : Option Nat) (v4 : Option Nat) (v5 : Int32) (H : Heap) (locs : List Loc) (ls : Array Slot) (h : gh_H) (_ : gh_Inv D h0 (gh_A h0 s.heap.size) s.heap s H locs h) (_ : gh_L ls 9 [(0, 1, va_rf v0), (1, 1, va_rf v1), (2, 1, va_rf v2), (3, 1, va_rf v3), (4, 1, va_rf v4), (5, 1, .int v5)]) (_ : K28 it28 v0 v1 v2 v3 v4 v5 h), W p l e room_1 s m #[Value.ref b0] below meth c H locs (27 + it28 * 440) (5257 + it28 * 2551) (lw_Z below #[Value.ref b0] s) (F0 m 28 ls [])) (hit28 : it28 ≤ 64) (v0 : Option Nat) (v1 : Option Nat) (v2 : Option Nat) (v3 : Option Nat) (v4 : Option Nat) (v5 : Int32) (H : Heap) (locs : List Loc) (ls : Array Slot) (h : gh_H) (G : gh_Inv D h0 (gh_A h0 s.heap.size) s.heap s H locs h) (hl : gh_L ls 9 [(0, 1, va_rf v0), (1, 1, va_rf v1), (2, 1, va_rf v2), (3, 1, va_rf v3), (4, 1, va_rf v4), (5, 1, .int v5)]) (hw : wb_L_law_1508 D.2.2 K28 it28 v0 v1 v2 v3 v4 v5 h) : W p l e room_1 s m #[Value.ref b0] below meth c H locs (96 + it28 * 440) (5669 + it28 * 2551) (lw_Z below #[Value.ref b0] s) (F0 m 1508 ls []) := by
  unfold wb_L_law_1508 at hw
  have hx := M.1.1
  have hb := M.1.2.1
  refine lv_goto (tgt := 1712) hx hb dL_law_1508 (by decide) ?_
  refine W.widen (k := 467 + it28 * 440) (n := 7808 + it28 * 2551) (by omega) (by omega) ?_
  exact wk_L_law_1712 M hz0 hr k28 hit28 v0 v1 v2 v3 v4 v5 _ _ _ _ G (gh_sub hl [0, 1, 2, 3, 4, 5] rfl) hw
set_option maxHeartbeats 4000000 in
theorem wk_L_law_1564 {D : gh_D} {p : Program} {l : Launch} {e : Env} {s : State} {m : MethodId} {b0 : Nat} {below : List Frame} {meth : Method} {c : Code} {h0 : gh_H} (M : gh_M D p l s m #[Value.ref b0] meth c R_law code 9 (gh_A h0 s.heap.size)) (hz0 : ∀ (a lb : Nat) (e : gh_C), h0 a = some (lb, e) → lb = 0) (hr : meth.sig.returnType = some .boolean) {K28 : Nat → Option Nat → Option Nat → Option Nat → Option Nat → Option Nat → Int32 → gh_H → Prop} {it28 : Nat}  (k28 : ∀ (it28 : Nat) (v0 : Option Nat) (v1 : Option Nat) (v2 : Option Nat) (v3 : Option Nat) (v4 : Option Nat) (v5 : Int32) (H : Heap) (locs : List Loc) (ls : Array Slot) (h : gh_H) (_ : gh_Inv D h0 (gh_A h0 s.heap.size) s.heap s H locs h) (_ : gh_L ls 9 [(0, 1, va_rf v0), (1, 1, va_rf v1), (2, 1, va_rf v2), (3, 1, va_rf v3), (4, 1, va_rf v4), (5, 1, .int v5)]) (_ : K28 it28 v0 v1 v2 v3 v4 v5 h), W p l e room_1 s m #[Value.ref b0] below meth c H locs (27 + it28 * 440) (5257 + it28 * 2551) (lw_Z below #[Value.ref b0] s) (F0 m 28 ls [])) (hit28 : it28 ≤ 64) (v0 : Option Nat) (v1 : Option Nat) (v2 : Option Nat) (v3 : Option Nat) (v4 : Option Nat) (v5 : Int32) (H : Heap) (locs : List Loc) (ls : Array Slot) (h : gh_H) (G : gh_Inv D h0 (gh_A h0 s.heap.size) s.heap s H locs h) (hl : gh_L ls 9 [(0, 1, va_rf v0), (1, 1, va_rf v1), (2, 1, va_rf v2), (3, 1, va_rf v3), (4, 1, va_rf v4), (5, 1, .int v5)]) (hw : wb_L_law_1564 D.2.2 K28 it28 v0 v1 v2 v3 v4 v5 h) : W p l e room_1 s m #[Value.ref b0] below meth c H locs (95 + it28 * 440) (5663 + it28 * 2551) (lw_Z below #[Value.ref b0] s) (F0 m 1564 ls []) := by
  unfold wb_L_law_1564 at hw
  have hx := M.1.1
  have hb := M.1.2.1
  refine lv_goto (tgt := 1712) hx hb dL_law_1564 (by decide) ?_
  refine W.widen (k := 467 + it28 * 440) (n := 7808 + it28 * 2551) (by omega) (by omega) ?_
  exact wk_L_law_1712 M hz0 hr k28 hit28 v0 v1 v2 v3 v4 v5 _ _ _ _ G (gh_sub hl [0, 1, 2, 3, 4, 5] rfl) hw
set_option maxHeartbeats 4000000 in
theorem wk_L_law_1644 {D : gh_D} {p : Program} {l : Launch} {e : Env} {s : State} {m : MethodId} {b0 : Nat} {below : List Frame} {meth : Method} {c : Code} {h0 : gh_H} (M : gh_M D p l s m #[Value.ref b0] meth c R_law code 9 (gh_A h0 s.heap.size)) (hz0 : ∀ (a lb : Nat) (e : gh_C), h0 a = some (lb, e) → lb = 0) (hr : meth.sig.returnType = some .boolean) {K28 : Nat → Option Nat → Option Nat → Option Nat → Option Nat → Option Nat → Int32 → gh_H → Prop} {it28 : Nat}  (k28 : ∀ (it28 : Nat) (v0 : Option Nat) (v1 : Option Nat) (v2 : Option Nat) (v3 : Option Nat) (v4 : Option Nat) (v5 : Int32) (H : Heap) (locs : List Loc) (ls : Array Slot) (h : gh_H) (_ : gh_Inv D h0 (gh_A h0 s.heap.size) s.heap s H locs h) (_ : gh_L ls 9 [(0, 1, va_rf v0), (1, 1, va_rf v1), (2, 1, va_rf v2), (3, 1, va_rf v3), (4, 1, va_rf v4), (5, 1, .int v5)]) (_ : K28 it28 v0 v1 v2 v3 v4 v5 h), W p l e room_1 s m #[Value.ref b0] below meth c H locs (27 + it28 * 440) (5257 + it28 * 2551) (lw_Z below #[Value.ref b0] s) (F0 m 28 ls [])) (hit28 : it28 ≤ 64) (v0 : Option Nat) (v1 : Option Nat) (v2 : Option Nat) (v3 : Option Nat) (v4 : Option Nat) (v5 : Int32) (H : Heap) (locs : List Loc) (ls : Array Slot) (h : gh_H) (G : gh_Inv D h0 (gh_A h0 s.heap.size) s.heap s H locs h) (hl : gh_L ls 9 [(0, 1, va_rf v0), (1, 1, va_rf v1), (2, 1, va_rf v2), (3, 1, va_rf v3), (4, 1, va_rf v4), (5, 1, .int v5)]) (hw : wb_L_law_1644 D.2.2 K28 it28 v0 v1 v2 v3 v4 v5 h) : W p l e room_1 s m #[Value.ref b0] below meth c H locs (28 + it28 * 440) (5263 + it28 * 2551) (lw_Z below #[Value.ref b0] s) (F0 m 1644 ls []) := by
  unfold wb_L_law_1644 at hw
  have hx := M.1.1
  have hb := M.1.2.1
  refine lv_goto (tgt := 1712) hx hb dL_law_1644 (by decide) ?_
  refine W.widen (k := 467 + it28 * 440) (n := 7808 + it28 * 2551) (by omega) (by omega) ?_
  exact wk_L_law_1712 M hz0 hr k28 hit28 v0 v1 v2 v3 v4 v5 _ _ _ _ G (gh_sub hl [0, 1, 2, 3, 4, 5] rfl) hw
set_option maxHeartbeats 4000000 in
theorem wk_L_law_1642 {D : gh_D} {p : Program} {l : Launch} {e : Env} {s : State} {m : MethodId} {b0 : Nat} {below : List Frame} {meth : Method} {c : Code} {h0 : gh_H} (M : gh_M D p l s m #[Value.ref b0] meth c R_law code 9 (gh_A h0 s.heap.size)) (hz0 : ∀ (a lb : Nat) (e : gh_C), h0 a = some (lb, e) → lb = 0) (hr : meth.sig.returnType = some .boolean)       (H : Heap) (locs : List Loc) (ls : Array Slot) (h : gh_H) (G : gh_Inv D h0 (gh_A h0 s.heap.size) s.heap s H locs h) (hl : gh_L ls 9 []) (hw : wb_L_law_1642 D.2.2  h) : W p l e room_1 s m #[Value.ref b0] below meth c H locs 28188 168527 (lw_Z below #[Value.ref b0] s) (F0 m 1642 ls []) := by
  unfold wb_L_law_1642 at hw
  have hx := M.1.1
  have hb := M.1.2.1
  refine lv_iconst (v := (0 : Int32)) hx hb dL_law_1642 (by decide) ?_
  exact gh_lawret M G hz0 hr hw (by exact Nat.le_of_ble_eq_true rfl) (by exact Nat.le_of_ble_eq_true rfl) dL_law_1643
set_option maxHeartbeats 4000000 in
theorem wk_L_law_1709 {D : gh_D} {p : Program} {l : Launch} {e : Env} {s : State} {m : MethodId} {b0 : Nat} {below : List Frame} {meth : Method} {c : Code} {h0 : gh_H} (M : gh_M D p l s m #[Value.ref b0] meth c R_law code 9 (gh_A h0 s.heap.size)) (hz0 : ∀ (a lb : Nat) (e : gh_C), h0 a = some (lb, e) → lb = 0) (hr : meth.sig.returnType = some .boolean) {K28 : Nat → Option Nat → Option Nat → Option Nat → Option Nat → Option Nat → Int32 → gh_H → Prop} {it28 : Nat}  (k28 : ∀ (it28 : Nat) (v0 : Option Nat) (v1 : Option Nat) (v2 : Option Nat) (v3 : Option Nat) (v4 : Option Nat) (v5 : Int32) (H : Heap) (locs : List Loc) (ls : Array Slot) (h : gh_H) (_ : gh_Inv D h0 (gh_A h0 s.heap.size) s.heap s H locs h) (_ : gh_L ls 9 [(0, 1, va_rf v0), (1, 1, va_rf v1), (2, 1, va_rf v2), (3, 1, va_rf v3), (4, 1, va_rf v4), (5, 1, .int v5)]) (_ : K28 it28 v0 v1 v2 v3 v4 v5 h), W p l e room_1 s m #[Value.ref b0] below meth c H locs (27 + it28 * 440) (5257 + it28 * 2551) (lw_Z below #[Value.ref b0] s) (F0 m 28 ls [])) (hit28 : it28 ≤ 64) (v0 : Option Nat) (v1 : Option Nat) (v2 : Option Nat) (v3 : Option Nat) (v4 : Option Nat) (v5 : Int32) (H : Heap) (locs : List Loc) (ls : Array Slot) (h : gh_H) (G : gh_Inv D h0 (gh_A h0 s.heap.size) s.heap s H locs h) (hl : gh_L ls 9 [(0, 1, va_rf v0), (1, 1, va_rf v1), (2, 1, va_rf v2), (3, 1, va_rf v3), (4, 1, va_rf v4), (5, 1, .int v5)]) (hw : wb_L_law_1709 D.2.2 K28 it28 v0 v1 v2 v3 v4 v5 h) : W p l e room_1 s m #[Value.ref b0] below meth c H locs (28 + it28 * 440) (5263 + it28 * 2551) (lw_Z below #[Value.ref b0] s) (F0 m 1709 ls []) := by
  unfold wb_L_law_1709 at hw
  have hx := M.1.1
  have hb := M.1.2.1
  refine lv_goto (tgt := 1712) hx hb dL_law_1709 (by decide) ?_
  refine W.widen (k := 467 + it28 * 440) (n := 7808 + it28 * 2551) (by omega) (by omega) ?_
  exact wk_L_law_1712 M hz0 hr k28 hit28 v0 v1 v2 v3 v4 v5 _ _ _ _ G (gh_sub hl [0, 1, 2, 3, 4, 5] rfl) hw
set_option maxHeartbeats 4000000 in
theorem wk_L_law_1707 {D : gh_D} {p : Program} {l : Launch} {e : Env} {s : State} {m : MethodId} {b0 : Nat} {below : List Frame} {meth : Method} {c : Code} {h0 : gh_H} (M : gh_M D p l s m #[Value.ref b0] meth c R_law code 9 (gh_A h0 s.heap.size)) (hz0 : ∀ (a lb : Nat) (e : gh_C), h0 a = some (lb, e) → lb = 0) (hr : meth.sig.returnType = some .boolean)       (H : Heap) (locs : List Loc) (ls : Array Slot) (h : gh_H) (G : gh_Inv D h0 (gh_A h0 s.heap.size) s.heap s H locs h) (hl : gh_L ls 9 []) (hw : wb_L_law_1707 D.2.2  h) : W p l e room_1 s m #[Value.ref b0] below meth c H locs 28188 168527 (lw_Z below #[Value.ref b0] s) (F0 m 1707 ls []) := by
  unfold wb_L_law_1707 at hw
  have hx := M.1.1
  have hb := M.1.2.1
  refine lv_iconst (v := (0 : Int32)) hx hb dL_law_1707 (by decide) ?_
  exact gh_lawret M G hz0 hr hw (by exact Nat.le_of_ble_eq_true rfl) (by exact Nat.le_of_ble_eq_true rfl) dL_law_1708
set_option maxHeartbeats 4000000 in
theorem wk1_L_law_28 {D : gh_D} {p : Program} {l : Launch} {e : Env} {s : State} {m : MethodId} {b0 : Nat} {below : List Frame} {meth : Method} {c : Code} {h0 : gh_H} (M : gh_M D p l s m #[Value.ref b0] meth c R_law code 9 (gh_A h0 s.heap.size)) (hz0 : ∀ (a lb : Nat) (e : gh_C), h0 a = some (lb, e) → lb = 0) (hr : meth.sig.returnType = some .boolean) {K28 : Nat → Option Nat → Option Nat → Option Nat → Option Nat → Option Nat → Int32 → gh_H → Prop} {it28 : Nat}  (k28 : ∀ (it28 : Nat) (v0 : Option Nat) (v1 : Option Nat) (v2 : Option Nat) (v3 : Option Nat) (v4 : Option Nat) (v5 : Int32) (H : Heap) (locs : List Loc) (ls : Array Slot) (h : gh_H) (_ : gh_Inv D h0 (gh_A h0 s.heap.size) s.heap s H locs h) (_ : gh_L ls 9 [(0, 1, va_rf v0), (1, 1, va_rf v1), (2, 1, va_rf v2), (3, 1, va_rf v3), (4, 1, va_rf v4), (5, 1, .int v5)]) (_ : K28 it28 v0 v1 v2 v3 v4 v5 h), W p l e room_1 s m #[Value.ref b0] below meth c H locs (27 + it28 * 440) (5257 + it28 * 2551) (lw_Z below #[Value.ref b0] s) (F0 m 28 ls [])) (hit28 : it28 ≤ 64) (v0 : Option Nat) (v1 : Option Nat) (v2 : Option Nat) (v3 : Option Nat) (v4 : Option Nat) (v5 : Int32) (H : Heap) (locs : List Loc) (ls : Array Slot) (h : gh_H) (G : gh_Inv D h0 (gh_A h0 s.heap.size) s.heap s H locs h) (hl : gh_L ls 9 [(0, 1, va_rf v0), (1, 1, va_rf v1), (2, 1, va_rf v2), (3, 1, va_rf v3), (4, 1, va_rf v4), (5, 1, .int v5)]) (hw : wb_L_law_28 D.2.2 K28 it28 v0 v1 v2 v3 v4 v5 h) : W p l e room_1 s m #[Value.ref b0] below meth c H locs (27 + it28 * 440) (5257 + it28 * 2551) (lw_Z below #[Value.ref b0] s) (F0 m 28 ls []) := by
  unfold wb_L_law_28 at hw
  have hx := M.1.1
  have hb := M.1.2.1
  refine lv_iload hx hb dL_law_28 (gh_at hl 5 rfl) ?_
  refine gh_aload_n hx hb dL_law_30 rfl (gh_at hl 0 rfl) ?_
  refine gh_len M G hw dL_law_31 (fun x1 hw => ?_)
  refine lv_iconst (v := (4 : Int32)) hx hb dL_law_32 (by decide) ?_
  refine lv_isub hx hb dL_law_33 ?_
  refine lv_icmp_gt (tgt := 1718) hx hb dL_law_34 (by decide) (fun hc => ?_) (fun hc => ?_)
  · replace hw := hw.1 hc
    refine lv_iconst (v := (1 : Int32)) hx hb dL_law_1718 (by decide) ?_
    exact gh_lawret M G hz0 hr hw (by omega) (by omega) dL_law_1719
  · replace hw := hw.2 hc
    refine gh_aload_n hx hb dL_law_37 rfl (gh_at hl 0 rfl) ?_
    refine lv_iload hx hb dL_law_38 (gh_at hl 5 rfl) ?_
    refine gh_ial M G hw dL_law_40 (fun x2 hw => ?_)
    refine lv_bipush (v := (31 : Int32)) hx hb dL_law_41 (by decide) ?_
    refine lv_iand hx hb dL_law_43 ?_
    by_cases hc0 : (x2 &&& (31 : Int32)) = (0 : Int32)
    · replace hw := hw.1 hc0
      refine lv_tableIn (tgt := 168) hx hb dL_law_44 (by rw [hc0]; decide) (by rw [hc0]; decide) (by rw [hc0]; rfl) (by decide) ?_
      refine gh_aload_n hx hb dL_law_168 rfl (gh_at hl 1 rfl) ?_
      refine gh_aload_n hx hb dL_law_169 rfl (gh_at hl 3 rfl) ?_
      refine gh_ki G (vx_runSX M.1 (met_X0_addContent l D _ _ _ _ _ _ hw M.2.2.2.2.2) (vx_cwSW 2 (gh_Mts M) (lw_SW q258 q259 q40 q260) rfl rfl rfl ⟨by decide, by decide, rfl⟩ ⟨Nat.le_of_ble_eq_true rfl, Nat.le_of_ble_eq_true rfl⟩) (gh_pre M G (As := [va_rf v1, va_rf v3])) rfl rfl hl.1.1 rfl (lv_room (Nat.le_of_ble_eq_true rfl)) dL_law_170 ⟨(by show _ ≤ 1203072; omega), (by show _ ≤ 5378346; omega)⟩) (fun E ce q9 h9 H9 locs9 hX G9 hce hcv hcl => hX.elim) (fun r3 h4 H locs hw G => ?_)
      refine W.widen (k := 30 + it28 * 440) (n := 5346 + it28 * 2551) (by omega) (by omega) ?_
      refine gh_istore (lv' := [(6, 1, .int r3), (0, 1, va_rf v0), (1, 1, va_rf v1), (2, 1, va_rf v2), (3, 1, va_rf v3), (4, 1, va_rf v4), (5, 1, .int v5)]) hx hb dL_law_173 hl (by decide) rfl (fun ls hl => ?_)
      refine gh_aload_n hx hb dL_law_175 rfl (gh_at hl 3 rfl) ?_
      obtain ⟨a5, lba5, fsa5, rfl, haa5, hw⟩ := hw
      refine gh_ki G (vx_runV M.1 (met_X3_addContent l D _ _ _ _ _ hw M.2.2.2.2.2) (cwV 0 (gh_Mts M) (lw_V q1653 q1654 q1655 q50 q1656) rfl rfl rfl ⟨rfl, by decide, by decide, rfl⟩ ⟨Nat.le_of_ble_eq_true rfl, Nat.le_of_ble_eq_true rfl⟩) (gh_preV (As := []) M G (gh_rec M G haa5 rfl)) rfl rfl hl.1.1 rfl (lv_room (Nat.le_of_ble_eq_true rfl)) dL_law_176 ⟨(by show _ ≤ 1203072; omega), (by show _ ≤ 5378346; omega)⟩) (fun E ce q9 h9 H9 locs9 hX G9 hce hcv hcl => hX.elim) (fun r6 h7 H locs hw G => ?_)
      refine W.widen (k := 30 + it28 * 440) (n := 5346 + it28 * 2551) (by omega) (by omega) ?_
      refine gh_istore (lv' := [(7, 1, .int r6), (6, 1, .int r3), (0, 1, va_rf v0), (1, 1, va_rf v1), (2, 1, va_rf (some a5)), (3, 1, va_rf v3), (4, 1, va_rf v4), (5, 1, .int v5)]) hx hb dL_law_179 hl (by decide) rfl (fun ls hl => ?_)
      refine gh_aload_n hx hb dL_law_181 rfl (gh_at hl 4 rfl) ?_
      obtain ⟨a8, lba8, fsa8, hra8, haa8, hw⟩ := hw
      rw [← Option.some.inj hra8] at haa8
      refine gh_ki G (vx_runV M.1 (met_X3_thrown l D _ _ _ _ _ hw M.2.2.2.2.2) (cwV 0 (gh_Mts M) (lw_V q1649 q1650 q1651 q50 q1652) rfl rfl rfl ⟨rfl, by decide, by decide, rfl⟩ ⟨Nat.le_of_ble_eq_true rfl, Nat.le_of_ble_eq_true rfl⟩) (gh_preV (As := []) M G (gh_rec M G haa8 rfl)) rfl rfl hl.1.1 rfl (lv_room (Nat.le_of_ble_eq_true rfl)) dL_law_182 ⟨(by show _ ≤ 1203072; omega), (by show _ ≤ 5378346; omega)⟩) (fun E ce q9 h9 H9 locs9 hX G9 hce hcv hcl => hX.elim) (fun r9 h10 H locs hw G => ?_)
      refine W.widen (k := 30 + it28 * 440) (n := 5346 + it28 * 2551) (by omega) (by omega) ?_
      refine lv_iload hx hb dL_law_185 (gh_at hl 1 rfl) ?_
      refine lv_icmp_eq (tgt := 192) hx hb dL_law_187 (by decide) (fun hc => ?_) (fun hc => ?_)
      · replace hw := hw.1 hc
        refine lv_iload hx hb dL_law_192 (gh_at hl 1 rfl) ?_
        refine lv_if_ne (tgt := 209) hx hb dL_law_194 (by decide) (fun hc => ?_) (fun hc => ?_)
        · replace hw := hw.2 hc
          exact wk_L_law_209 M hz0 hr k28 hit28 v0 v1 (some a5) v3 v4 v5 _ _ _ _ G (gh_sub hl [2, 3, 4, 5, 6, 7] rfl) hw
        · replace hw := hw.1 hc
          refine gh_aload_n hx hb dL_law_197 rfl (gh_at hl 5 rfl) ?_
          refine lv_iconst (v := (0 : Int32)) hx hb dL_law_198 (by decide) ?_
          refine gh_jal M G hw dL_law_199 (fun x11 hw => ?_)
          refine lv_iload hx hb dL_law_200 (gh_at hl 0 rfl) ?_
          refine lv_i2l (v := (r6.toInt64)) hx hb dL_law_202 rfl ?_
          refine W.lcmp hx hb dL_law_203 ?_
          refine lv_if_eq (tgt := 209) hx hb dL_law_204 (by decide) (fun hc => ?_) (fun hc => ?_)
          · replace hw := hw.1 hc
            exact wk_L_law_209 M hz0 hr k28 hit28 v0 v1 (some a5) v3 v4 v5 _ _ _ _ G (gh_sub hl [2, 3, 4, 5, 6, 7] rfl) hw
          · replace hw := hw.2 hc
            refine lv_iconst (v := (0 : Int32)) hx hb dL_law_207 (by decide) ?_
            exact gh_lawret M G hz0 hr hw (by omega) (by omega) dL_law_208
      · replace hw := hw.2 hc
        refine lv_iconst (v := (0 : Int32)) hx hb dL_law_190 (by decide) ?_
        exact gh_lawret M G hz0 hr hw (by omega) (by omega) dL_law_191
    by_cases hc1 : (x2 &&& (31 : Int32)) = (1 : Int32)
    · replace hw := hw.2.1 hc1
      refine lv_tableIn (tgt := 212) hx hb dL_law_44 (by rw [hc1]; decide) (by rw [hc1]; decide) (by rw [hc1]; rfl) (by decide) ?_
      refine gh_aload_n hx hb dL_law_212 rfl (gh_at hl 1 rfl) ?_
      refine gh_aload_n hx hb dL_law_213 rfl (gh_at hl 0 rfl) ?_
      refine lv_iload hx hb dL_law_214 (gh_at hl 5 rfl) ?_
      refine lv_iconst (v := (1 : Int32)) hx hb dL_law_216 (by decide) ?_
      refine lv_iadd hx hb dL_law_217 ?_
      refine gh_ial M G hw dL_law_218 (fun x12 hw => ?_)
      refine gh_aload_n hx hb dL_law_219 rfl (gh_at hl 3 rfl) ?_
      refine gh_ki G (vx_runSX M.1 (met_X0_approve l D _ _ _ _ _ _ _ hw M.2.2.2.2.2) (vx_cwSW 3 (gh_Mts M) (lw_SW q436 q437 q40 q438) rfl rfl rfl ⟨by decide, by decide, rfl⟩ ⟨Nat.le_of_ble_eq_true rfl, Nat.le_of_ble_eq_true rfl⟩) (gh_pre M G (As := [va_rf v1, .int x12, va_rf v3])) rfl rfl hl.1.1 rfl (lv_room (Nat.le_of_ble_eq_true rfl)) dL_law_220 ⟨(by show _ ≤ 1203072; omega), (by show _ ≤ 5378346; omega)⟩) (fun E ce q9 h9 H9 locs9 hX G9 hce hcv hcl => hX.elim) (fun r13 h14 H locs hw G => ?_)
      refine W.widen (k := 28 + it28 * 440) (n := 5263 + it28 * 2551) (by omega) (by omega) ?_
      refine gh_istore (lv' := [(6, 1, .int r13), (0, 1, va_rf v0), (1, 1, va_rf v1), (2, 1, va_rf v2), (3, 1, va_rf v3), (4, 1, va_rf v4), (5, 1, .int v5)]) hx hb dL_law_223 hl (by decide) rfl (fun ls hl => ?_)
      refine gh_aload_n hx hb dL_law_225 rfl (gh_at hl 3 rfl) ?_
      refine gh_aload_n hx hb dL_law_226 rfl (gh_at hl 1 rfl) ?_
      refine lv_iload hx hb dL_law_227 (gh_at hl 6 rfl) ?_
      refine lv_iconst (v := (1 : Int32)) hx hb dL_law_229 (by decide) ?_
      refine lv_iadd hx hb dL_law_230 ?_
      refine gh_ial M G hw dL_law_231 (fun x15 hw => ?_)
      obtain ⟨a16, lba16, fsa16, rfl, haa16, hw⟩ := hw
      refine gh_ki G (vx_runV M.1 (met_X3_approve l D _ _ _ _ _ _ hw M.2.2.2.2.2) (cwV 1 (gh_Mts M) (lw_V q1661 q1662 q1663 q50 q1664) rfl rfl rfl ⟨rfl, by decide, by decide, rfl⟩ ⟨Nat.le_of_ble_eq_true rfl, Nat.le_of_ble_eq_true rfl⟩) (gh_preV (As := [.int x15]) M G (gh_rec M G haa16 rfl)) rfl rfl hl.1.1 rfl (lv_room (Nat.le_of_ble_eq_true rfl)) dL_law_232 ⟨(by show _ ≤ 1203072; omega), (by show _ ≤ 5378346; omega)⟩) (fun E ce q9 h9 H9 locs9 hX G9 hce hcv hcl => hX.elim) (fun r17 h18 H locs hw G => ?_)
      refine W.widen (k := 28 + it28 * 440) (n := 5263 + it28 * 2551) (by omega) (by omega) ?_
      refine gh_istore (lv' := [(7, 1, .int r17), (6, 1, .int r13), (0, 1, va_rf v0), (1, 1, va_rf v1), (2, 1, va_rf (some a16)), (3, 1, va_rf v3), (4, 1, va_rf v4), (5, 1, .int v5)]) hx hb dL_law_235 hl (by decide) rfl (fun ls hl => ?_)
      refine gh_aload_n hx hb dL_law_237 rfl (gh_at hl 4 rfl) ?_
      obtain ⟨a19, lba19, fsa19, hra19, haa19, hw⟩ := hw
      rw [← Option.some.inj hra19] at haa19
      refine gh_ki G (vx_runV M.1 (met_X3_thrown l D _ _ _ _ _ hw M.2.2.2.2.2) (cwV 0 (gh_Mts M) (lw_V q1649 q1650 q1651 q50 q1652) rfl rfl rfl ⟨rfl, by decide, by decide, rfl⟩ ⟨Nat.le_of_ble_eq_true rfl, Nat.le_of_ble_eq_true rfl⟩) (gh_preV (As := []) M G (gh_rec M G haa19 rfl)) rfl rfl hl.1.1 rfl (lv_room (Nat.le_of_ble_eq_true rfl)) dL_law_238 ⟨(by show _ ≤ 1203072; omega), (by show _ ≤ 5378346; omega)⟩) (fun E ce q9 h9 H9 locs9 hX G9 hce hcv hcl => hX.elim) (fun r20 h21 H locs hw G => ?_)
      refine W.widen (k := 28 + it28 * 440) (n := 5263 + it28 * 2551) (by omega) (by omega) ?_
      refine lv_iload hx hb dL_law_241 (gh_at hl 1 rfl) ?_
      refine lv_icmp_eq (tgt := 248) hx hb dL_law_243 (by decide) (fun hc => ?_) (fun hc => ?_)
      · replace hw := hw.1 hc
        refine lv_iload hx hb dL_law_248 (gh_at hl 1 rfl) ?_
        refine lv_if_ne (tgt := 272) hx hb dL_law_250 (by decide) (fun hc => ?_) (fun hc => ?_)
        · replace hw := hw.2 hc
          exact wk_L_law_272 M hz0 hr k28 hit28 v0 v1 (some a16) v3 v4 v5 _ _ _ _ G (gh_sub hl [2, 3, 4, 5, 6, 7] rfl) hw
        · replace hw := hw.1 hc
          refine gh_aload_n hx hb dL_law_253 rfl (gh_at hl 5 rfl) ?_
          refine lv_iconst (v := (0 : Int32)) hx hb dL_law_254 (by decide) ?_
          refine gh_jal M G hw dL_law_255 (fun x22 hw => ?_)
          refine lv_iload hx hb dL_law_256 (gh_at hl 0 rfl) ?_
          refine lv_if_eq (tgt := 265) hx hb dL_law_258 (by decide) (fun hc => ?_) (fun hc => ?_)
          · replace hw := hw.1 hc
            refine lv_lconst (v := (0 : Int64)) hx hb dL_law_265 (by decide) ?_
            exact wk_L_law_266 M hz0 hr k28 hit28 v0 v1 (some a16) v3 v4 v5 x22 (0 : Int64) _ _ _ _ G (gh_sub hl [2, 3, 4, 5, 6, 7] rfl) hw
          · replace hw := hw.2 hc
            refine lv_lconst (v := (1 : Int64)) hx hb dL_law_261 (by decide) ?_
            refine lv_goto (tgt := 266) hx hb dL_law_262 (by decide) ?_
            exact wk_L_law_266 M hz0 hr k28 hit28 v0 v1 (some a16) v3 v4 v5 x22 (1 : Int64) _ _ _ _ G (gh_sub hl [2, 3, 4, 5, 6, 7] rfl) hw
      · replace hw := hw.2 hc
        refine lv_iconst (v := (0 : Int32)) hx hb dL_law_246 (by decide) ?_
        exact gh_lawret M G hz0 hr hw (by omega) (by omega) dL_law_247
    by_cases hc2 : (x2 &&& (31 : Int32)) = (2 : Int32)
    · replace hw := hw.2.2.1 hc2
      refine lv_tableIn (tgt := 275) hx hb dL_law_44 (by rw [hc2]; decide) (by rw [hc2]; decide) (by rw [hc2]; rfl) (by decide) ?_
      refine gh_aload_n hx hb dL_law_275 rfl (gh_at hl 1 rfl) ?_
      refine gh_aload_n hx hb dL_law_276 rfl (gh_at hl 0 rfl) ?_
      refine lv_iload hx hb dL_law_277 (gh_at hl 5 rfl) ?_
      refine lv_iconst (v := (1 : Int32)) hx hb dL_law_279 (by decide) ?_
      refine lv_iadd hx hb dL_law_280 ?_
      refine gh_ial M G hw dL_law_281 (fun x23 hw => ?_)
      refine gh_aload_n hx hb dL_law_282 rfl (gh_at hl 3 rfl) ?_
      refine gh_ki G (vx_runSX M.1 (met_X0_correct l D _ _ _ _ _ _ _ hw M.2.2.2.2.2) (vx_cwSW 3 (gh_Mts M) (lw_SW q517 q518 q40 q519) rfl rfl rfl ⟨by decide, by decide, rfl⟩ ⟨Nat.le_of_ble_eq_true rfl, Nat.le_of_ble_eq_true rfl⟩) (gh_pre M G (As := [va_rf v1, .int x23, va_rf v3])) rfl rfl hl.1.1 rfl (lv_room (Nat.le_of_ble_eq_true rfl)) dL_law_283 ⟨(by show _ ≤ 1203072; omega), (by show _ ≤ 5378346; omega)⟩) (fun E ce q9 h9 H9 locs9 hX G9 hce hcv hcl => hX.elim) (fun r24 h25 H locs hw G => ?_)
      refine W.widen (k := 41 + it28 * 440) (n := 5408 + it28 * 2551) (by omega) (by omega) ?_
      refine gh_istore (lv' := [(6, 1, .int r24), (0, 1, va_rf v0), (1, 1, va_rf v1), (2, 1, va_rf v2), (3, 1, va_rf v3), (4, 1, va_rf v4), (5, 1, .int v5)]) hx hb dL_law_286 hl (by decide) rfl (fun ls hl => ?_)
      refine gh_aload_n hx hb dL_law_288 rfl (gh_at hl 3 rfl) ?_
      refine gh_aload_n hx hb dL_law_289 rfl (gh_at hl 1 rfl) ?_
      refine lv_iload hx hb dL_law_290 (gh_at hl 6 rfl) ?_
      refine lv_iconst (v := (1 : Int32)) hx hb dL_law_292 (by decide) ?_
      refine lv_iadd hx hb dL_law_293 ?_
      refine gh_ial M G hw dL_law_294 (fun x26 hw => ?_)
      obtain ⟨a27, lba27, fsa27, rfl, haa27, hw⟩ := hw
      refine gh_ki G (vx_runV M.1 (met_X3_correct l D _ _ _ _ _ _ hw M.2.2.2.2.2) (cwV 1 (gh_Mts M) (lw_V q1672 q1673 q1674 q50 q1675) rfl rfl rfl ⟨rfl, by decide, by decide, rfl⟩ ⟨Nat.le_of_ble_eq_true rfl, Nat.le_of_ble_eq_true rfl⟩) (gh_preV (As := [.int x26]) M G (gh_rec M G haa27 rfl)) rfl rfl hl.1.1 rfl (lv_room (Nat.le_of_ble_eq_true rfl)) dL_law_295 ⟨(by show _ ≤ 1203072; omega), (by show _ ≤ 5378346; omega)⟩) (fun E ce q9 h9 H9 locs9 hX G9 hce hcv hcl => hX.elim) (fun r28 h29 H locs hw G => ?_)
      refine W.widen (k := 41 + it28 * 440) (n := 5408 + it28 * 2551) (by omega) (by omega) ?_
      refine gh_istore (lv' := [(7, 1, .int r28), (6, 1, .int r24), (0, 1, va_rf v0), (1, 1, va_rf v1), (2, 1, va_rf (some a27)), (3, 1, va_rf v3), (4, 1, va_rf v4), (5, 1, .int v5)]) hx hb dL_law_298 hl (by decide) rfl (fun ls hl => ?_)
      refine gh_aload_n hx hb dL_law_300 rfl (gh_at hl 4 rfl) ?_
      obtain ⟨a30, lba30, fsa30, hra30, haa30, hw⟩ := hw
      rw [← Option.some.inj hra30] at haa30
      refine gh_ki G (vx_runV M.1 (met_X3_thrown l D _ _ _ _ _ hw M.2.2.2.2.2) (cwV 0 (gh_Mts M) (lw_V q1649 q1650 q1651 q50 q1652) rfl rfl rfl ⟨rfl, by decide, by decide, rfl⟩ ⟨Nat.le_of_ble_eq_true rfl, Nat.le_of_ble_eq_true rfl⟩) (gh_preV (As := []) M G (gh_rec M G haa30 rfl)) rfl rfl hl.1.1 rfl (lv_room (Nat.le_of_ble_eq_true rfl)) dL_law_301 ⟨(by show _ ≤ 1203072; omega), (by show _ ≤ 5378346; omega)⟩) (fun E ce q9 h9 H9 locs9 hX G9 hce hcv hcl => hX.elim) (fun r31 h32 H locs hw G => ?_)
      refine W.widen (k := 41 + it28 * 440) (n := 5408 + it28 * 2551) (by omega) (by omega) ?_
      refine lv_iload hx hb dL_law_304 (gh_at hl 1 rfl) ?_
      refine lv_icmp_eq (tgt := 311) hx hb dL_law_306 (by decide) (fun hc => ?_) (fun hc => ?_)
      · replace hw := hw.1 hc
        refine lv_iload hx hb dL_law_311 (gh_at hl 1 rfl) ?_
        refine lv_if_ne (tgt := 328) hx hb dL_law_313 (by decide) (fun hc => ?_) (fun hc => ?_)
        · replace hw := hw.2 hc
          exact wk_L_law_328 M hz0 hr k28 hit28 v0 v1 (some a27) v3 v4 v5 _ _ _ _ G (gh_sub hl [2, 3, 4, 5, 6, 7] rfl) hw
        · replace hw := hw.1 hc
          refine gh_aload_n hx hb dL_law_316 rfl (gh_at hl 5 rfl) ?_
          refine lv_iconst (v := (0 : Int32)) hx hb dL_law_317 (by decide) ?_
          refine gh_jal M G hw dL_law_318 (fun x33 hw => ?_)
          refine lv_iload hx hb dL_law_319 (gh_at hl 0 rfl) ?_
          refine lv_i2l (v := (r28.toInt64)) hx hb dL_law_321 rfl ?_
          refine W.lcmp hx hb dL_law_322 ?_
          refine lv_if_eq (tgt := 328) hx hb dL_law_323 (by decide) (fun hc => ?_) (fun hc => ?_)
          · replace hw := hw.1 hc
            exact wk_L_law_328 M hz0 hr k28 hit28 v0 v1 (some a27) v3 v4 v5 _ _ _ _ G (gh_sub hl [2, 3, 4, 5, 6, 7] rfl) hw
          · replace hw := hw.2 hc
            refine lv_iconst (v := (0 : Int32)) hx hb dL_law_326 (by decide) ?_
            exact gh_lawret M G hz0 hr hw (by omega) (by omega) dL_law_327
      · replace hw := hw.2 hc
        refine lv_iconst (v := (0 : Int32)) hx hb dL_law_309 (by decide) ?_
        exact gh_lawret M G hz0 hr hw (by omega) (by omega) dL_law_310
    by_cases hc3 : (x2 &&& (31 : Int32)) = (3 : Int32)
    · replace hw := hw.2.2.2.1 hc3
      refine lv_tableIn (tgt := 331) hx hb dL_law_44 (by rw [hc3]; decide) (by rw [hc3]; decide) (by rw [hc3]; rfl) (by decide) ?_
      refine gh_aload_n hx hb dL_law_331 rfl (gh_at hl 1 rfl) ?_
      refine gh_aload_n hx hb dL_law_332 rfl (gh_at hl 0 rfl) ?_
      refine lv_iload hx hb dL_law_333 (gh_at hl 5 rfl) ?_
      refine lv_iconst (v := (1 : Int32)) hx hb dL_law_335 (by decide) ?_
      refine lv_iadd hx hb dL_law_336 ?_
      refine gh_ial M G hw dL_law_337 (fun x34 hw => ?_)
      refine gh_aload_n hx hb dL_law_338 rfl (gh_at hl 3 rfl) ?_
      refine gh_ki G (vx_runSX M.1 (met_X0_state l D _ _ _ _ _ _ _ hw M.2.2.2.2.2) (vx_cwSW 3 (gh_Mts M) (lw_SW q704 q705 q40 q706) rfl rfl rfl ⟨by decide, by decide, rfl⟩ ⟨Nat.le_of_ble_eq_true rfl, Nat.le_of_ble_eq_true rfl⟩) (gh_pre M G (As := [va_rf v1, .int x34, va_rf v3])) rfl rfl hl.1.1 rfl (lv_room (Nat.le_of_ble_eq_true rfl)) dL_law_339 ⟨(by show _ ≤ 1203072; omega), (by show _ ≤ 5378346; omega)⟩) (fun E ce q9 h9 H9 locs9 hX G9 hce hcv hcl => hX.elim) (fun r35 h36 H locs hw G => ?_)
      refine W.widen (k := 28 + it28 * 440) (n := 5263 + it28 * 2551) (by omega) (by omega) ?_
      refine gh_istore (lv' := [(6, 1, .int r35), (0, 1, va_rf v0), (1, 1, va_rf v1), (2, 1, va_rf v2), (3, 1, va_rf v3), (4, 1, va_rf v4), (5, 1, .int v5)]) hx hb dL_law_342 hl (by decide) rfl (fun ls hl => ?_)
      refine gh_aload_n hx hb dL_law_344 rfl (gh_at hl 3 rfl) ?_
      refine gh_aload_n hx hb dL_law_345 rfl (gh_at hl 1 rfl) ?_
      refine lv_iload hx hb dL_law_346 (gh_at hl 6 rfl) ?_
      refine lv_iconst (v := (1 : Int32)) hx hb dL_law_348 (by decide) ?_
      refine lv_iadd hx hb dL_law_349 ?_
      refine gh_ial M G hw dL_law_350 (fun x37 hw => ?_)
      obtain ⟨a38, lba38, fsa38, rfl, haa38, hw⟩ := hw
      refine gh_ki G (vx_runV M.1 (met_X3_state l D _ _ _ _ _ _ hw M.2.2.2.2.2) (cwV 1 (gh_Mts M) (lw_V q1704 q1705 q1706 q50 q1707) rfl rfl rfl ⟨rfl, by decide, by decide, rfl⟩ ⟨Nat.le_of_ble_eq_true rfl, Nat.le_of_ble_eq_true rfl⟩) (gh_preV (As := [.int x37]) M G (gh_rec M G haa38 rfl)) rfl rfl hl.1.1 rfl (lv_room (Nat.le_of_ble_eq_true rfl)) dL_law_351 ⟨(by show _ ≤ 1203072; omega), (by show _ ≤ 5378346; omega)⟩) (fun E ce q9 h9 H9 locs9 hX G9 hce hcv hcl => hX.elim) (fun r39 h40 H locs hw G => ?_)
      refine W.widen (k := 28 + it28 * 440) (n := 5263 + it28 * 2551) (by omega) (by omega) ?_
      refine gh_istore (lv' := [(7, 1, .int r39), (6, 1, .int r35), (0, 1, va_rf v0), (1, 1, va_rf v1), (2, 1, va_rf (some a38)), (3, 1, va_rf v3), (4, 1, va_rf v4), (5, 1, .int v5)]) hx hb dL_law_354 hl (by decide) rfl (fun ls hl => ?_)
      refine gh_aload_n hx hb dL_law_356 rfl (gh_at hl 4 rfl) ?_
      obtain ⟨a41, lba41, fsa41, hra41, haa41, hw⟩ := hw
      rw [← Option.some.inj hra41] at haa41
      refine gh_ki G (vx_runV M.1 (met_X3_thrown l D _ _ _ _ _ hw M.2.2.2.2.2) (cwV 0 (gh_Mts M) (lw_V q1649 q1650 q1651 q50 q1652) rfl rfl rfl ⟨rfl, by decide, by decide, rfl⟩ ⟨Nat.le_of_ble_eq_true rfl, Nat.le_of_ble_eq_true rfl⟩) (gh_preV (As := []) M G (gh_rec M G haa41 rfl)) rfl rfl hl.1.1 rfl (lv_room (Nat.le_of_ble_eq_true rfl)) dL_law_357 ⟨(by show _ ≤ 1203072; omega), (by show _ ≤ 5378346; omega)⟩) (fun E ce q9 h9 H9 locs9 hX G9 hce hcv hcl => hX.elim) (fun r42 h43 H locs hw G => ?_)
      refine W.widen (k := 28 + it28 * 440) (n := 5263 + it28 * 2551) (by omega) (by omega) ?_
      refine lv_iload hx hb dL_law_360 (gh_at hl 1 rfl) ?_
      refine lv_icmp_eq (tgt := 367) hx hb dL_law_362 (by decide) (fun hc => ?_) (fun hc => ?_)
      · replace hw := hw.1 hc
        refine lv_iload hx hb dL_law_367 (gh_at hl 1 rfl) ?_
        refine lv_if_ne (tgt := 384) hx hb dL_law_369 (by decide) (fun hc => ?_) (fun hc => ?_)
        · replace hw := hw.2 hc
          exact wk_L_law_384 M hz0 hr k28 hit28 v0 v1 (some a38) v3 v4 v5 _ _ _ _ G (gh_sub hl [2, 3, 4, 5, 6, 7] rfl) hw
        · replace hw := hw.1 hc
          refine gh_aload_n hx hb dL_law_372 rfl (gh_at hl 5 rfl) ?_
          refine lv_iconst (v := (0 : Int32)) hx hb dL_law_373 (by decide) ?_
          refine gh_jal M G hw dL_law_374 (fun x44 hw => ?_)
          refine lv_iload hx hb dL_law_375 (gh_at hl 0 rfl) ?_
          refine lv_i2l (v := (r39.toInt64)) hx hb dL_law_377 rfl ?_
          refine W.lcmp hx hb dL_law_378 ?_
          refine lv_if_eq (tgt := 384) hx hb dL_law_379 (by decide) (fun hc => ?_) (fun hc => ?_)
          · replace hw := hw.1 hc
            exact wk_L_law_384 M hz0 hr k28 hit28 v0 v1 (some a38) v3 v4 v5 _ _ _ _ G (gh_sub hl [2, 3, 4, 5, 6, 7] rfl) hw
          · replace hw := hw.2 hc
            refine lv_iconst (v := (0 : Int32)) hx hb dL_law_382 (by decide) ?_
            exact gh_lawret M G hz0 hr hw (by omega) (by omega) dL_law_383
      · replace hw := hw.2 hc
        refine lv_iconst (v := (0 : Int32)) hx hb dL_law_365 (by decide) ?_
        exact gh_lawret M G hz0 hr hw (by omega) (by omega) dL_law_366
    by_cases hc4 : (x2 &&& (31 : Int32)) = (4 : Int32)
    · replace hw := hw.2.2.2.2.1 hc4
      refine lv_tableIn (tgt := 387) hx hb dL_law_44 (by rw [hc4]; decide) (by rw [hc4]; decide) (by rw [hc4]; rfl) (by decide) ?_
      refine gh_aload_n hx hb dL_law_387 rfl (gh_at hl 1 rfl) ?_
      refine gh_aload_n hx hb dL_law_388 rfl (gh_at hl 0 rfl) ?_
      refine lv_iload hx hb dL_law_389 (gh_at hl 5 rfl) ?_
      refine lv_iconst (v := (1 : Int32)) hx hb dL_law_391 (by decide) ?_
      refine lv_iadd hx hb dL_law_392 ?_
      refine gh_ial M G hw dL_law_393 (fun x45 hw => ?_)
      refine lv_i2c (v := ((x45.toUInt32 % 65536).toInt32)) hx hb dL_law_394 rfl ?_
      refine gh_aload_n hx hb dL_law_395 rfl (gh_at hl 3 rfl) ?_
      refine gh_ki G (vx_runSX M.1 (met_X0_addJob l D _ _ _ _ _ _ _ hw M.2.2.2.2.2) (vx_cwSW 3 (gh_Mts M) (lw_SW q711 q712 q40 q713) rfl rfl rfl ⟨by decide, by decide, rfl⟩ ⟨Nat.le_of_ble_eq_true rfl, Nat.le_of_ble_eq_true rfl⟩) (gh_pre M G (As := [va_rf v1, .int ((x45.toUInt32 % 65536).toInt32), va_rf v3])) rfl rfl hl.1.1 rfl (lv_room (Nat.le_of_ble_eq_true rfl)) dL_law_396 ⟨(by show _ ≤ 1203072; omega), (by show _ ≤ 5378346; omega)⟩) (fun E ce q9 h9 H9 locs9 hX G9 hce hcv hcl => hX.elim) (fun r46 h47 H locs hw G => ?_)
      refine W.widen (k := 52 + it28 * 440) (n := 6099 + it28 * 2551) (by omega) (by omega) ?_
      refine gh_istore (lv' := [(6, 1, .int r46), (0, 1, va_rf v0), (1, 1, va_rf v1), (2, 1, va_rf v2), (3, 1, va_rf v3), (4, 1, va_rf v4), (5, 1, .int v5)]) hx hb dL_law_399 hl (by decide) rfl (fun ls hl => ?_)
      refine gh_aload_n hx hb dL_law_401 rfl (gh_at hl 3 rfl) ?_
      refine gh_aload_n hx hb dL_law_402 rfl (gh_at hl 1 rfl) ?_
      refine lv_iload hx hb dL_law_403 (gh_at hl 6 rfl) ?_
      refine lv_iconst (v := (1 : Int32)) hx hb dL_law_405 (by decide) ?_
      refine lv_iadd hx hb dL_law_406 ?_
      refine gh_ial M G hw dL_law_407 (fun x48 hw => ?_)
      refine lv_i2c (v := ((x48.toUInt32 % 65536).toInt32)) hx hb dL_law_408 rfl ?_
      obtain ⟨a49, lba49, fsa49, rfl, haa49, hw⟩ := hw
      refine gh_ki G (vx_runV M.1 (met_X3_addJob l D _ _ _ _ _ _ hw M.2.2.2.2.2) (cwV 1 (gh_Mts M) (lw_V q1708 q1709 q1710 q50 q1711) rfl rfl rfl ⟨rfl, by decide, by decide, rfl⟩ ⟨Nat.le_of_ble_eq_true rfl, Nat.le_of_ble_eq_true rfl⟩) (gh_preV (As := [.int ((x48.toUInt32 % 65536).toInt32)]) M G (gh_rec M G haa49 rfl)) rfl rfl hl.1.1 rfl (lv_room (Nat.le_of_ble_eq_true rfl)) dL_law_409 ⟨(by show _ ≤ 1203072; omega), (by show _ ≤ 5378346; omega)⟩) (fun E ce q9 h9 H9 locs9 hX G9 hce hcv hcl => hX.elim) (fun r50 h51 H locs hw G => ?_)
      refine W.widen (k := 52 + it28 * 440) (n := 6099 + it28 * 2551) (by omega) (by omega) ?_
      refine gh_istore (lv' := [(7, 1, .int r50), (6, 1, .int r46), (0, 1, va_rf v0), (1, 1, va_rf v1), (2, 1, va_rf (some a49)), (3, 1, va_rf v3), (4, 1, va_rf v4), (5, 1, .int v5)]) hx hb dL_law_412 hl (by decide) rfl (fun ls hl => ?_)
      refine gh_aload_n hx hb dL_law_414 rfl (gh_at hl 4 rfl) ?_
      obtain ⟨a52, lba52, fsa52, hra52, haa52, hw⟩ := hw
      rw [← Option.some.inj hra52] at haa52
      refine gh_ki G (vx_runV M.1 (met_X3_thrown l D _ _ _ _ _ hw M.2.2.2.2.2) (cwV 0 (gh_Mts M) (lw_V q1649 q1650 q1651 q50 q1652) rfl rfl rfl ⟨rfl, by decide, by decide, rfl⟩ ⟨Nat.le_of_ble_eq_true rfl, Nat.le_of_ble_eq_true rfl⟩) (gh_preV (As := []) M G (gh_rec M G haa52 rfl)) rfl rfl hl.1.1 rfl (lv_room (Nat.le_of_ble_eq_true rfl)) dL_law_415 ⟨(by show _ ≤ 1203072; omega), (by show _ ≤ 5378346; omega)⟩) (fun E ce q9 h9 H9 locs9 hX G9 hce hcv hcl => hX.elim) (fun r53 h54 H locs hw G => ?_)
      refine W.widen (k := 52 + it28 * 440) (n := 6099 + it28 * 2551) (by omega) (by omega) ?_
      refine lv_iload hx hb dL_law_418 (gh_at hl 1 rfl) ?_
      refine lv_icmp_eq (tgt := 425) hx hb dL_law_420 (by decide) (fun hc => ?_) (fun hc => ?_)
      · replace hw := hw.1 hc
        refine lv_iload hx hb dL_law_425 (gh_at hl 1 rfl) ?_
        refine lv_if_ne (tgt := 442) hx hb dL_law_427 (by decide) (fun hc => ?_) (fun hc => ?_)
        · replace hw := hw.2 hc
          exact wk_L_law_442 M hz0 hr k28 hit28 v0 v1 (some a49) v3 v4 v5 _ _ _ _ G (gh_sub hl [2, 3, 4, 5, 6, 7] rfl) hw
        · replace hw := hw.1 hc
          refine gh_aload_n hx hb dL_law_430 rfl (gh_at hl 5 rfl) ?_
          refine lv_iconst (v := (0 : Int32)) hx hb dL_law_431 (by decide) ?_
          refine gh_jal M G hw dL_law_432 (fun x55 hw => ?_)
          refine lv_iload hx hb dL_law_433 (gh_at hl 0 rfl) ?_
          refine lv_i2l (v := (r50.toInt64)) hx hb dL_law_435 rfl ?_
          refine W.lcmp hx hb dL_law_436 ?_
          refine lv_if_eq (tgt := 442) hx hb dL_law_437 (by decide) (fun hc => ?_) (fun hc => ?_)
          · replace hw := hw.1 hc
            exact wk_L_law_442 M hz0 hr k28 hit28 v0 v1 (some a49) v3 v4 v5 _ _ _ _ G (gh_sub hl [2, 3, 4, 5, 6, 7] rfl) hw
          · replace hw := hw.2 hc
            refine lv_iconst (v := (0 : Int32)) hx hb dL_law_440 (by decide) ?_
            exact gh_lawret M G hz0 hr hw (by omega) (by omega) dL_law_441
      · replace hw := hw.2 hc
        refine lv_iconst (v := (0 : Int32)) hx hb dL_law_423 (by decide) ?_
        exact gh_lawret M G hz0 hr hw (by omega) (by omega) dL_law_424
    by_cases hc5 : (x2 &&& (31 : Int32)) = (5 : Int32)
    · replace hw := hw.2.2.2.2.2.1 hc5
      refine lv_tableIn (tgt := 445) hx hb dL_law_44 (by rw [hc5]; decide) (by rw [hc5]; decide) (by rw [hc5]; rfl) (by decide) ?_
      refine gh_aload_n hx hb dL_law_445 rfl (gh_at hl 1 rfl) ?_
      refine gh_aload_n hx hb dL_law_446 rfl (gh_at hl 0 rfl) ?_
      refine lv_iload hx hb dL_law_447 (gh_at hl 5 rfl) ?_
      refine lv_iconst (v := (1 : Int32)) hx hb dL_law_449 (by decide) ?_
      refine lv_iadd hx hb dL_law_450 ?_
      refine gh_ial M G hw dL_law_451 (fun x56 hw => ?_)
      refine gh_aload_n hx hb dL_law_452 rfl (gh_at hl 0 rfl) ?_
      refine lv_iload hx hb dL_law_453 (gh_at hl 5 rfl) ?_
      refine lv_iconst (v := (2 : Int32)) hx hb dL_law_455 (by decide) ?_
      refine lv_iadd hx hb dL_law_456 ?_
      refine gh_ial M G hw dL_law_457 (fun x57 hw => ?_)
      refine gh_aload_n hx hb dL_law_458 rfl (gh_at hl 3 rfl) ?_
      refine gh_ki G (vx_runSX M.1 (met_X0_addPage l D _ _ _ _ _ _ _ _ hw M.2.2.2.2.2) (vx_cwSW 4 (gh_Mts M) (lw_SW q784 q785 q40 q786) rfl rfl rfl ⟨by decide, by decide, rfl⟩ ⟨Nat.le_of_ble_eq_true rfl, Nat.le_of_ble_eq_true rfl⟩) (gh_pre M G (As := [va_rf v1, .int x56, .int x57, va_rf v3])) rfl rfl hl.1.1 rfl (lv_room (Nat.le_of_ble_eq_true rfl)) dL_law_459 ⟨(by show _ ≤ 1203072; omega), (by show _ ≤ 5378346; omega)⟩) (fun E ce q9 h9 H9 locs9 hX G9 hce hcv hcl => hX.elim) (fun r58 h59 H locs hw G => ?_)
      refine W.widen (k := 31 + it28 * 440) (n := 5355 + it28 * 2551) (by omega) (by omega) ?_
      refine gh_istore (lv' := [(6, 1, .int r58), (0, 1, va_rf v0), (1, 1, va_rf v1), (2, 1, va_rf v2), (3, 1, va_rf v3), (4, 1, va_rf v4), (5, 1, .int v5)]) hx hb dL_law_462 hl (by decide) rfl (fun ls hl => ?_)
      refine gh_aload_n hx hb dL_law_464 rfl (gh_at hl 3 rfl) ?_
      refine gh_aload_n hx hb dL_law_465 rfl (gh_at hl 1 rfl) ?_
      refine lv_iload hx hb dL_law_466 (gh_at hl 6 rfl) ?_
      refine lv_iconst (v := (1 : Int32)) hx hb dL_law_468 (by decide) ?_
      refine lv_iadd hx hb dL_law_469 ?_
      refine gh_ial M G hw dL_law_470 (fun x60 hw => ?_)
      refine gh_aload_n hx hb dL_law_471 rfl (gh_at hl 1 rfl) ?_
      refine lv_iload hx hb dL_law_472 (gh_at hl 6 rfl) ?_
      refine lv_iconst (v := (2 : Int32)) hx hb dL_law_474 (by decide) ?_
      refine lv_iadd hx hb dL_law_475 ?_
      refine gh_ial M G hw dL_law_476 (fun x61 hw => ?_)
      obtain ⟨a62, lba62, fsa62, rfl, haa62, hw⟩ := hw
      refine gh_ki G (vx_runV M.1 (met_X3_addPage l D _ _ _ _ _ _ _ hw M.2.2.2.2.2) (cwV 2 (gh_Mts M) (lw_V q1712 q1713 q1714 q50 q1715) rfl rfl rfl ⟨rfl, by decide, by decide, rfl⟩ ⟨Nat.le_of_ble_eq_true rfl, Nat.le_of_ble_eq_true rfl⟩) (gh_preV (As := [.int x60, .int x61]) M G (gh_rec M G haa62 rfl)) rfl rfl hl.1.1 rfl (lv_room (Nat.le_of_ble_eq_true rfl)) dL_law_477 ⟨(by show _ ≤ 1203072; omega), (by show _ ≤ 5378346; omega)⟩) (fun E ce q9 h9 H9 locs9 hX G9 hce hcv hcl => hX.elim) (fun r63 h64 H locs hw G => ?_)
      refine W.widen (k := 31 + it28 * 440) (n := 5355 + it28 * 2551) (by omega) (by omega) ?_
      refine gh_istore (lv' := [(7, 1, .int r63), (6, 1, .int r58), (0, 1, va_rf v0), (1, 1, va_rf v1), (2, 1, va_rf (some a62)), (3, 1, va_rf v3), (4, 1, va_rf v4), (5, 1, .int v5)]) hx hb dL_law_480 hl (by decide) rfl (fun ls hl => ?_)
      refine gh_aload_n hx hb dL_law_482 rfl (gh_at hl 4 rfl) ?_
      obtain ⟨a65, lba65, fsa65, hra65, haa65, hw⟩ := hw
      rw [← Option.some.inj hra65] at haa65
      refine gh_ki G (vx_runV M.1 (met_X3_thrown l D _ _ _ _ _ hw M.2.2.2.2.2) (cwV 0 (gh_Mts M) (lw_V q1649 q1650 q1651 q50 q1652) rfl rfl rfl ⟨rfl, by decide, by decide, rfl⟩ ⟨Nat.le_of_ble_eq_true rfl, Nat.le_of_ble_eq_true rfl⟩) (gh_preV (As := []) M G (gh_rec M G haa65 rfl)) rfl rfl hl.1.1 rfl (lv_room (Nat.le_of_ble_eq_true rfl)) dL_law_483 ⟨(by show _ ≤ 1203072; omega), (by show _ ≤ 5378346; omega)⟩) (fun E ce q9 h9 H9 locs9 hX G9 hce hcv hcl => hX.elim) (fun r66 h67 H locs hw G => ?_)
      refine W.widen (k := 31 + it28 * 440) (n := 5355 + it28 * 2551) (by omega) (by omega) ?_
      refine lv_iload hx hb dL_law_486 (gh_at hl 1 rfl) ?_
      refine lv_icmp_eq (tgt := 493) hx hb dL_law_488 (by decide) (fun hc => ?_) (fun hc => ?_)
      · replace hw := hw.1 hc
        refine lv_iload hx hb dL_law_493 (gh_at hl 1 rfl) ?_
        refine lv_if_ne (tgt := 510) hx hb dL_law_495 (by decide) (fun hc => ?_) (fun hc => ?_)
        · replace hw := hw.2 hc
          exact wk_L_law_510 M hz0 hr k28 hit28 v0 v1 (some a62) v3 v4 v5 _ _ _ _ G (gh_sub hl [2, 3, 4, 5, 6, 7] rfl) hw
        · replace hw := hw.1 hc
          refine gh_aload_n hx hb dL_law_498 rfl (gh_at hl 5 rfl) ?_
          refine lv_iconst (v := (0 : Int32)) hx hb dL_law_499 (by decide) ?_
          refine gh_jal M G hw dL_law_500 (fun x68 hw => ?_)
          refine lv_iload hx hb dL_law_501 (gh_at hl 0 rfl) ?_
          refine lv_i2l (v := (r63.toInt64)) hx hb dL_law_503 rfl ?_
          refine W.lcmp hx hb dL_law_504 ?_
          refine lv_if_eq (tgt := 510) hx hb dL_law_505 (by decide) (fun hc => ?_) (fun hc => ?_)
          · replace hw := hw.1 hc
            exact wk_L_law_510 M hz0 hr k28 hit28 v0 v1 (some a62) v3 v4 v5 _ _ _ _ G (gh_sub hl [2, 3, 4, 5, 6, 7] rfl) hw
          · replace hw := hw.2 hc
            refine lv_iconst (v := (0 : Int32)) hx hb dL_law_508 (by decide) ?_
            exact gh_lawret M G hz0 hr hw (by omega) (by omega) dL_law_509
      · replace hw := hw.2 hc
        refine lv_iconst (v := (0 : Int32)) hx hb dL_law_491 (by decide) ?_
        exact gh_lawret M G hz0 hr hw (by omega) (by omega) dL_law_492
    by_cases hc6 : (x2 &&& (31 : Int32)) = (6 : Int32)
    · replace hw := hw.2.2.2.2.2.2.1 hc6
      refine lv_tableIn (tgt := 513) hx hb dL_law_44 (by rw [hc6]; decide) (by rw [hc6]; decide) (by rw [hc6]; rfl) (by decide) ?_
      refine gh_aload_n hx hb dL_law_513 rfl (gh_at hl 1 rfl) ?_
      refine gh_aload_n hx hb dL_law_514 rfl (gh_at hl 0 rfl) ?_
      refine lv_iload hx hb dL_law_515 (gh_at hl 5 rfl) ?_
      refine lv_iconst (v := (1 : Int32)) hx hb dL_law_517 (by decide) ?_
      refine lv_iadd hx hb dL_law_518 ?_
      refine gh_ial M G hw dL_law_519 (fun x69 hw => ?_)
      refine gh_aload_n hx hb dL_law_520 rfl (gh_at hl 3 rfl) ?_
      refine gh_ki G (vx_runSX M.1 (met_X0_pages l D _ _ _ _ _ _ _ hw M.2.2.2.2.2) (vx_cwSW 3 (gh_Mts M) (lw_SW q795 q796 q40 q797) rfl rfl rfl ⟨by decide, by decide, rfl⟩ ⟨Nat.le_of_ble_eq_true rfl, Nat.le_of_ble_eq_true rfl⟩) (gh_pre M G (As := [va_rf v1, .int x69, va_rf v3])) rfl rfl hl.1.1 rfl (lv_room (Nat.le_of_ble_eq_true rfl)) dL_law_521 ⟨(by show _ ≤ 1203072; omega), (by show _ ≤ 5378346; omega)⟩) (fun E ce q9 h9 H9 locs9 hX G9 hce hcv hcl => hX.elim) (fun r70 h71 H locs hw G => ?_)
      refine W.widen (k := 28 + it28 * 440) (n := 5263 + it28 * 2551) (by omega) (by omega) ?_
      refine gh_istore (lv' := [(6, 1, .int r70), (0, 1, va_rf v0), (1, 1, va_rf v1), (2, 1, va_rf v2), (3, 1, va_rf v3), (4, 1, va_rf v4), (5, 1, .int v5)]) hx hb dL_law_524 hl (by decide) rfl (fun ls hl => ?_)
      refine gh_aload_n hx hb dL_law_526 rfl (gh_at hl 3 rfl) ?_
      refine gh_aload_n hx hb dL_law_527 rfl (gh_at hl 1 rfl) ?_
      refine lv_iload hx hb dL_law_528 (gh_at hl 6 rfl) ?_
      refine lv_iconst (v := (1 : Int32)) hx hb dL_law_530 (by decide) ?_
      refine lv_iadd hx hb dL_law_531 ?_
      refine gh_ial M G hw dL_law_532 (fun x72 hw => ?_)
      obtain ⟨a73, lba73, fsa73, rfl, haa73, hw⟩ := hw
      refine gh_ki G (vx_runV M.1 (met_X3_pages l D _ _ _ _ _ _ hw M.2.2.2.2.2) (cwV 1 (gh_Mts M) (lw_V q1716 q1717 q1718 q50 q1719) rfl rfl rfl ⟨rfl, by decide, by decide, rfl⟩ ⟨Nat.le_of_ble_eq_true rfl, Nat.le_of_ble_eq_true rfl⟩) (gh_preV (As := [.int x72]) M G (gh_rec M G haa73 rfl)) rfl rfl hl.1.1 rfl (lv_room (Nat.le_of_ble_eq_true rfl)) dL_law_533 ⟨(by show _ ≤ 1203072; omega), (by show _ ≤ 5378346; omega)⟩) (fun E ce q9 h9 H9 locs9 hX G9 hce hcv hcl => hX.elim) (fun r74 h75 H locs hw G => ?_)
      refine W.widen (k := 28 + it28 * 440) (n := 5263 + it28 * 2551) (by omega) (by omega) ?_
      refine gh_istore (lv' := [(7, 1, .int r74), (6, 1, .int r70), (0, 1, va_rf v0), (1, 1, va_rf v1), (2, 1, va_rf (some a73)), (3, 1, va_rf v3), (4, 1, va_rf v4), (5, 1, .int v5)]) hx hb dL_law_536 hl (by decide) rfl (fun ls hl => ?_)
      refine gh_aload_n hx hb dL_law_538 rfl (gh_at hl 4 rfl) ?_
      obtain ⟨a76, lba76, fsa76, hra76, haa76, hw⟩ := hw
      rw [← Option.some.inj hra76] at haa76
      refine gh_ki G (vx_runV M.1 (met_X3_thrown l D _ _ _ _ _ hw M.2.2.2.2.2) (cwV 0 (gh_Mts M) (lw_V q1649 q1650 q1651 q50 q1652) rfl rfl rfl ⟨rfl, by decide, by decide, rfl⟩ ⟨Nat.le_of_ble_eq_true rfl, Nat.le_of_ble_eq_true rfl⟩) (gh_preV (As := []) M G (gh_rec M G haa76 rfl)) rfl rfl hl.1.1 rfl (lv_room (Nat.le_of_ble_eq_true rfl)) dL_law_539 ⟨(by show _ ≤ 1203072; omega), (by show _ ≤ 5378346; omega)⟩) (fun E ce q9 h9 H9 locs9 hX G9 hce hcv hcl => hX.elim) (fun r77 h78 H locs hw G => ?_)
      refine W.widen (k := 28 + it28 * 440) (n := 5263 + it28 * 2551) (by omega) (by omega) ?_
      refine lv_iload hx hb dL_law_542 (gh_at hl 1 rfl) ?_
      refine lv_icmp_eq (tgt := 549) hx hb dL_law_544 (by decide) (fun hc => ?_) (fun hc => ?_)
      · replace hw := hw.1 hc
        refine lv_iload hx hb dL_law_549 (gh_at hl 1 rfl) ?_
        refine lv_if_ne (tgt := 566) hx hb dL_law_551 (by decide) (fun hc => ?_) (fun hc => ?_)
        · replace hw := hw.2 hc
          exact wk_L_law_566 M hz0 hr k28 hit28 v0 v1 (some a73) v3 v4 v5 _ _ _ _ G (gh_sub hl [2, 3, 4, 5, 6, 7] rfl) hw
        · replace hw := hw.1 hc
          refine gh_aload_n hx hb dL_law_554 rfl (gh_at hl 5 rfl) ?_
          refine lv_iconst (v := (0 : Int32)) hx hb dL_law_555 (by decide) ?_
          refine gh_jal M G hw dL_law_556 (fun x79 hw => ?_)
          refine lv_iload hx hb dL_law_557 (gh_at hl 0 rfl) ?_
          refine lv_i2l (v := (r74.toInt64)) hx hb dL_law_559 rfl ?_
          refine W.lcmp hx hb dL_law_560 ?_
          refine lv_if_eq (tgt := 566) hx hb dL_law_561 (by decide) (fun hc => ?_) (fun hc => ?_)
          · replace hw := hw.1 hc
            exact wk_L_law_566 M hz0 hr k28 hit28 v0 v1 (some a73) v3 v4 v5 _ _ _ _ G (gh_sub hl [2, 3, 4, 5, 6, 7] rfl) hw
          · replace hw := hw.2 hc
            refine lv_iconst (v := (0 : Int32)) hx hb dL_law_564 (by decide) ?_
            exact gh_lawret M G hz0 hr hw (by omega) (by omega) dL_law_565
      · replace hw := hw.2 hc
        refine lv_iconst (v := (0 : Int32)) hx hb dL_law_547 (by decide) ?_
        exact gh_lawret M G hz0 hr hw (by omega) (by omega) dL_law_548
    by_cases hc7 : (x2 &&& (31 : Int32)) = (7 : Int32)
    · replace hw := hw.2.2.2.2.2.2.2.1 hc7
      refine lv_tableIn (tgt := 569) hx hb dL_law_44 (by rw [hc7]; decide) (by rw [hc7]; decide) (by rw [hc7]; rfl) (by decide) ?_
      refine gh_aload_n hx hb dL_law_569 rfl (gh_at hl 1 rfl) ?_
      refine gh_aload_n hx hb dL_law_570 rfl (gh_at hl 0 rfl) ?_
      refine lv_iload hx hb dL_law_571 (gh_at hl 5 rfl) ?_
      refine lv_iconst (v := (1 : Int32)) hx hb dL_law_573 (by decide) ?_
      refine lv_iadd hx hb dL_law_574 ?_
      refine gh_ial M G hw dL_law_575 (fun x80 hw => ?_)
      refine gh_aload_n hx hb dL_law_576 rfl (gh_at hl 3 rfl) ?_
      refine gh_ki G (vx_runSX M.1 (met_X0_sheets l D _ _ _ _ _ _ _ hw M.2.2.2.2.2) (vx_cwSW 3 (gh_Mts M) (lw_SW q802 q803 q40 q804) rfl rfl rfl ⟨by decide, by decide, rfl⟩ ⟨Nat.le_of_ble_eq_true rfl, Nat.le_of_ble_eq_true rfl⟩) (gh_pre M G (As := [va_rf v1, .int x80, va_rf v3])) rfl rfl hl.1.1 rfl (lv_room (Nat.le_of_ble_eq_true rfl)) dL_law_577 ⟨(by show _ ≤ 1203072; omega), (by show _ ≤ 5378346; omega)⟩) (fun E ce q9 h9 H9 locs9 hX G9 hce hcv hcl => hX.elim) (fun r81 h82 H locs hw G => ?_)
      refine W.widen (k := 29 + it28 * 440) (n := 5269 + it28 * 2551) (by omega) (by omega) ?_
      refine gh_istore (lv' := [(6, 1, .int r81), (0, 1, va_rf v0), (1, 1, va_rf v1), (2, 1, va_rf v2), (3, 1, va_rf v3), (4, 1, va_rf v4), (5, 1, .int v5)]) hx hb dL_law_580 hl (by decide) rfl (fun ls hl => ?_)
      refine gh_aload_n hx hb dL_law_582 rfl (gh_at hl 3 rfl) ?_
      refine gh_aload_n hx hb dL_law_583 rfl (gh_at hl 1 rfl) ?_
      refine lv_iload hx hb dL_law_584 (gh_at hl 6 rfl) ?_
      refine lv_iconst (v := (1 : Int32)) hx hb dL_law_586 (by decide) ?_
      refine lv_iadd hx hb dL_law_587 ?_
      refine gh_ial M G hw dL_law_588 (fun x83 hw => ?_)
      obtain ⟨a84, lba84, fsa84, rfl, haa84, hw⟩ := hw
      refine gh_ki G (vx_runV M.1 (met_X3_sheets l D _ _ _ _ _ _ hw M.2.2.2.2.2) (cwV 1 (gh_Mts M) (lw_V q1720 q1721 q1722 q50 q1723) rfl rfl rfl ⟨rfl, by decide, by decide, rfl⟩ ⟨Nat.le_of_ble_eq_true rfl, Nat.le_of_ble_eq_true rfl⟩) (gh_preV (As := [.int x83]) M G (gh_rec M G haa84 rfl)) rfl rfl hl.1.1 rfl (lv_room (Nat.le_of_ble_eq_true rfl)) dL_law_589 ⟨(by show _ ≤ 1203072; omega), (by show _ ≤ 5378346; omega)⟩) (fun E ce q9 h9 H9 locs9 hX G9 hce hcv hcl => hX.elim) (fun r85 h86 H locs hw G => ?_)
      refine W.widen (k := 29 + it28 * 440) (n := 5269 + it28 * 2551) (by omega) (by omega) ?_
      refine gh_istore (lv' := [(7, 1, .int r85), (6, 1, .int r81), (0, 1, va_rf v0), (1, 1, va_rf v1), (2, 1, va_rf (some a84)), (3, 1, va_rf v3), (4, 1, va_rf v4), (5, 1, .int v5)]) hx hb dL_law_592 hl (by decide) rfl (fun ls hl => ?_)
      refine gh_aload_n hx hb dL_law_594 rfl (gh_at hl 4 rfl) ?_
      obtain ⟨a87, lba87, fsa87, hra87, haa87, hw⟩ := hw
      rw [← Option.some.inj hra87] at haa87
      refine gh_ki G (vx_runV M.1 (met_X3_thrown l D _ _ _ _ _ hw M.2.2.2.2.2) (cwV 0 (gh_Mts M) (lw_V q1649 q1650 q1651 q50 q1652) rfl rfl rfl ⟨rfl, by decide, by decide, rfl⟩ ⟨Nat.le_of_ble_eq_true rfl, Nat.le_of_ble_eq_true rfl⟩) (gh_preV (As := []) M G (gh_rec M G haa87 rfl)) rfl rfl hl.1.1 rfl (lv_room (Nat.le_of_ble_eq_true rfl)) dL_law_595 ⟨(by show _ ≤ 1203072; omega), (by show _ ≤ 5378346; omega)⟩) (fun E ce q9 h9 H9 locs9 hX G9 hce hcv hcl => hX.elim) (fun r88 h89 H locs hw G => ?_)
      refine W.widen (k := 29 + it28 * 440) (n := 5269 + it28 * 2551) (by omega) (by omega) ?_
      refine lv_iload hx hb dL_law_598 (gh_at hl 1 rfl) ?_
      refine lv_icmp_eq (tgt := 605) hx hb dL_law_600 (by decide) (fun hc => ?_) (fun hc => ?_)
      · replace hw := hw.1 hc
        refine lv_iload hx hb dL_law_605 (gh_at hl 1 rfl) ?_
        refine lv_if_ne (tgt := 622) hx hb dL_law_607 (by decide) (fun hc => ?_) (fun hc => ?_)
        · replace hw := hw.2 hc
          exact wk_L_law_622 M hz0 hr k28 hit28 v0 v1 (some a84) v3 v4 v5 _ _ _ _ G (gh_sub hl [2, 3, 4, 5, 6, 7] rfl) hw
        · replace hw := hw.1 hc
          refine gh_aload_n hx hb dL_law_610 rfl (gh_at hl 5 rfl) ?_
          refine lv_iconst (v := (0 : Int32)) hx hb dL_law_611 (by decide) ?_
          refine gh_jal M G hw dL_law_612 (fun x90 hw => ?_)
          refine lv_iload hx hb dL_law_613 (gh_at hl 0 rfl) ?_
          refine lv_i2l (v := (r85.toInt64)) hx hb dL_law_615 rfl ?_
          refine W.lcmp hx hb dL_law_616 ?_
          refine lv_if_eq (tgt := 622) hx hb dL_law_617 (by decide) (fun hc => ?_) (fun hc => ?_)
          · replace hw := hw.1 hc
            exact wk_L_law_622 M hz0 hr k28 hit28 v0 v1 (some a84) v3 v4 v5 _ _ _ _ G (gh_sub hl [2, 3, 4, 5, 6, 7] rfl) hw
          · replace hw := hw.2 hc
            refine lv_iconst (v := (0 : Int32)) hx hb dL_law_620 (by decide) ?_
            exact gh_lawret M G hz0 hr hw (by omega) (by omega) dL_law_621
      · replace hw := hw.2 hc
        refine lv_iconst (v := (0 : Int32)) hx hb dL_law_603 (by decide) ?_
        exact gh_lawret M G hz0 hr hw (by omega) (by omega) dL_law_604
    by_cases hc8 : (x2 &&& (31 : Int32)) = (8 : Int32)
    · replace hw := hw.2.2.2.2.2.2.2.2.1 hc8
      refine lv_tableIn (tgt := 625) hx hb dL_law_44 (by rw [hc8]; decide) (by rw [hc8]; decide) (by rw [hc8]; rfl) (by decide) ?_
      refine gh_aload_n hx hb dL_law_625 rfl (gh_at hl 1 rfl) ?_
      refine gh_aload_n hx hb dL_law_626 rfl (gh_at hl 0 rfl) ?_
      refine lv_iload hx hb dL_law_627 (gh_at hl 5 rfl) ?_
      refine lv_iconst (v := (1 : Int32)) hx hb dL_law_629 (by decide) ?_
      refine lv_iadd hx hb dL_law_630 ?_
      refine gh_ial M G hw dL_law_631 (fun x91 hw => ?_)
      refine gh_aload_n hx hb dL_law_632 rfl (gh_at hl 0 rfl) ?_
      refine lv_iload hx hb dL_law_633 (gh_at hl 5 rfl) ?_
      refine lv_iconst (v := (2 : Int32)) hx hb dL_law_635 (by decide) ?_
      refine lv_iadd hx hb dL_law_636 ?_
      refine gh_ial M G hw dL_law_637 (fun x92 hw => ?_)
      refine gh_aload_n hx hb dL_law_638 rfl (gh_at hl 0 rfl) ?_
      refine lv_iload hx hb dL_law_639 (gh_at hl 5 rfl) ?_
      refine lv_iconst (v := (3 : Int32)) hx hb dL_law_641 (by decide) ?_
      refine lv_iadd hx hb dL_law_642 ?_
      refine gh_ial M G hw dL_law_643 (fun x93 hw => ?_)
      refine gh_aload_n hx hb dL_law_644 rfl (gh_at hl 3 rfl) ?_
      refine gh_ki G (vx_runSX M.1 (met_X0_pageAt l D _ _ _ _ _ _ _ _ _ hw M.2.2.2.2.2) (vx_cwSW 5 (gh_Mts M) (lw_SW q815 q816 q40 q817) rfl rfl rfl ⟨by decide, by decide, rfl⟩ ⟨Nat.le_of_ble_eq_true rfl, Nat.le_of_ble_eq_true rfl⟩) (gh_pre M G (As := [va_rf v1, .int x91, .int x92, .int x93, va_rf v3])) rfl rfl hl.1.1 rfl (lv_room (Nat.le_of_ble_eq_true rfl)) dL_law_645 ⟨(by show _ ≤ 1203072; omega), (by show _ ≤ 5378346; omega)⟩) (fun E ce q9 h9 H9 locs9 hX G9 hce hcv hcl => hX.elim) (fun r94 h95 H locs hw G => ?_)
      refine W.widen (k := 31 + it28 * 440) (n := 5281 + it28 * 2551) (by omega) (by omega) ?_
      refine gh_istore (lv' := [(6, 1, .int r94), (0, 1, va_rf v0), (1, 1, va_rf v1), (2, 1, va_rf v2), (3, 1, va_rf v3), (4, 1, va_rf v4), (5, 1, .int v5)]) hx hb dL_law_648 hl (by decide) rfl (fun ls hl => ?_)
      refine gh_aload_n hx hb dL_law_650 rfl (gh_at hl 3 rfl) ?_
      refine gh_aload_n hx hb dL_law_651 rfl (gh_at hl 1 rfl) ?_
      refine lv_iload hx hb dL_law_652 (gh_at hl 6 rfl) ?_
      refine lv_iconst (v := (1 : Int32)) hx hb dL_law_654 (by decide) ?_
      refine lv_iadd hx hb dL_law_655 ?_
      refine gh_ial M G hw dL_law_656 (fun x96 hw => ?_)
      refine gh_aload_n hx hb dL_law_657 rfl (gh_at hl 1 rfl) ?_
      refine lv_iload hx hb dL_law_658 (gh_at hl 6 rfl) ?_
      refine lv_iconst (v := (2 : Int32)) hx hb dL_law_660 (by decide) ?_
      refine lv_iadd hx hb dL_law_661 ?_
      refine gh_ial M G hw dL_law_662 (fun x97 hw => ?_)
      refine gh_aload_n hx hb dL_law_663 rfl (gh_at hl 1 rfl) ?_
      refine lv_iload hx hb dL_law_664 (gh_at hl 6 rfl) ?_
      refine lv_iconst (v := (3 : Int32)) hx hb dL_law_666 (by decide) ?_
      refine lv_iadd hx hb dL_law_667 ?_
      refine gh_ial M G hw dL_law_668 (fun x98 hw => ?_)
      obtain ⟨a99, lba99, fsa99, rfl, haa99, hw⟩ := hw
      refine gh_ki G (vx_runV M.1 (met_X3_pageAt l D _ _ _ _ _ _ _ _ hw M.2.2.2.2.2) (cwV 3 (gh_Mts M) (lw_V q1728 q1729 q1730 q50 q1731) rfl rfl rfl ⟨rfl, by decide, by decide, rfl⟩ ⟨Nat.le_of_ble_eq_true rfl, Nat.le_of_ble_eq_true rfl⟩) (gh_preV (As := [.int x96, .int x97, .int x98]) M G (gh_rec M G haa99 rfl)) rfl rfl hl.1.1 rfl (lv_room (Nat.le_of_ble_eq_true rfl)) dL_law_669 ⟨(by show _ ≤ 1203072; omega), (by show _ ≤ 5378346; omega)⟩) (fun E ce q9 h9 H9 locs9 hX G9 hce hcv hcl => hX.elim) (fun r100 h101 H locs hw G => ?_)
      refine W.widen (k := 31 + it28 * 440) (n := 5281 + it28 * 2551) (by omega) (by omega) ?_
      refine gh_istore (lv' := [(7, 1, .int r100), (6, 1, .int r94), (0, 1, va_rf v0), (1, 1, va_rf v1), (2, 1, va_rf (some a99)), (3, 1, va_rf v3), (4, 1, va_rf v4), (5, 1, .int v5)]) hx hb dL_law_672 hl (by decide) rfl (fun ls hl => ?_)
      refine gh_aload_n hx hb dL_law_674 rfl (gh_at hl 4 rfl) ?_
      obtain ⟨a102, lba102, fsa102, hra102, haa102, hw⟩ := hw
      rw [← Option.some.inj hra102] at haa102
      refine gh_ki G (vx_runV M.1 (met_X3_thrown l D _ _ _ _ _ hw M.2.2.2.2.2) (cwV 0 (gh_Mts M) (lw_V q1649 q1650 q1651 q50 q1652) rfl rfl rfl ⟨rfl, by decide, by decide, rfl⟩ ⟨Nat.le_of_ble_eq_true rfl, Nat.le_of_ble_eq_true rfl⟩) (gh_preV (As := []) M G (gh_rec M G haa102 rfl)) rfl rfl hl.1.1 rfl (lv_room (Nat.le_of_ble_eq_true rfl)) dL_law_675 ⟨(by show _ ≤ 1203072; omega), (by show _ ≤ 5378346; omega)⟩) (fun E ce q9 h9 H9 locs9 hX G9 hce hcv hcl => hX.elim) (fun r103 h104 H locs hw G => ?_)
      refine W.widen (k := 31 + it28 * 440) (n := 5281 + it28 * 2551) (by omega) (by omega) ?_
      refine lv_iload hx hb dL_law_678 (gh_at hl 1 rfl) ?_
      refine lv_icmp_eq (tgt := 685) hx hb dL_law_680 (by decide) (fun hc => ?_) (fun hc => ?_)
      · replace hw := hw.1 hc
        refine lv_iload hx hb dL_law_685 (gh_at hl 1 rfl) ?_
        refine lv_if_ne (tgt := 702) hx hb dL_law_687 (by decide) (fun hc => ?_) (fun hc => ?_)
        · replace hw := hw.2 hc
          exact wk_L_law_702 M hz0 hr k28 hit28 v0 v1 (some a99) v3 v4 v5 _ _ _ _ G (gh_sub hl [2, 3, 4, 5, 6, 7] rfl) hw
        · replace hw := hw.1 hc
          refine gh_aload_n hx hb dL_law_690 rfl (gh_at hl 5 rfl) ?_
          refine lv_iconst (v := (0 : Int32)) hx hb dL_law_691 (by decide) ?_
          refine gh_jal M G hw dL_law_692 (fun x105 hw => ?_)
          refine lv_iload hx hb dL_law_693 (gh_at hl 0 rfl) ?_
          refine lv_i2l (v := (r100.toInt64)) hx hb dL_law_695 rfl ?_
          refine W.lcmp hx hb dL_law_696 ?_
          refine lv_if_eq (tgt := 702) hx hb dL_law_697 (by decide) (fun hc => ?_) (fun hc => ?_)
          · replace hw := hw.1 hc
            exact wk_L_law_702 M hz0 hr k28 hit28 v0 v1 (some a99) v3 v4 v5 _ _ _ _ G (gh_sub hl [2, 3, 4, 5, 6, 7] rfl) hw
          · replace hw := hw.2 hc
            refine lv_iconst (v := (0 : Int32)) hx hb dL_law_700 (by decide) ?_
            exact gh_lawret M G hz0 hr hw (by omega) (by omega) dL_law_701
      · replace hw := hw.2 hc
        refine lv_iconst (v := (0 : Int32)) hx hb dL_law_683 (by decide) ?_
        exact gh_lawret M G hz0 hr hw (by omega) (by omega) dL_law_684
    by_cases hc9 : (x2 &&& (31 : Int32)) = (9 : Int32)
    · replace hw := hw.2.2.2.2.2.2.2.2.2.1 hc9
      refine lv_tableIn (tgt := 705) hx hb dL_law_44 (by rw [hc9]; decide) (by rw [hc9]; decide) (by rw [hc9]; rfl) (by decide) ?_
      refine gh_aload_n hx hb dL_law_705 rfl (gh_at hl 1 rfl) ?_
      refine gh_aload_n hx hb dL_law_706 rfl (gh_at hl 0 rfl) ?_
      refine lv_iload hx hb dL_law_707 (gh_at hl 5 rfl) ?_
      refine lv_iconst (v := (1 : Int32)) hx hb dL_law_709 (by decide) ?_
      refine lv_iadd hx hb dL_law_710 ?_
      refine gh_ial M G hw dL_law_711 (fun x106 hw => ?_)
      refine gh_aload_n hx hb dL_law_712 rfl (gh_at hl 0 rfl) ?_
      refine lv_iload hx hb dL_law_713 (gh_at hl 5 rfl) ?_
      refine lv_iconst (v := (2 : Int32)) hx hb dL_law_715 (by decide) ?_
      refine lv_iadd hx hb dL_law_716 ?_
      refine gh_ial M G hw dL_law_717 (fun x107 hw => ?_)
      refine gh_aload_n hx hb dL_law_718 rfl (gh_at hl 3 rfl) ?_
      refine gh_ki G (vx_runSX M.1 (met_X0_sheetOf l D _ _ _ _ _ _ _ _ hw M.2.2.2.2.2) (vx_cwSW 4 (gh_Mts M) (lw_SW q833 q834 q40 q835) rfl rfl rfl ⟨by decide, by decide, rfl⟩ ⟨Nat.le_of_ble_eq_true rfl, Nat.le_of_ble_eq_true rfl⟩) (gh_pre M G (As := [va_rf v1, .int x106, .int x107, va_rf v3])) rfl rfl hl.1.1 rfl (lv_room (Nat.le_of_ble_eq_true rfl)) dL_law_719 ⟨(by show _ ≤ 1203072; omega), (by show _ ≤ 5378346; omega)⟩) (fun E ce q9 h9 H9 locs9 hX G9 hce hcv hcl => hX.elim) (fun r108 h109 H locs hw G => ?_)
      refine W.widen (k := 30 + it28 * 440) (n := 5275 + it28 * 2551) (by omega) (by omega) ?_
      refine gh_istore (lv' := [(6, 1, .int r108), (0, 1, va_rf v0), (1, 1, va_rf v1), (2, 1, va_rf v2), (3, 1, va_rf v3), (4, 1, va_rf v4), (5, 1, .int v5)]) hx hb dL_law_722 hl (by decide) rfl (fun ls hl => ?_)
      refine gh_aload_n hx hb dL_law_724 rfl (gh_at hl 3 rfl) ?_
      refine gh_aload_n hx hb dL_law_725 rfl (gh_at hl 1 rfl) ?_
      refine lv_iload hx hb dL_law_726 (gh_at hl 6 rfl) ?_
      refine lv_iconst (v := (1 : Int32)) hx hb dL_law_728 (by decide) ?_
      refine lv_iadd hx hb dL_law_729 ?_
      refine gh_ial M G hw dL_law_730 (fun x110 hw => ?_)
      refine gh_aload_n hx hb dL_law_731 rfl (gh_at hl 1 rfl) ?_
      refine lv_iload hx hb dL_law_732 (gh_at hl 6 rfl) ?_
      refine lv_iconst (v := (2 : Int32)) hx hb dL_law_734 (by decide) ?_
      refine lv_iadd hx hb dL_law_735 ?_
      refine gh_ial M G hw dL_law_736 (fun x111 hw => ?_)
      obtain ⟨a112, lba112, fsa112, rfl, haa112, hw⟩ := hw
      refine gh_ki G (vx_runV M.1 (met_X3_sheetOf l D _ _ _ _ _ _ _ hw M.2.2.2.2.2) (cwV 2 (gh_Mts M) (lw_V q1736 q1737 q1738 q50 q1739) rfl rfl rfl ⟨rfl, by decide, by decide, rfl⟩ ⟨Nat.le_of_ble_eq_true rfl, Nat.le_of_ble_eq_true rfl⟩) (gh_preV (As := [.int x110, .int x111]) M G (gh_rec M G haa112 rfl)) rfl rfl hl.1.1 rfl (lv_room (Nat.le_of_ble_eq_true rfl)) dL_law_737 ⟨(by show _ ≤ 1203072; omega), (by show _ ≤ 5378346; omega)⟩) (fun E ce q9 h9 H9 locs9 hX G9 hce hcv hcl => hX.elim) (fun r113 h114 H locs hw G => ?_)
      refine W.widen (k := 30 + it28 * 440) (n := 5275 + it28 * 2551) (by omega) (by omega) ?_
      refine gh_istore (lv' := [(7, 1, .int r113), (6, 1, .int r108), (0, 1, va_rf v0), (1, 1, va_rf v1), (2, 1, va_rf (some a112)), (3, 1, va_rf v3), (4, 1, va_rf v4), (5, 1, .int v5)]) hx hb dL_law_740 hl (by decide) rfl (fun ls hl => ?_)
      refine gh_aload_n hx hb dL_law_742 rfl (gh_at hl 4 rfl) ?_
      obtain ⟨a115, lba115, fsa115, hra115, haa115, hw⟩ := hw
      rw [← Option.some.inj hra115] at haa115
      refine gh_ki G (vx_runV M.1 (met_X3_thrown l D _ _ _ _ _ hw M.2.2.2.2.2) (cwV 0 (gh_Mts M) (lw_V q1649 q1650 q1651 q50 q1652) rfl rfl rfl ⟨rfl, by decide, by decide, rfl⟩ ⟨Nat.le_of_ble_eq_true rfl, Nat.le_of_ble_eq_true rfl⟩) (gh_preV (As := []) M G (gh_rec M G haa115 rfl)) rfl rfl hl.1.1 rfl (lv_room (Nat.le_of_ble_eq_true rfl)) dL_law_743 ⟨(by show _ ≤ 1203072; omega), (by show _ ≤ 5378346; omega)⟩) (fun E ce q9 h9 H9 locs9 hX G9 hce hcv hcl => hX.elim) (fun r116 h117 H locs hw G => ?_)
      refine W.widen (k := 30 + it28 * 440) (n := 5275 + it28 * 2551) (by omega) (by omega) ?_
      refine lv_iload hx hb dL_law_746 (gh_at hl 1 rfl) ?_
      refine lv_icmp_eq (tgt := 753) hx hb dL_law_748 (by decide) (fun hc => ?_) (fun hc => ?_)
      · replace hw := hw.1 hc
        refine lv_iload hx hb dL_law_753 (gh_at hl 1 rfl) ?_
        refine lv_if_ne (tgt := 770) hx hb dL_law_755 (by decide) (fun hc => ?_) (fun hc => ?_)
        · replace hw := hw.2 hc
          exact wk_L_law_770 M hz0 hr k28 hit28 v0 v1 (some a112) v3 v4 v5 _ _ _ _ G (gh_sub hl [2, 3, 4, 5, 6, 7] rfl) hw
        · replace hw := hw.1 hc
          refine gh_aload_n hx hb dL_law_758 rfl (gh_at hl 5 rfl) ?_
          refine lv_iconst (v := (0 : Int32)) hx hb dL_law_759 (by decide) ?_
          refine gh_jal M G hw dL_law_760 (fun x118 hw => ?_)
          refine lv_iload hx hb dL_law_761 (gh_at hl 0 rfl) ?_
          refine lv_i2l (v := (r113.toInt64)) hx hb dL_law_763 rfl ?_
          refine W.lcmp hx hb dL_law_764 ?_
          refine lv_if_eq (tgt := 770) hx hb dL_law_765 (by decide) (fun hc => ?_) (fun hc => ?_)
          · replace hw := hw.1 hc
            exact wk_L_law_770 M hz0 hr k28 hit28 v0 v1 (some a112) v3 v4 v5 _ _ _ _ G (gh_sub hl [2, 3, 4, 5, 6, 7] rfl) hw
          · replace hw := hw.2 hc
            refine lv_iconst (v := (0 : Int32)) hx hb dL_law_768 (by decide) ?_
            exact gh_lawret M G hz0 hr hw (by omega) (by omega) dL_law_769
      · replace hw := hw.2 hc
        refine lv_iconst (v := (0 : Int32)) hx hb dL_law_751 (by decide) ?_
        exact gh_lawret M G hz0 hr hw (by omega) (by omega) dL_law_752
    by_cases hc10 : (x2 &&& (31 : Int32)) = (10 : Int32)
    · replace hw := hw.2.2.2.2.2.2.2.2.2.2.1 hc10
      refine lv_tableIn (tgt := 773) hx hb dL_law_44 (by rw [hc10]; decide) (by rw [hc10]; decide) (by rw [hc10]; rfl) (by decide) ?_
      refine gh_aload_n hx hb dL_law_773 rfl (gh_at hl 1 rfl) ?_
      refine gh_aload_n hx hb dL_law_774 rfl (gh_at hl 0 rfl) ?_
      refine lv_iload hx hb dL_law_775 (gh_at hl 5 rfl) ?_
      refine lv_iconst (v := (1 : Int32)) hx hb dL_law_777 (by decide) ?_
      refine lv_iadd hx hb dL_law_778 ?_
      refine gh_ial M G hw dL_law_779 (fun x119 hw => ?_)
      refine gh_aload_n hx hb dL_law_780 rfl (gh_at hl 0 rfl) ?_
      refine lv_iload hx hb dL_law_781 (gh_at hl 5 rfl) ?_
      refine lv_iconst (v := (2 : Int32)) hx hb dL_law_783 (by decide) ?_
      refine lv_iadd hx hb dL_law_784 ?_
      refine gh_ial M G hw dL_law_785 (fun x120 hw => ?_)
      refine gh_aload_n hx hb dL_law_786 rfl (gh_at hl 0 rfl) ?_
      refine lv_iload hx hb dL_law_787 (gh_at hl 5 rfl) ?_
      refine lv_iconst (v := (3 : Int32)) hx hb dL_law_789 (by decide) ?_
      refine lv_iadd hx hb dL_law_790 ?_
      refine gh_ial M G hw dL_law_791 (fun x121 hw => ?_)
      refine gh_aload_n hx hb dL_law_792 rfl (gh_at hl 3 rfl) ?_
      refine gh_ki G (vx_runSX M.1 (met_X0_print l D _ _ _ _ _ _ _ _ _ hw M.2.2.2.2.2) (vx_cwSW 5 (gh_Mts M) (lw_SW q840 q841 q40 q842) rfl rfl rfl ⟨by decide, by decide, rfl⟩ ⟨Nat.le_of_ble_eq_true rfl, Nat.le_of_ble_eq_true rfl⟩) (gh_pre M G (As := [va_rf v1, .int x119, .int x120, .int x121, va_rf v3])) rfl rfl hl.1.1 rfl (lv_room (Nat.le_of_ble_eq_true rfl)) dL_law_793 ⟨(by show _ ≤ 1203072; omega), (by show _ ≤ 5378346; omega)⟩) (fun E ce q9 h9 H9 locs9 hX G9 hce hcv hcl => hX.elim) (fun r122 h123 H locs hw G => ?_)
      refine W.widen (k := 38 + it28 * 440) (n := 5308 + it28 * 2551) (by omega) (by omega) ?_
      refine gh_istore (lv' := [(6, 1, .int r122), (0, 1, va_rf v0), (1, 1, va_rf v1), (2, 1, va_rf v2), (3, 1, va_rf v3), (4, 1, va_rf v4), (5, 1, .int v5)]) hx hb dL_law_796 hl (by decide) rfl (fun ls hl => ?_)
      refine gh_aload_n hx hb dL_law_798 rfl (gh_at hl 3 rfl) ?_
      refine gh_aload_n hx hb dL_law_799 rfl (gh_at hl 1 rfl) ?_
      refine lv_iload hx hb dL_law_800 (gh_at hl 6 rfl) ?_
      refine lv_iconst (v := (1 : Int32)) hx hb dL_law_802 (by decide) ?_
      refine lv_iadd hx hb dL_law_803 ?_
      refine gh_ial M G hw dL_law_804 (fun x124 hw => ?_)
      refine gh_aload_n hx hb dL_law_805 rfl (gh_at hl 1 rfl) ?_
      refine lv_iload hx hb dL_law_806 (gh_at hl 6 rfl) ?_
      refine lv_iconst (v := (2 : Int32)) hx hb dL_law_808 (by decide) ?_
      refine lv_iadd hx hb dL_law_809 ?_
      refine gh_ial M G hw dL_law_810 (fun x125 hw => ?_)
      refine gh_aload_n hx hb dL_law_811 rfl (gh_at hl 1 rfl) ?_
      refine lv_iload hx hb dL_law_812 (gh_at hl 6 rfl) ?_
      refine lv_iconst (v := (3 : Int32)) hx hb dL_law_814 (by decide) ?_
      refine lv_iadd hx hb dL_law_815 ?_
      refine gh_ial M G hw dL_law_816 (fun x126 hw => ?_)
      obtain ⟨a127, lba127, fsa127, rfl, haa127, hw⟩ := hw
      refine gh_ki G (vx_runV M.1 (met_X3_print l D _ _ _ _ _ _ _ _ hw M.2.2.2.2.2) (cwV 3 (gh_Mts M) (lw_V q1740 q1741 q1742 q50 q1743) rfl rfl rfl ⟨rfl, by decide, by decide, rfl⟩ ⟨Nat.le_of_ble_eq_true rfl, Nat.le_of_ble_eq_true rfl⟩) (gh_preV (As := [.int x124, .int x125, .int x126]) M G (gh_rec M G haa127 rfl)) rfl rfl hl.1.1 rfl (lv_room (Nat.le_of_ble_eq_true rfl)) dL_law_817 ⟨(by show _ ≤ 1203072; omega), (by show _ ≤ 5378346; omega)⟩) (fun E ce q9 h9 H9 locs9 hX G9 hce hcv hcl => hX.elim) (fun r128 h129 H locs hw G => ?_)
      refine W.widen (k := 38 + it28 * 440) (n := 5308 + it28 * 2551) (by omega) (by omega) ?_
      refine gh_istore (lv' := [(7, 1, .int r128), (6, 1, .int r122), (0, 1, va_rf v0), (1, 1, va_rf v1), (2, 1, va_rf (some a127)), (3, 1, va_rf v3), (4, 1, va_rf v4), (5, 1, .int v5)]) hx hb dL_law_820 hl (by decide) rfl (fun ls hl => ?_)
      refine gh_aload_n hx hb dL_law_822 rfl (gh_at hl 4 rfl) ?_
      obtain ⟨a130, lba130, fsa130, hra130, haa130, hw⟩ := hw
      rw [← Option.some.inj hra130] at haa130
      refine gh_ki G (vx_runV M.1 (met_X3_thrown l D _ _ _ _ _ hw M.2.2.2.2.2) (cwV 0 (gh_Mts M) (lw_V q1649 q1650 q1651 q50 q1652) rfl rfl rfl ⟨rfl, by decide, by decide, rfl⟩ ⟨Nat.le_of_ble_eq_true rfl, Nat.le_of_ble_eq_true rfl⟩) (gh_preV (As := []) M G (gh_rec M G haa130 rfl)) rfl rfl hl.1.1 rfl (lv_room (Nat.le_of_ble_eq_true rfl)) dL_law_823 ⟨(by show _ ≤ 1203072; omega), (by show _ ≤ 5378346; omega)⟩) (fun E ce q9 h9 H9 locs9 hX G9 hce hcv hcl => hX.elim) (fun r131 h132 H locs hw G => ?_)
      refine W.widen (k := 38 + it28 * 440) (n := 5308 + it28 * 2551) (by omega) (by omega) ?_
      refine lv_iload hx hb dL_law_826 (gh_at hl 1 rfl) ?_
      refine lv_icmp_eq (tgt := 833) hx hb dL_law_828 (by decide) (fun hc => ?_) (fun hc => ?_)
      · replace hw := hw.1 hc
        refine lv_iload hx hb dL_law_833 (gh_at hl 1 rfl) ?_
        refine lv_if_ne (tgt := 850) hx hb dL_law_835 (by decide) (fun hc => ?_) (fun hc => ?_)
        · replace hw := hw.2 hc
          exact wk_L_law_850 M hz0 hr k28 hit28 v0 v1 (some a127) v3 v4 v5 _ _ _ _ G (gh_sub hl [2, 3, 4, 5, 6, 7] rfl) hw
        · replace hw := hw.1 hc
          refine gh_aload_n hx hb dL_law_838 rfl (gh_at hl 5 rfl) ?_
          refine lv_iconst (v := (0 : Int32)) hx hb dL_law_839 (by decide) ?_
          refine gh_jal M G hw dL_law_840 (fun x133 hw => ?_)
          refine lv_iload hx hb dL_law_841 (gh_at hl 0 rfl) ?_
          refine lv_i2l (v := (r128.toInt64)) hx hb dL_law_843 rfl ?_
          refine W.lcmp hx hb dL_law_844 ?_
          refine lv_if_eq (tgt := 850) hx hb dL_law_845 (by decide) (fun hc => ?_) (fun hc => ?_)
          · replace hw := hw.1 hc
            exact wk_L_law_850 M hz0 hr k28 hit28 v0 v1 (some a127) v3 v4 v5 _ _ _ _ G (gh_sub hl [2, 3, 4, 5, 6, 7] rfl) hw
          · replace hw := hw.2 hc
            refine lv_iconst (v := (0 : Int32)) hx hb dL_law_848 (by decide) ?_
            exact gh_lawret M G hz0 hr hw (by omega) (by omega) dL_law_849
      · replace hw := hw.2 hc
        refine lv_iconst (v := (0 : Int32)) hx hb dL_law_831 (by decide) ?_
        exact gh_lawret M G hz0 hr hw (by omega) (by omega) dL_law_832
    by_cases hc11 : (x2 &&& (31 : Int32)) = (11 : Int32)
    · replace hw := hw.2.2.2.2.2.2.2.2.2.2.2.1 hc11
      refine lv_tableIn (tgt := 853) hx hb dL_law_44 (by rw [hc11]; decide) (by rw [hc11]; decide) (by rw [hc11]; rfl) (by decide) ?_
      refine gh_aload_n hx hb dL_law_853 rfl (gh_at hl 1 rfl) ?_
      refine gh_aload_n hx hb dL_law_854 rfl (gh_at hl 0 rfl) ?_
      refine lv_iload hx hb dL_law_855 (gh_at hl 5 rfl) ?_
      refine lv_iconst (v := (1 : Int32)) hx hb dL_law_857 (by decide) ?_
      refine lv_iadd hx hb dL_law_858 ?_
      refine gh_ial M G hw dL_law_859 (fun x134 hw => ?_)
      refine gh_aload_n hx hb dL_law_860 rfl (gh_at hl 0 rfl) ?_
      refine lv_iload hx hb dL_law_861 (gh_at hl 5 rfl) ?_
      refine lv_iconst (v := (2 : Int32)) hx hb dL_law_863 (by decide) ?_
      refine lv_iadd hx hb dL_law_864 ?_
      refine gh_ial M G hw dL_law_865 (fun x135 hw => ?_)
      refine gh_aload_n hx hb dL_law_866 rfl (gh_at hl 3 rfl) ?_
      refine gh_ki G (vx_runSX M.1 (met_X0_makeready l D _ _ _ _ _ _ _ _ hw M.2.2.2.2.2) (vx_cwSW 4 (gh_Mts M) (lw_SW q1070 q1071 q40 q1072) rfl rfl rfl ⟨by decide, by decide, rfl⟩ ⟨Nat.le_of_ble_eq_true rfl, Nat.le_of_ble_eq_true rfl⟩) (gh_pre M G (As := [va_rf v1, .int x134, .int x135, va_rf v3])) rfl rfl hl.1.1 rfl (lv_room (Nat.le_of_ble_eq_true rfl)) dL_law_867 ⟨(by show _ ≤ 1203072; omega), (by show _ ≤ 5378346; omega)⟩) (fun E ce q9 h9 H9 locs9 hX G9 hce hcv hcl => hX.elim) (fun r136 h137 H locs hw G => ?_)
      refine W.widen (k := 30 + it28 * 440) (n := 5275 + it28 * 2551) (by omega) (by omega) ?_
      refine gh_istore (lv' := [(6, 1, .int r136), (0, 1, va_rf v0), (1, 1, va_rf v1), (2, 1, va_rf v2), (3, 1, va_rf v3), (4, 1, va_rf v4), (5, 1, .int v5)]) hx hb dL_law_870 hl (by decide) rfl (fun ls hl => ?_)
      refine gh_aload_n hx hb dL_law_872 rfl (gh_at hl 3 rfl) ?_
      refine gh_aload_n hx hb dL_law_873 rfl (gh_at hl 1 rfl) ?_
      refine lv_iload hx hb dL_law_874 (gh_at hl 6 rfl) ?_
      refine lv_iconst (v := (1 : Int32)) hx hb dL_law_876 (by decide) ?_
      refine lv_iadd hx hb dL_law_877 ?_
      refine gh_ial M G hw dL_law_878 (fun x138 hw => ?_)
      refine gh_aload_n hx hb dL_law_879 rfl (gh_at hl 1 rfl) ?_
      refine lv_iload hx hb dL_law_880 (gh_at hl 6 rfl) ?_
      refine lv_iconst (v := (2 : Int32)) hx hb dL_law_882 (by decide) ?_
      refine lv_iadd hx hb dL_law_883 ?_
      refine gh_ial M G hw dL_law_884 (fun x139 hw => ?_)
      obtain ⟨a140, lba140, fsa140, rfl, haa140, hw⟩ := hw
      refine gh_ki G (vx_runV M.1 (met_X3_makeready l D _ _ _ _ _ _ _ hw M.2.2.2.2.2) (cwV 2 (gh_Mts M) (lw_V q1764 q1765 q1766 q50 q1767) rfl rfl rfl ⟨rfl, by decide, by decide, rfl⟩ ⟨Nat.le_of_ble_eq_true rfl, Nat.le_of_ble_eq_true rfl⟩) (gh_preV (As := [.int x138, .int x139]) M G (gh_rec M G haa140 rfl)) rfl rfl hl.1.1 rfl (lv_room (Nat.le_of_ble_eq_true rfl)) dL_law_885 ⟨(by show _ ≤ 1203072; omega), (by show _ ≤ 5378346; omega)⟩) (fun E ce q9 h9 H9 locs9 hX G9 hce hcv hcl => hX.elim) (fun r141 h142 H locs hw G => ?_)
      refine W.widen (k := 30 + it28 * 440) (n := 5275 + it28 * 2551) (by omega) (by omega) ?_
      refine gh_istore (lv' := [(7, 1, .int r141), (6, 1, .int r136), (0, 1, va_rf v0), (1, 1, va_rf v1), (2, 1, va_rf (some a140)), (3, 1, va_rf v3), (4, 1, va_rf v4), (5, 1, .int v5)]) hx hb dL_law_888 hl (by decide) rfl (fun ls hl => ?_)
      refine gh_aload_n hx hb dL_law_890 rfl (gh_at hl 4 rfl) ?_
      obtain ⟨a143, lba143, fsa143, hra143, haa143, hw⟩ := hw
      rw [← Option.some.inj hra143] at haa143
      refine gh_ki G (vx_runV M.1 (met_X3_thrown l D _ _ _ _ _ hw M.2.2.2.2.2) (cwV 0 (gh_Mts M) (lw_V q1649 q1650 q1651 q50 q1652) rfl rfl rfl ⟨rfl, by decide, by decide, rfl⟩ ⟨Nat.le_of_ble_eq_true rfl, Nat.le_of_ble_eq_true rfl⟩) (gh_preV (As := []) M G (gh_rec M G haa143 rfl)) rfl rfl hl.1.1 rfl (lv_room (Nat.le_of_ble_eq_true rfl)) dL_law_891 ⟨(by show _ ≤ 1203072; omega), (by show _ ≤ 5378346; omega)⟩) (fun E ce q9 h9 H9 locs9 hX G9 hce hcv hcl => hX.elim) (fun r144 h145 H locs hw G => ?_)
      refine W.widen (k := 30 + it28 * 440) (n := 5275 + it28 * 2551) (by omega) (by omega) ?_
      refine lv_iload hx hb dL_law_894 (gh_at hl 1 rfl) ?_
      refine lv_icmp_eq (tgt := 901) hx hb dL_law_896 (by decide) (fun hc => ?_) (fun hc => ?_)
      · replace hw := hw.1 hc
        refine lv_iload hx hb dL_law_901 (gh_at hl 1 rfl) ?_
        refine lv_if_ne (tgt := 918) hx hb dL_law_903 (by decide) (fun hc => ?_) (fun hc => ?_)
        · replace hw := hw.2 hc
          exact wk_L_law_918 M hz0 hr k28 hit28 v0 v1 (some a140) v3 v4 v5 _ _ _ _ G (gh_sub hl [2, 3, 4, 5, 6, 7] rfl) hw
        · replace hw := hw.1 hc
          refine gh_aload_n hx hb dL_law_906 rfl (gh_at hl 5 rfl) ?_
          refine lv_iconst (v := (0 : Int32)) hx hb dL_law_907 (by decide) ?_
          refine gh_jal M G hw dL_law_908 (fun x146 hw => ?_)
          refine lv_iload hx hb dL_law_909 (gh_at hl 0 rfl) ?_
          refine lv_i2l (v := (r141.toInt64)) hx hb dL_law_911 rfl ?_
          refine W.lcmp hx hb dL_law_912 ?_
          refine lv_if_eq (tgt := 918) hx hb dL_law_913 (by decide) (fun hc => ?_) (fun hc => ?_)
          · replace hw := hw.1 hc
            exact wk_L_law_918 M hz0 hr k28 hit28 v0 v1 (some a140) v3 v4 v5 _ _ _ _ G (gh_sub hl [2, 3, 4, 5, 6, 7] rfl) hw
          · replace hw := hw.2 hc
            refine lv_iconst (v := (0 : Int32)) hx hb dL_law_916 (by decide) ?_
            exact gh_lawret M G hz0 hr hw (by omega) (by omega) dL_law_917
      · replace hw := hw.2 hc
        refine lv_iconst (v := (0 : Int32)) hx hb dL_law_899 (by decide) ?_
        exact gh_lawret M G hz0 hr hw (by omega) (by omega) dL_law_900
    by_cases hc12 : (x2 &&& (31 : Int32)) = (12 : Int32)
    · replace hw := hw.2.2.2.2.2.2.2.2.2.2.2.2.1 hc12
      refine lv_tableIn (tgt := 921) hx hb dL_law_44 (by rw [hc12]; decide) (by rw [hc12]; decide) (by rw [hc12]; rfl) (by decide) ?_
      refine gh_aload_n hx hb dL_law_921 rfl (gh_at hl 1 rfl) ?_
      refine gh_aload_n hx hb dL_law_922 rfl (gh_at hl 0 rfl) ?_
      refine lv_iload hx hb dL_law_923 (gh_at hl 5 rfl) ?_
      refine lv_iconst (v := (1 : Int32)) hx hb dL_law_925 (by decide) ?_
      refine lv_iadd hx hb dL_law_926 ?_
      refine gh_ial M G hw dL_law_927 (fun x147 hw => ?_)
      refine gh_aload_n hx hb dL_law_928 rfl (gh_at hl 3 rfl) ?_
      refine gh_ki G (vx_runSX M.1 (met_X0_leastMakeready l D _ _ _ _ _ _ _ hw M.2.2.2.2.2) (vx_cwSW 3 (gh_Mts M) (lw_SW q1077 q1078 q40 q1079) rfl rfl rfl ⟨by decide, by decide, rfl⟩ ⟨Nat.le_of_ble_eq_true rfl, Nat.le_of_ble_eq_true rfl⟩) (gh_pre M G (As := [va_rf v1, .int x147, va_rf v3])) rfl rfl hl.1.1 rfl (lv_room (Nat.le_of_ble_eq_true rfl)) dL_law_929 ⟨(by show _ ≤ 1203072; omega), (by show _ ≤ 5378346; omega)⟩) (fun E ce q9 h9 H9 locs9 hX G9 hce hcv hcl => hX.elim) (fun r148 h149 H locs hw G => ?_)
      refine W.widen (k := 286 + it28 * 440) (n := 7573 + it28 * 2551) (by omega) (by omega) ?_
      refine gh_istore (lv' := [(6, 1, .int r148), (0, 1, va_rf v0), (1, 1, va_rf v1), (2, 1, va_rf v2), (3, 1, va_rf v3), (4, 1, va_rf v4), (5, 1, .int v5)]) hx hb dL_law_932 hl (by decide) rfl (fun ls hl => ?_)
      refine gh_aload_n hx hb dL_law_934 rfl (gh_at hl 3 rfl) ?_
      refine gh_aload_n hx hb dL_law_935 rfl (gh_at hl 1 rfl) ?_
      refine lv_iload hx hb dL_law_936 (gh_at hl 6 rfl) ?_
      refine lv_iconst (v := (1 : Int32)) hx hb dL_law_938 (by decide) ?_
      refine lv_iadd hx hb dL_law_939 ?_
      refine gh_ial M G hw dL_law_940 (fun x150 hw => ?_)
      obtain ⟨a151, lba151, fsa151, rfl, haa151, hw⟩ := hw
      refine gh_ki G (vx_runV M.1 (met_X3_leastMakeready l D _ _ _ _ _ _ hw M.2.2.2.2.2) (cwV 1 (gh_Mts M) (lw_V q1768 q1769 q1770 q50 q1771) rfl rfl rfl ⟨rfl, by decide, by decide, rfl⟩ ⟨Nat.le_of_ble_eq_true rfl, Nat.le_of_ble_eq_true rfl⟩) (gh_preV (As := [.int x150]) M G (gh_rec M G haa151 rfl)) rfl rfl hl.1.1 rfl (lv_room (Nat.le_of_ble_eq_true rfl)) dL_law_941 ⟨(by show _ ≤ 1203072; omega), (by show _ ≤ 5378346; omega)⟩) (fun E ce q9 h9 H9 locs9 hX G9 hce hcv hcl => hX.elim) (fun r152 h153 H locs hw G => ?_)
      refine W.widen (k := 286 + it28 * 440) (n := 7573 + it28 * 2551) (by omega) (by omega) ?_
      refine gh_istore (lv' := [(7, 1, .int r152), (6, 1, .int r148), (0, 1, va_rf v0), (1, 1, va_rf v1), (2, 1, va_rf (some a151)), (3, 1, va_rf v3), (4, 1, va_rf v4), (5, 1, .int v5)]) hx hb dL_law_944 hl (by decide) rfl (fun ls hl => ?_)
      refine gh_aload_n hx hb dL_law_946 rfl (gh_at hl 4 rfl) ?_
      obtain ⟨a154, lba154, fsa154, hra154, haa154, hw⟩ := hw
      rw [← Option.some.inj hra154] at haa154
      refine gh_ki G (vx_runV M.1 (met_X3_thrown l D _ _ _ _ _ hw M.2.2.2.2.2) (cwV 0 (gh_Mts M) (lw_V q1649 q1650 q1651 q50 q1652) rfl rfl rfl ⟨rfl, by decide, by decide, rfl⟩ ⟨Nat.le_of_ble_eq_true rfl, Nat.le_of_ble_eq_true rfl⟩) (gh_preV (As := []) M G (gh_rec M G haa154 rfl)) rfl rfl hl.1.1 rfl (lv_room (Nat.le_of_ble_eq_true rfl)) dL_law_947 ⟨(by show _ ≤ 1203072; omega), (by show _ ≤ 5378346; omega)⟩) (fun E ce q9 h9 H9 locs9 hX G9 hce hcv hcl => hX.elim) (fun r155 h156 H locs hw G => ?_)
      refine W.widen (k := 286 + it28 * 440) (n := 7573 + it28 * 2551) (by omega) (by omega) ?_
      refine lv_iload hx hb dL_law_950 (gh_at hl 1 rfl) ?_
      refine lv_icmp_eq (tgt := 957) hx hb dL_law_952 (by decide) (fun hc => ?_) (fun hc => ?_)
      · replace hw := hw.1 hc
        refine lv_iload hx hb dL_law_957 (gh_at hl 1 rfl) ?_
        refine lv_if_ne (tgt := 974) hx hb dL_law_959 (by decide) (fun hc => ?_) (fun hc => ?_)
        · replace hw := hw.2 hc
          exact wk_L_law_974 M hz0 hr k28 hit28 v0 v1 (some a151) v3 v4 v5 _ _ _ _ G (gh_sub hl [2, 3, 4, 5, 6, 7] rfl) hw
        · replace hw := hw.1 hc
          refine gh_aload_n hx hb dL_law_962 rfl (gh_at hl 5 rfl) ?_
          refine lv_iconst (v := (0 : Int32)) hx hb dL_law_963 (by decide) ?_
          refine gh_jal M G hw dL_law_964 (fun x157 hw => ?_)
          refine lv_iload hx hb dL_law_965 (gh_at hl 0 rfl) ?_
          refine lv_i2l (v := (r152.toInt64)) hx hb dL_law_967 rfl ?_
          refine W.lcmp hx hb dL_law_968 ?_
          refine lv_if_eq (tgt := 974) hx hb dL_law_969 (by decide) (fun hc => ?_) (fun hc => ?_)
          · replace hw := hw.1 hc
            exact wk_L_law_974 M hz0 hr k28 hit28 v0 v1 (some a151) v3 v4 v5 _ _ _ _ G (gh_sub hl [2, 3, 4, 5, 6, 7] rfl) hw
          · replace hw := hw.2 hc
            refine lv_iconst (v := (0 : Int32)) hx hb dL_law_972 (by decide) ?_
            exact gh_lawret M G hz0 hr hw (by omega) (by omega) dL_law_973
      · replace hw := hw.2 hc
        refine lv_iconst (v := (0 : Int32)) hx hb dL_law_955 (by decide) ?_
        exact gh_lawret M G hz0 hr hw (by omega) (by omega) dL_law_956
    by_cases hc13 : (x2 &&& (31 : Int32)) = (13 : Int32)
    · replace hw := hw.2.2.2.2.2.2.2.2.2.2.2.2.2.1 hc13
      refine lv_tableIn (tgt := 977) hx hb dL_law_44 (by rw [hc13]; decide) (by rw [hc13]; decide) (by rw [hc13]; rfl) (by decide) ?_
      refine gh_aload_n hx hb dL_law_977 rfl (gh_at hl 1 rfl) ?_
      refine gh_aload_n hx hb dL_law_978 rfl (gh_at hl 0 rfl) ?_
      refine lv_iload hx hb dL_law_979 (gh_at hl 5 rfl) ?_
      refine lv_iconst (v := (1 : Int32)) hx hb dL_law_981 (by decide) ?_
      refine lv_iadd hx hb dL_law_982 ?_
      refine gh_ial M G hw dL_law_983 (fun x158 hw => ?_)
      refine gh_aload_n hx hb dL_law_984 rfl (gh_at hl 3 rfl) ?_
      refine gh_ki G (vx_runSX M.1 (met_X0_leastByTrying l D _ _ _ _ _ _ _ hw M.2.2.2.2.2) (vx_cwSW 3 (gh_Mts M) (lw_SW q1094 q1095 q40 q1096) rfl rfl rfl ⟨by decide, by decide, rfl⟩ ⟨Nat.le_of_ble_eq_true rfl, Nat.le_of_ble_eq_true rfl⟩) (gh_pre M G (As := [va_rf v1, .int x158, va_rf v3])) rfl rfl hl.1.1 rfl (lv_room (Nat.le_of_ble_eq_true rfl)) dL_law_985 ⟨(by show _ ≤ 1203072; omega), (by show _ ≤ 5378346; omega)⟩) (fun E ce q9 h9 H9 locs9 hX G9 hce hcv hcl => hX.elim) (fun r159 h160 H locs hw G => ?_)
      refine W.widen (k := 30 + it28 * 440) (n := 5275 + it28 * 2551) (by omega) (by omega) ?_
      refine gh_istore (lv' := [(6, 1, .int r159), (0, 1, va_rf v0), (1, 1, va_rf v1), (2, 1, va_rf v2), (3, 1, va_rf v3), (4, 1, va_rf v4), (5, 1, .int v5)]) hx hb dL_law_988 hl (by decide) rfl (fun ls hl => ?_)
      refine gh_aload_n hx hb dL_law_990 rfl (gh_at hl 3 rfl) ?_
      refine gh_aload_n hx hb dL_law_991 rfl (gh_at hl 1 rfl) ?_
      refine lv_iload hx hb dL_law_992 (gh_at hl 6 rfl) ?_
      refine lv_iconst (v := (1 : Int32)) hx hb dL_law_994 (by decide) ?_
      refine lv_iadd hx hb dL_law_995 ?_
      refine gh_ial M G hw dL_law_996 (fun x161 hw => ?_)
      obtain ⟨a162, lba162, fsa162, rfl, haa162, hw⟩ := hw
      refine gh_ki G (vx_runV M.1 (met_X3_leastByTrying l D _ _ _ _ _ _ hw M.2.2.2.2.2) (cwV 1 (gh_Mts M) (lw_V q1781 q1782 q1783 q50 q1784) rfl rfl rfl ⟨rfl, by decide, by decide, rfl⟩ ⟨Nat.le_of_ble_eq_true rfl, Nat.le_of_ble_eq_true rfl⟩) (gh_preV (As := [.int x161]) M G (gh_rec M G haa162 rfl)) rfl rfl hl.1.1 rfl (lv_room (Nat.le_of_ble_eq_true rfl)) dL_law_997 ⟨(by show _ ≤ 1203072; omega), (by show _ ≤ 5378346; omega)⟩) (fun E ce q9 h9 H9 locs9 hX G9 hce hcv hcl => hX.elim) (fun r163 h164 H locs hw G => ?_)
      refine W.widen (k := 30 + it28 * 440) (n := 5275 + it28 * 2551) (by omega) (by omega) ?_
      refine gh_istore (lv' := [(7, 1, .int r163), (6, 1, .int r159), (0, 1, va_rf v0), (1, 1, va_rf v1), (2, 1, va_rf (some a162)), (3, 1, va_rf v3), (4, 1, va_rf v4), (5, 1, .int v5)]) hx hb dL_law_1000 hl (by decide) rfl (fun ls hl => ?_)
      refine gh_aload_n hx hb dL_law_1002 rfl (gh_at hl 4 rfl) ?_
      obtain ⟨a165, lba165, fsa165, hra165, haa165, hw⟩ := hw
      rw [← Option.some.inj hra165] at haa165
      refine gh_ki G (vx_runV M.1 (met_X3_thrown l D _ _ _ _ _ hw M.2.2.2.2.2) (cwV 0 (gh_Mts M) (lw_V q1649 q1650 q1651 q50 q1652) rfl rfl rfl ⟨rfl, by decide, by decide, rfl⟩ ⟨Nat.le_of_ble_eq_true rfl, Nat.le_of_ble_eq_true rfl⟩) (gh_preV (As := []) M G (gh_rec M G haa165 rfl)) rfl rfl hl.1.1 rfl (lv_room (Nat.le_of_ble_eq_true rfl)) dL_law_1003 ⟨(by show _ ≤ 1203072; omega), (by show _ ≤ 5378346; omega)⟩) (fun E ce q9 h9 H9 locs9 hX G9 hce hcv hcl => hX.elim) (fun r166 h167 H locs hw G => ?_)
      refine W.widen (k := 30 + it28 * 440) (n := 5275 + it28 * 2551) (by omega) (by omega) ?_
      refine lv_iload hx hb dL_law_1006 (gh_at hl 1 rfl) ?_
      refine lv_icmp_eq (tgt := 1013) hx hb dL_law_1008 (by decide) (fun hc => ?_) (fun hc => ?_)
      · replace hw := hw.1 hc
        refine lv_iload hx hb dL_law_1013 (gh_at hl 1 rfl) ?_
        refine lv_if_ne (tgt := 1030) hx hb dL_law_1015 (by decide) (fun hc => ?_) (fun hc => ?_)
        · replace hw := hw.2 hc
          exact wk_L_law_1030 M hz0 hr k28 hit28 v0 v1 (some a162) v3 v4 v5 _ _ _ _ G (gh_sub hl [2, 3, 4, 5, 6, 7] rfl) hw
        · replace hw := hw.1 hc
          refine gh_aload_n hx hb dL_law_1018 rfl (gh_at hl 5 rfl) ?_
          refine lv_iconst (v := (0 : Int32)) hx hb dL_law_1019 (by decide) ?_
          refine gh_jal M G hw dL_law_1020 (fun x168 hw => ?_)
          refine lv_iload hx hb dL_law_1021 (gh_at hl 0 rfl) ?_
          refine lv_i2l (v := (r163.toInt64)) hx hb dL_law_1023 rfl ?_
          refine W.lcmp hx hb dL_law_1024 ?_
          refine lv_if_eq (tgt := 1030) hx hb dL_law_1025 (by decide) (fun hc => ?_) (fun hc => ?_)
          · replace hw := hw.1 hc
            exact wk_L_law_1030 M hz0 hr k28 hit28 v0 v1 (some a162) v3 v4 v5 _ _ _ _ G (gh_sub hl [2, 3, 4, 5, 6, 7] rfl) hw
          · replace hw := hw.2 hc
            refine lv_iconst (v := (0 : Int32)) hx hb dL_law_1028 (by decide) ?_
            exact gh_lawret M G hz0 hr hw (by omega) (by omega) dL_law_1029
      · replace hw := hw.2 hc
        refine lv_iconst (v := (0 : Int32)) hx hb dL_law_1011 (by decide) ?_
        exact gh_lawret M G hz0 hr hw (by omega) (by omega) dL_law_1012
    by_cases hc14 : (x2 &&& (31 : Int32)) = (14 : Int32)
    · replace hw := hw.2.2.2.2.2.2.2.2.2.2.2.2.2.2.1 hc14
      refine lv_tableIn (tgt := 1033) hx hb dL_law_44 (by rw [hc14]; decide) (by rw [hc14]; decide) (by rw [hc14]; rfl) (by decide) ?_
      refine gh_aload_n hx hb dL_law_1033 rfl (gh_at hl 1 rfl) ?_
      refine gh_aload_n hx hb dL_law_1034 rfl (gh_at hl 0 rfl) ?_
      refine lv_iload hx hb dL_law_1035 (gh_at hl 5 rfl) ?_
      refine lv_iconst (v := (1 : Int32)) hx hb dL_law_1037 (by decide) ?_
      refine lv_iadd hx hb dL_law_1038 ?_
      refine gh_ial M G hw dL_law_1039 (fun x169 hw => ?_)
      refine gh_aload_n hx hb dL_law_1040 rfl (gh_at hl 0 rfl) ?_
      refine lv_iload hx hb dL_law_1041 (gh_at hl 5 rfl) ?_
      refine lv_iconst (v := (2 : Int32)) hx hb dL_law_1043 (by decide) ?_
      refine lv_iadd hx hb dL_law_1044 ?_
      refine gh_ial M G hw dL_law_1045 (fun x170 hw => ?_)
      refine gh_aload_n hx hb dL_law_1046 rfl (gh_at hl 3 rfl) ?_
      refine gh_ki G (vx_runSX M.1 (met_X0_stock l D _ _ _ _ _ _ _ _ hw M.2.2.2.2.2) (vx_cwSW 4 (gh_Mts M) (lw_SW q1105 q1106 q40 q1107) rfl rfl rfl ⟨by decide, by decide, rfl⟩ ⟨Nat.le_of_ble_eq_true rfl, Nat.le_of_ble_eq_true rfl⟩) (gh_pre M G (As := [va_rf v1, .int x169, .int x170, va_rf v3])) rfl rfl hl.1.1 rfl (lv_room (Nat.le_of_ble_eq_true rfl)) dL_law_1047 ⟨(by show _ ≤ 1203072; omega), (by show _ ≤ 5378346; omega)⟩) (fun E ce q9 h9 H9 locs9 hX G9 hce hcv hcl => hX.elim) (fun r171 h172 H locs hw G => ?_)
      refine W.widen (k := 30 + it28 * 440) (n := 5275 + it28 * 2551) (by omega) (by omega) ?_
      refine gh_istore (lv' := [(6, 1, .int r171), (0, 1, va_rf v0), (1, 1, va_rf v1), (2, 1, va_rf v2), (3, 1, va_rf v3), (4, 1, va_rf v4), (5, 1, .int v5)]) hx hb dL_law_1050 hl (by decide) rfl (fun ls hl => ?_)
      refine gh_aload_n hx hb dL_law_1052 rfl (gh_at hl 3 rfl) ?_
      refine gh_aload_n hx hb dL_law_1053 rfl (gh_at hl 1 rfl) ?_
      refine lv_iload hx hb dL_law_1054 (gh_at hl 6 rfl) ?_
      refine lv_iconst (v := (1 : Int32)) hx hb dL_law_1056 (by decide) ?_
      refine lv_iadd hx hb dL_law_1057 ?_
      refine gh_ial M G hw dL_law_1058 (fun x173 hw => ?_)
      refine gh_aload_n hx hb dL_law_1059 rfl (gh_at hl 1 rfl) ?_
      refine lv_iload hx hb dL_law_1060 (gh_at hl 6 rfl) ?_
      refine lv_iconst (v := (2 : Int32)) hx hb dL_law_1062 (by decide) ?_
      refine lv_iadd hx hb dL_law_1063 ?_
      refine gh_ial M G hw dL_law_1064 (fun x174 hw => ?_)
      obtain ⟨a175, lba175, fsa175, rfl, haa175, hw⟩ := hw
      refine gh_ki G (vx_runV M.1 (met_X3_stock l D _ _ _ _ _ _ _ hw M.2.2.2.2.2) (cwV 2 (gh_Mts M) (lw_V q1785 q1786 q1787 q50 q1788) rfl rfl rfl ⟨rfl, by decide, by decide, rfl⟩ ⟨Nat.le_of_ble_eq_true rfl, Nat.le_of_ble_eq_true rfl⟩) (gh_preV (As := [.int x173, .int x174]) M G (gh_rec M G haa175 rfl)) rfl rfl hl.1.1 rfl (lv_room (Nat.le_of_ble_eq_true rfl)) dL_law_1065 ⟨(by show _ ≤ 1203072; omega), (by show _ ≤ 5378346; omega)⟩) (fun E ce q9 h9 H9 locs9 hX G9 hce hcv hcl => hX.elim) (fun r176 h177 H locs hw G => ?_)
      refine W.widen (k := 30 + it28 * 440) (n := 5275 + it28 * 2551) (by omega) (by omega) ?_
      refine gh_istore (lv' := [(7, 1, .int r176), (6, 1, .int r171), (0, 1, va_rf v0), (1, 1, va_rf v1), (2, 1, va_rf (some a175)), (3, 1, va_rf v3), (4, 1, va_rf v4), (5, 1, .int v5)]) hx hb dL_law_1068 hl (by decide) rfl (fun ls hl => ?_)
      refine gh_aload_n hx hb dL_law_1070 rfl (gh_at hl 4 rfl) ?_
      obtain ⟨a178, lba178, fsa178, hra178, haa178, hw⟩ := hw
      rw [← Option.some.inj hra178] at haa178
      refine gh_ki G (vx_runV M.1 (met_X3_thrown l D _ _ _ _ _ hw M.2.2.2.2.2) (cwV 0 (gh_Mts M) (lw_V q1649 q1650 q1651 q50 q1652) rfl rfl rfl ⟨rfl, by decide, by decide, rfl⟩ ⟨Nat.le_of_ble_eq_true rfl, Nat.le_of_ble_eq_true rfl⟩) (gh_preV (As := []) M G (gh_rec M G haa178 rfl)) rfl rfl hl.1.1 rfl (lv_room (Nat.le_of_ble_eq_true rfl)) dL_law_1071 ⟨(by show _ ≤ 1203072; omega), (by show _ ≤ 5378346; omega)⟩) (fun E ce q9 h9 H9 locs9 hX G9 hce hcv hcl => hX.elim) (fun r179 h180 H locs hw G => ?_)
      refine W.widen (k := 30 + it28 * 440) (n := 5275 + it28 * 2551) (by omega) (by omega) ?_
      refine lv_iload hx hb dL_law_1074 (gh_at hl 1 rfl) ?_
      refine lv_icmp_eq (tgt := 1081) hx hb dL_law_1076 (by decide) (fun hc => ?_) (fun hc => ?_)
      · replace hw := hw.1 hc
        refine lv_iload hx hb dL_law_1081 (gh_at hl 1 rfl) ?_
        refine lv_if_ne (tgt := 1098) hx hb dL_law_1083 (by decide) (fun hc => ?_) (fun hc => ?_)
        · replace hw := hw.2 hc
          exact wk_L_law_1098 M hz0 hr k28 hit28 v0 v1 (some a175) v3 v4 v5 _ _ _ _ G (gh_sub hl [2, 3, 4, 5, 6, 7] rfl) hw
        · replace hw := hw.1 hc
          refine gh_aload_n hx hb dL_law_1086 rfl (gh_at hl 5 rfl) ?_
          refine lv_iconst (v := (0 : Int32)) hx hb dL_law_1087 (by decide) ?_
          refine gh_jal M G hw dL_law_1088 (fun x181 hw => ?_)
          refine lv_iload hx hb dL_law_1089 (gh_at hl 0 rfl) ?_
          refine lv_i2l (v := (r176.toInt64)) hx hb dL_law_1091 rfl ?_
          refine W.lcmp hx hb dL_law_1092 ?_
          refine lv_if_eq (tgt := 1098) hx hb dL_law_1093 (by decide) (fun hc => ?_) (fun hc => ?_)
          · replace hw := hw.1 hc
            exact wk_L_law_1098 M hz0 hr k28 hit28 v0 v1 (some a175) v3 v4 v5 _ _ _ _ G (gh_sub hl [2, 3, 4, 5, 6, 7] rfl) hw
          · replace hw := hw.2 hc
            refine lv_iconst (v := (0 : Int32)) hx hb dL_law_1096 (by decide) ?_
            exact gh_lawret M G hz0 hr hw (by omega) (by omega) dL_law_1097
      · replace hw := hw.2 hc
        refine lv_iconst (v := (0 : Int32)) hx hb dL_law_1079 (by decide) ?_
        exact gh_lawret M G hz0 hr hw (by omega) (by omega) dL_law_1080
    by_cases hc15 : (x2 &&& (31 : Int32)) = (15 : Int32)
    · replace hw := hw.2.2.2.2.2.2.2.2.2.2.2.2.2.2.2.1 hc15
      refine lv_tableIn (tgt := 1101) hx hb dL_law_44 (by rw [hc15]; decide) (by rw [hc15]; decide) (by rw [hc15]; rfl) (by decide) ?_
      refine gh_aload_n hx hb dL_law_1101 rfl (gh_at hl 1 rfl) ?_
      obtain ⟨a182, lba182, fsa182, rfl, haa182, hw⟩ := hw
      refine gh_ki G (vx_runV M.1 (met_X1_plates l D _ _ _ _ _ hw M.2.2.2.2.2) (cwV 0 (gh_Mts M) (lw_V q217 q218 q219 q41 q220) rfl rfl rfl ⟨rfl, by decide, by decide, rfl⟩ ⟨Nat.le_of_ble_eq_true rfl, Nat.le_of_ble_eq_true rfl⟩) (gh_preV (As := []) M G (gh_rec M G haa182 rfl)) rfl rfl hl.1.1 rfl (lv_room (Nat.le_of_ble_eq_true rfl)) dL_law_1102 ⟨(by show _ ≤ 1203072; omega), (by show _ ≤ 5378346; omega)⟩) (fun E ce q9 h9 H9 locs9 hX G9 hce hcv hcl => hX.elim) (fun r183 h184 H locs hw G => ?_)
      refine W.widen (k := 27 + it28 * 440) (n := 5257 + it28 * 2551) (by omega) (by omega) ?_
      refine gh_aload_n hx hb dL_law_1105 rfl (gh_at hl 2 rfl) ?_
      obtain ⟨a185, lba185, fsa185, rfl, haa185, hw⟩ := hw
      refine gh_ki G (vx_runV M.1 (met_X3_plates l D _ _ _ _ _ hw M.2.2.2.2.2) (cwV 0 (gh_Mts M) (lw_V q1789 q1790 q1791 q50 q1792) rfl rfl rfl ⟨rfl, by decide, by decide, rfl⟩ ⟨Nat.le_of_ble_eq_true rfl, Nat.le_of_ble_eq_true rfl⟩) (gh_preV (As := []) M G (gh_rec M G haa185 rfl)) rfl rfl hl.1.1 rfl (lv_room (Nat.le_of_ble_eq_true rfl)) dL_law_1106 ⟨(by show _ ≤ 1203072; omega), (by show _ ≤ 5378346; omega)⟩) (fun E ce q9 h9 H9 locs9 hX G9 hce hcv hcl => hX.elim) (fun r186 h187 H locs hw G => ?_)
      refine W.widen (k := 27 + it28 * 440) (n := 5257 + it28 * 2551) (by omega) (by omega) ?_
      refine lv_icmp_eq (tgt := 1712) hx hb dL_law_1109 (by decide) (fun hc => ?_) (fun hc => ?_)
      · replace hw := hw.1 hc
        refine W.widen (k := 467 + it28 * 440) (n := 7808 + it28 * 2551) (by omega) (by omega) ?_
        exact wk_L_law_1712 M hz0 hr k28 hit28 v0 (some a182) (some a185) v3 v4 v5 _ _ _ _ G (gh_sub hl [0, 1, 2, 3, 4, 5] rfl) hw
      · replace hw := hw.2 hc
        refine lv_iconst (v := (0 : Int32)) hx hb dL_law_1112 (by decide) ?_
        exact gh_lawret M G hz0 hr hw (by omega) (by omega) dL_law_1113
    by_cases hc16 : (x2 &&& (31 : Int32)) = (16 : Int32)
    · replace hw := hw.2.2.2.2.2.2.2.2.2.2.2.2.2.2.2.2.1 hc16
      refine lv_tableIn (tgt := 1114) hx hb dL_law_44 (by rw [hc16]; decide) (by rw [hc16]; decide) (by rw [hc16]; rfl) (by decide) ?_
      refine gh_aload_n hx hb dL_law_1114 rfl (gh_at hl 1 rfl) ?_
      refine gh_aload_n hx hb dL_law_1115 rfl (gh_at hl 0 rfl) ?_
      refine lv_iload hx hb dL_law_1116 (gh_at hl 5 rfl) ?_
      refine lv_iconst (v := (1 : Int32)) hx hb dL_law_1118 (by decide) ?_
      refine lv_iadd hx hb dL_law_1119 ?_
      refine gh_ial M G hw dL_law_1120 (fun x188 hw => ?_)
      refine gh_aload_n hx hb dL_law_1121 rfl (gh_at hl 3 rfl) ?_
      refine gh_ki G (vx_runSX M.1 (met_X0_platesNeeded l D _ _ _ _ _ _ _ hw M.2.2.2.2.2) (vx_cwSW 3 (gh_Mts M) (lw_SW q1112 q1113 q40 q1114) rfl rfl rfl ⟨by decide, by decide, rfl⟩ ⟨Nat.le_of_ble_eq_true rfl, Nat.le_of_ble_eq_true rfl⟩) (gh_pre M G (As := [va_rf v1, .int x188, va_rf v3])) rfl rfl hl.1.1 rfl (lv_room (Nat.le_of_ble_eq_true rfl)) dL_law_1122 ⟨(by show _ ≤ 1203072; omega), (by show _ ≤ 5378346; omega)⟩) (fun E ce q9 h9 H9 locs9 hX G9 hce hcv hcl => hX.elim) (fun r189 h190 H locs hw G => ?_)
      refine W.widen (k := 467 + it28 * 440) (n := 7808 + it28 * 2551) (by omega) (by omega) ?_
      refine gh_istore (lv' := [(6, 1, .int r189), (0, 1, va_rf v0), (1, 1, va_rf v1), (2, 1, va_rf v2), (3, 1, va_rf v3), (4, 1, va_rf v4), (5, 1, .int v5)]) hx hb dL_law_1125 hl (by decide) rfl (fun ls hl => ?_)
      refine gh_aload_n hx hb dL_law_1127 rfl (gh_at hl 3 rfl) ?_
      refine gh_aload_n hx hb dL_law_1128 rfl (gh_at hl 1 rfl) ?_
      refine lv_iload hx hb dL_law_1129 (gh_at hl 6 rfl) ?_
      refine lv_iconst (v := (1 : Int32)) hx hb dL_law_1131 (by decide) ?_
      refine lv_iadd hx hb dL_law_1132 ?_
      refine gh_ial M G hw dL_law_1133 (fun x191 hw => ?_)
      obtain ⟨a192, lba192, fsa192, rfl, haa192, hw⟩ := hw
      refine gh_ki G (vx_runV M.1 (met_X3_platesNeeded l D _ _ _ _ _ _ hw M.2.2.2.2.2) (cwV 1 (gh_Mts M) (lw_V q1793 q1794 q1795 q50 q1796) rfl rfl rfl ⟨rfl, by decide, by decide, rfl⟩ ⟨Nat.le_of_ble_eq_true rfl, Nat.le_of_ble_eq_true rfl⟩) (gh_preV (As := [.int x191]) M G (gh_rec M G haa192 rfl)) rfl rfl hl.1.1 rfl (lv_room (Nat.le_of_ble_eq_true rfl)) dL_law_1134 ⟨(by show _ ≤ 1203072; omega), (by show _ ≤ 5378346; omega)⟩) (fun E ce q9 h9 H9 locs9 hX G9 hce hcv hcl => hX.elim) (fun r193 h194 H locs hw G => ?_)
      refine W.widen (k := 467 + it28 * 440) (n := 7808 + it28 * 2551) (by omega) (by omega) ?_
      refine gh_istore (lv' := [(7, 1, .int r193), (6, 1, .int r189), (0, 1, va_rf v0), (1, 1, va_rf v1), (2, 1, va_rf (some a192)), (3, 1, va_rf v3), (4, 1, va_rf v4), (5, 1, .int v5)]) hx hb dL_law_1137 hl (by decide) rfl (fun ls hl => ?_)
      refine gh_aload_n hx hb dL_law_1139 rfl (gh_at hl 4 rfl) ?_
      obtain ⟨a195, lba195, fsa195, hra195, haa195, hw⟩ := hw
      rw [← Option.some.inj hra195] at haa195
      refine gh_ki G (vx_runV M.1 (met_X3_thrown l D _ _ _ _ _ hw M.2.2.2.2.2) (cwV 0 (gh_Mts M) (lw_V q1649 q1650 q1651 q50 q1652) rfl rfl rfl ⟨rfl, by decide, by decide, rfl⟩ ⟨Nat.le_of_ble_eq_true rfl, Nat.le_of_ble_eq_true rfl⟩) (gh_preV (As := []) M G (gh_rec M G haa195 rfl)) rfl rfl hl.1.1 rfl (lv_room (Nat.le_of_ble_eq_true rfl)) dL_law_1140 ⟨(by show _ ≤ 1203072; omega), (by show _ ≤ 5378346; omega)⟩) (fun E ce q9 h9 H9 locs9 hX G9 hce hcv hcl => hX.elim) (fun r196 h197 H locs hw G => ?_)
      refine W.widen (k := 467 + it28 * 440) (n := 7808 + it28 * 2551) (by omega) (by omega) ?_
      refine lv_iload hx hb dL_law_1143 (gh_at hl 1 rfl) ?_
      refine lv_icmp_eq (tgt := 1150) hx hb dL_law_1145 (by decide) (fun hc => ?_) (fun hc => ?_)
      · replace hw := hw.1 hc
        refine lv_iload hx hb dL_law_1150 (gh_at hl 1 rfl) ?_
        refine lv_if_ne (tgt := 1167) hx hb dL_law_1152 (by decide) (fun hc => ?_) (fun hc => ?_)
        · replace hw := hw.2 hc
          exact wk_L_law_1167 M hz0 hr k28 hit28 v0 v1 (some a192) v3 v4 v5 _ _ _ _ G (gh_sub hl [2, 3, 4, 5, 6, 7] rfl) hw
        · replace hw := hw.1 hc
          refine gh_aload_n hx hb dL_law_1155 rfl (gh_at hl 5 rfl) ?_
          refine lv_iconst (v := (0 : Int32)) hx hb dL_law_1156 (by decide) ?_
          refine gh_jal M G hw dL_law_1157 (fun x198 hw => ?_)
          refine lv_iload hx hb dL_law_1158 (gh_at hl 0 rfl) ?_
          refine lv_i2l (v := (r193.toInt64)) hx hb dL_law_1160 rfl ?_
          refine W.lcmp hx hb dL_law_1161 ?_
          refine lv_if_eq (tgt := 1167) hx hb dL_law_1162 (by decide) (fun hc => ?_) (fun hc => ?_)
          · replace hw := hw.1 hc
            exact wk_L_law_1167 M hz0 hr k28 hit28 v0 v1 (some a192) v3 v4 v5 _ _ _ _ G (gh_sub hl [2, 3, 4, 5, 6, 7] rfl) hw
          · replace hw := hw.2 hc
            refine lv_iconst (v := (0 : Int32)) hx hb dL_law_1165 (by decide) ?_
            exact gh_lawret M G hz0 hr hw (by omega) (by omega) dL_law_1166
      · replace hw := hw.2 hc
        refine lv_iconst (v := (0 : Int32)) hx hb dL_law_1148 (by decide) ?_
        exact gh_lawret M G hz0 hr hw (by omega) (by omega) dL_law_1149
    by_cases hc17 : (x2 &&& (31 : Int32)) = (17 : Int32)
    · replace hw := hw.2.2.2.2.2.2.2.2.2.2.2.2.2.2.2.2.2.1 hc17
      refine lv_tableIn (tgt := 1170) hx hb dL_law_44 (by rw [hc17]; decide) (by rw [hc17]; decide) (by rw [hc17]; rfl) (by decide) ?_
      refine gh_aload_n hx hb dL_law_1170 rfl (gh_at hl 1 rfl) ?_
      refine gh_aload_n hx hb dL_law_1171 rfl (gh_at hl 0 rfl) ?_
      refine lv_iload hx hb dL_law_1172 (gh_at hl 5 rfl) ?_
      refine lv_iconst (v := (1 : Int32)) hx hb dL_law_1174 (by decide) ?_
      refine lv_iadd hx hb dL_law_1175 ?_
      refine gh_ial M G hw dL_law_1176 (fun x199 hw => ?_)
      refine gh_aload_n hx hb dL_law_1177 rfl (gh_at hl 0 rfl) ?_
      refine lv_iload hx hb dL_law_1178 (gh_at hl 5 rfl) ?_
      refine lv_iconst (v := (2 : Int32)) hx hb dL_law_1180 (by decide) ?_
      refine lv_iadd hx hb dL_law_1181 ?_
      refine gh_ial M G hw dL_law_1182 (fun x200 hw => ?_)
      refine gh_aload_n hx hb dL_law_1183 rfl (gh_at hl 3 rfl) ?_
      refine gh_ki G (vx_runSX M.1 (met_X0_bind l D _ _ _ _ _ _ _ _ hw M.2.2.2.2.2) (vx_cwSW 4 (gh_Mts M) (lw_SW q1397 q1398 q40 q1399) rfl rfl rfl ⟨by decide, by decide, rfl⟩ ⟨Nat.le_of_ble_eq_true rfl, Nat.le_of_ble_eq_true rfl⟩) (gh_pre M G (As := [va_rf v1, .int x199, .int x200, va_rf v3])) rfl rfl hl.1.1 rfl (lv_room (Nat.le_of_ble_eq_true rfl)) dL_law_1184 ⟨(by show _ ≤ 1203072; omega), (by show _ ≤ 5378346; omega)⟩) (fun E ce q9 h9 H9 locs9 hX G9 hce hcv hcl => hX.elim) (fun r201 h202 H locs hw G => ?_)
      refine W.widen (k := 38 + it28 * 440) (n := 5623 + it28 * 2551) (by omega) (by omega) ?_
      refine gh_istore (lv' := [(6, 1, .int r201), (0, 1, va_rf v0), (1, 1, va_rf v1), (2, 1, va_rf v2), (3, 1, va_rf v3), (4, 1, va_rf v4), (5, 1, .int v5)]) hx hb dL_law_1187 hl (by decide) rfl (fun ls hl => ?_)
      refine gh_aload_n hx hb dL_law_1189 rfl (gh_at hl 3 rfl) ?_
      refine gh_aload_n hx hb dL_law_1190 rfl (gh_at hl 1 rfl) ?_
      refine lv_iload hx hb dL_law_1191 (gh_at hl 6 rfl) ?_
      refine lv_iconst (v := (1 : Int32)) hx hb dL_law_1193 (by decide) ?_
      refine lv_iadd hx hb dL_law_1194 ?_
      refine gh_ial M G hw dL_law_1195 (fun x203 hw => ?_)
      refine gh_aload_n hx hb dL_law_1196 rfl (gh_at hl 1 rfl) ?_
      refine lv_iload hx hb dL_law_1197 (gh_at hl 6 rfl) ?_
      refine lv_iconst (v := (2 : Int32)) hx hb dL_law_1199 (by decide) ?_
      refine lv_iadd hx hb dL_law_1200 ?_
      refine gh_ial M G hw dL_law_1201 (fun x204 hw => ?_)
      obtain ⟨a205, lba205, fsa205, rfl, haa205, hw⟩ := hw
      refine gh_ki G (vx_runV M.1 (met_X3_bind l D _ _ _ _ _ _ _ hw M.2.2.2.2.2) (cwV 2 (gh_Mts M) (lw_V q1797 q1798 q1799 q50 q1800) rfl rfl rfl ⟨rfl, by decide, by decide, rfl⟩ ⟨Nat.le_of_ble_eq_true rfl, Nat.le_of_ble_eq_true rfl⟩) (gh_preV (As := [.int x203, .int x204]) M G (gh_rec M G haa205 rfl)) rfl rfl hl.1.1 rfl (lv_room (Nat.le_of_ble_eq_true rfl)) dL_law_1202 ⟨(by show _ ≤ 1203072; omega), (by show _ ≤ 5378346; omega)⟩) (fun E ce q9 h9 H9 locs9 hX G9 hce hcv hcl => hX.elim) (fun r206 h207 H locs hw G => ?_)
      refine W.widen (k := 38 + it28 * 440) (n := 5623 + it28 * 2551) (by omega) (by omega) ?_
      refine gh_istore (lv' := [(7, 1, .int r206), (6, 1, .int r201), (0, 1, va_rf v0), (1, 1, va_rf v1), (2, 1, va_rf (some a205)), (3, 1, va_rf v3), (4, 1, va_rf v4), (5, 1, .int v5)]) hx hb dL_law_1205 hl (by decide) rfl (fun ls hl => ?_)
      refine gh_aload_n hx hb dL_law_1207 rfl (gh_at hl 4 rfl) ?_
      obtain ⟨a208, lba208, fsa208, hra208, haa208, hw⟩ := hw
      rw [← Option.some.inj hra208] at haa208
      refine gh_ki G (vx_runV M.1 (met_X3_thrown l D _ _ _ _ _ hw M.2.2.2.2.2) (cwV 0 (gh_Mts M) (lw_V q1649 q1650 q1651 q50 q1652) rfl rfl rfl ⟨rfl, by decide, by decide, rfl⟩ ⟨Nat.le_of_ble_eq_true rfl, Nat.le_of_ble_eq_true rfl⟩) (gh_preV (As := []) M G (gh_rec M G haa208 rfl)) rfl rfl hl.1.1 rfl (lv_room (Nat.le_of_ble_eq_true rfl)) dL_law_1208 ⟨(by show _ ≤ 1203072; omega), (by show _ ≤ 5378346; omega)⟩) (fun E ce q9 h9 H9 locs9 hX G9 hce hcv hcl => hX.elim) (fun r209 h210 H locs hw G => ?_)
      refine W.widen (k := 38 + it28 * 440) (n := 5623 + it28 * 2551) (by omega) (by omega) ?_
      refine lv_iload hx hb dL_law_1211 (gh_at hl 1 rfl) ?_
      refine lv_icmp_eq (tgt := 1218) hx hb dL_law_1213 (by decide) (fun hc => ?_) (fun hc => ?_)
      · replace hw := hw.1 hc
        refine lv_iload hx hb dL_law_1218 (gh_at hl 1 rfl) ?_
        refine lv_if_ne (tgt := 1235) hx hb dL_law_1220 (by decide) (fun hc => ?_) (fun hc => ?_)
        · replace hw := hw.2 hc
          exact wk_L_law_1235 M hz0 hr k28 hit28 v0 v1 (some a205) v3 v4 v5 _ _ _ _ G (gh_sub hl [2, 3, 4, 5, 6, 7] rfl) hw
        · replace hw := hw.1 hc
          refine gh_aload_n hx hb dL_law_1223 rfl (gh_at hl 5 rfl) ?_
          refine lv_iconst (v := (0 : Int32)) hx hb dL_law_1224 (by decide) ?_
          refine gh_jal M G hw dL_law_1225 (fun x211 hw => ?_)
          refine lv_iload hx hb dL_law_1226 (gh_at hl 0 rfl) ?_
          refine lv_i2l (v := (r206.toInt64)) hx hb dL_law_1228 rfl ?_
          refine W.lcmp hx hb dL_law_1229 ?_
          refine lv_if_eq (tgt := 1235) hx hb dL_law_1230 (by decide) (fun hc => ?_) (fun hc => ?_)
          · replace hw := hw.1 hc
            exact wk_L_law_1235 M hz0 hr k28 hit28 v0 v1 (some a205) v3 v4 v5 _ _ _ _ G (gh_sub hl [2, 3, 4, 5, 6, 7] rfl) hw
          · replace hw := hw.2 hc
            refine lv_iconst (v := (0 : Int32)) hx hb dL_law_1233 (by decide) ?_
            exact gh_lawret M G hz0 hr hw (by omega) (by omega) dL_law_1234
      · replace hw := hw.2 hc
        refine lv_iconst (v := (0 : Int32)) hx hb dL_law_1216 (by decide) ?_
        exact gh_lawret M G hz0 hr hw (by omega) (by omega) dL_law_1217
    by_cases hc18 : (x2 &&& (31 : Int32)) = (18 : Int32)
    · replace hw := hw.2.2.2.2.2.2.2.2.2.2.2.2.2.2.2.2.2.2.1 hc18
      refine lv_tableIn (tgt := 1238) hx hb dL_law_44 (by rw [hc18]; decide) (by rw [hc18]; decide) (by rw [hc18]; rfl) (by decide) ?_
      refine gh_aload_n hx hb dL_law_1238 rfl (gh_at hl 1 rfl) ?_
      refine gh_aload_n hx hb dL_law_1239 rfl (gh_at hl 0 rfl) ?_
      refine lv_iload hx hb dL_law_1240 (gh_at hl 5 rfl) ?_
      refine lv_iconst (v := (1 : Int32)) hx hb dL_law_1242 (by decide) ?_
      refine lv_iadd hx hb dL_law_1243 ?_
      refine gh_ial M G hw dL_law_1244 (fun x212 hw => ?_)
      refine gh_aload_n hx hb dL_law_1245 rfl (gh_at hl 0 rfl) ?_
      refine lv_iload hx hb dL_law_1246 (gh_at hl 5 rfl) ?_
      refine lv_iconst (v := (2 : Int32)) hx hb dL_law_1248 (by decide) ?_
      refine lv_iadd hx hb dL_law_1249 ?_
      refine gh_ial M G hw dL_law_1250 (fun x213 hw => ?_)
      refine gh_aload_n hx hb dL_law_1251 rfl (gh_at hl 3 rfl) ?_
      refine gh_ki G (vx_runSX M.1 (met_X0_lacks l D _ _ _ _ _ _ _ _ hw M.2.2.2.2.2) (vx_cwSW 4 (gh_Mts M) (lw_SW q1475 q1476 q40 q1477) rfl rfl rfl ⟨by decide, by decide, rfl⟩ ⟨Nat.le_of_ble_eq_true rfl, Nat.le_of_ble_eq_true rfl⟩) (gh_pre M G (As := [va_rf v1, .int x212, .int x213, va_rf v3])) rfl rfl hl.1.1 rfl (lv_room (Nat.le_of_ble_eq_true rfl)) dL_law_1252 ⟨(by show _ ≤ 1203072; omega), (by show _ ≤ 5378346; omega)⟩) (fun E ce q9 h9 H9 locs9 hX G9 hce hcv hcl => hX.elim) (fun r214 h215 H locs hw G => ?_)
      refine W.widen (k := 30 + it28 * 440) (n := 5275 + it28 * 2551) (by omega) (by omega) ?_
      refine gh_istore (lv' := [(6, 1, .int r214), (0, 1, va_rf v0), (1, 1, va_rf v1), (2, 1, va_rf v2), (3, 1, va_rf v3), (4, 1, va_rf v4), (5, 1, .int v5)]) hx hb dL_law_1255 hl (by decide) rfl (fun ls hl => ?_)
      refine gh_aload_n hx hb dL_law_1257 rfl (gh_at hl 3 rfl) ?_
      refine gh_aload_n hx hb dL_law_1258 rfl (gh_at hl 1 rfl) ?_
      refine lv_iload hx hb dL_law_1259 (gh_at hl 6 rfl) ?_
      refine lv_iconst (v := (1 : Int32)) hx hb dL_law_1261 (by decide) ?_
      refine lv_iadd hx hb dL_law_1262 ?_
      refine gh_ial M G hw dL_law_1263 (fun x216 hw => ?_)
      refine gh_aload_n hx hb dL_law_1264 rfl (gh_at hl 1 rfl) ?_
      refine lv_iload hx hb dL_law_1265 (gh_at hl 6 rfl) ?_
      refine lv_iconst (v := (2 : Int32)) hx hb dL_law_1267 (by decide) ?_
      refine lv_iadd hx hb dL_law_1268 ?_
      refine gh_ial M G hw dL_law_1269 (fun x217 hw => ?_)
      obtain ⟨a218, lba218, fsa218, rfl, haa218, hw⟩ := hw
      refine gh_ki G (vx_runV M.1 (met_X3_lacks l D _ _ _ _ _ _ _ hw M.2.2.2.2.2) (cwV 2 (gh_Mts M) (lw_V q1805 q1806 q1807 q50 q1808) rfl rfl rfl ⟨rfl, by decide, by decide, rfl⟩ ⟨Nat.le_of_ble_eq_true rfl, Nat.le_of_ble_eq_true rfl⟩) (gh_preV (As := [.int x216, .int x217]) M G (gh_rec M G haa218 rfl)) rfl rfl hl.1.1 rfl (lv_room (Nat.le_of_ble_eq_true rfl)) dL_law_1270 ⟨(by show _ ≤ 1203072; omega), (by show _ ≤ 5378346; omega)⟩) (fun E ce q9 h9 H9 locs9 hX G9 hce hcv hcl => hX.elim) (fun r219 h220 H locs hw G => ?_)
      refine W.widen (k := 30 + it28 * 440) (n := 5275 + it28 * 2551) (by omega) (by omega) ?_
      refine gh_istore (lv' := [(7, 1, .int r219), (6, 1, .int r214), (0, 1, va_rf v0), (1, 1, va_rf v1), (2, 1, va_rf (some a218)), (3, 1, va_rf v3), (4, 1, va_rf v4), (5, 1, .int v5)]) hx hb dL_law_1273 hl (by decide) rfl (fun ls hl => ?_)
      refine gh_aload_n hx hb dL_law_1275 rfl (gh_at hl 4 rfl) ?_
      obtain ⟨a221, lba221, fsa221, hra221, haa221, hw⟩ := hw
      rw [← Option.some.inj hra221] at haa221
      refine gh_ki G (vx_runV M.1 (met_X3_thrown l D _ _ _ _ _ hw M.2.2.2.2.2) (cwV 0 (gh_Mts M) (lw_V q1649 q1650 q1651 q50 q1652) rfl rfl rfl ⟨rfl, by decide, by decide, rfl⟩ ⟨Nat.le_of_ble_eq_true rfl, Nat.le_of_ble_eq_true rfl⟩) (gh_preV (As := []) M G (gh_rec M G haa221 rfl)) rfl rfl hl.1.1 rfl (lv_room (Nat.le_of_ble_eq_true rfl)) dL_law_1276 ⟨(by show _ ≤ 1203072; omega), (by show _ ≤ 5378346; omega)⟩) (fun E ce q9 h9 H9 locs9 hX G9 hce hcv hcl => hX.elim) (fun r222 h223 H locs hw G => ?_)
      refine W.widen (k := 30 + it28 * 440) (n := 5275 + it28 * 2551) (by omega) (by omega) ?_
      refine lv_iload hx hb dL_law_1279 (gh_at hl 1 rfl) ?_
      refine lv_icmp_eq (tgt := 1286) hx hb dL_law_1281 (by decide) (fun hc => ?_) (fun hc => ?_)
      · replace hw := hw.1 hc
        refine lv_iload hx hb dL_law_1286 (gh_at hl 1 rfl) ?_
        refine lv_if_ne (tgt := 1303) hx hb dL_law_1288 (by decide) (fun hc => ?_) (fun hc => ?_)
        · replace hw := hw.2 hc
          exact wk_L_law_1303 M hz0 hr k28 hit28 v0 v1 (some a218) v3 v4 v5 _ _ _ _ G (gh_sub hl [2, 3, 4, 5, 6, 7] rfl) hw
        · replace hw := hw.1 hc
          refine gh_aload_n hx hb dL_law_1291 rfl (gh_at hl 5 rfl) ?_
          refine lv_iconst (v := (0 : Int32)) hx hb dL_law_1292 (by decide) ?_
          refine gh_jal M G hw dL_law_1293 (fun x224 hw => ?_)
          refine lv_iload hx hb dL_law_1294 (gh_at hl 0 rfl) ?_
          refine lv_i2l (v := (r219.toInt64)) hx hb dL_law_1296 rfl ?_
          refine W.lcmp hx hb dL_law_1297 ?_
          refine lv_if_eq (tgt := 1303) hx hb dL_law_1298 (by decide) (fun hc => ?_) (fun hc => ?_)
          · replace hw := hw.1 hc
            exact wk_L_law_1303 M hz0 hr k28 hit28 v0 v1 (some a218) v3 v4 v5 _ _ _ _ G (gh_sub hl [2, 3, 4, 5, 6, 7] rfl) hw
          · replace hw := hw.2 hc
            refine lv_iconst (v := (0 : Int32)) hx hb dL_law_1301 (by decide) ?_
            exact gh_lawret M G hz0 hr hw (by omega) (by omega) dL_law_1302
      · replace hw := hw.2 hc
        refine lv_iconst (v := (0 : Int32)) hx hb dL_law_1284 (by decide) ?_
        exact gh_lawret M G hz0 hr hw (by omega) (by omega) dL_law_1285
    by_cases hc19 : (x2 &&& (31 : Int32)) = (19 : Int32)
    · replace hw := hw.2.2.2.2.2.2.2.2.2.2.2.2.2.2.2.2.2.2.2.1 hc19
      refine lv_tableIn (tgt := 1306) hx hb dL_law_44 (by rw [hc19]; decide) (by rw [hc19]; decide) (by rw [hc19]; rfl) (by decide) ?_
      refine gh_aload_n hx hb dL_law_1306 rfl (gh_at hl 1 rfl) ?_
      obtain ⟨a225, lba225, fsa225, rfl, haa225, hw⟩ := hw
      refine gh_ki G (vx_runV M.1 (met_X1_lots l D _ _ _ _ _ hw M.2.2.2.2.2) (cwV 0 (gh_Mts M) (lw_V q234 q235 q236 q41 q237) rfl rfl rfl ⟨rfl, by decide, by decide, rfl⟩ ⟨Nat.le_of_ble_eq_true rfl, Nat.le_of_ble_eq_true rfl⟩) (gh_preV (As := []) M G (gh_rec M G haa225 rfl)) rfl rfl hl.1.1 rfl (lv_room (Nat.le_of_ble_eq_true rfl)) dL_law_1307 ⟨(by show _ ≤ 1203072; omega), (by show _ ≤ 5378346; omega)⟩) (fun E ce q9 h9 H9 locs9 hX G9 hce hcv hcl => hX.elim) (fun r226 h227 H locs hw G => ?_)
      refine W.widen (k := 27 + it28 * 440) (n := 5257 + it28 * 2551) (by omega) (by omega) ?_
      refine gh_aload_n hx hb dL_law_1310 rfl (gh_at hl 2 rfl) ?_
      obtain ⟨a228, lba228, fsa228, rfl, haa228, hw⟩ := hw
      refine gh_ki G (vx_runV M.1 (met_X3_lots l D _ _ _ _ _ hw M.2.2.2.2.2) (cwV 0 (gh_Mts M) (lw_V q1809 q1810 q1811 q50 q1812) rfl rfl rfl ⟨rfl, by decide, by decide, rfl⟩ ⟨Nat.le_of_ble_eq_true rfl, Nat.le_of_ble_eq_true rfl⟩) (gh_preV (As := []) M G (gh_rec M G haa228 rfl)) rfl rfl hl.1.1 rfl (lv_room (Nat.le_of_ble_eq_true rfl)) dL_law_1311 ⟨(by show _ ≤ 1203072; omega), (by show _ ≤ 5378346; omega)⟩) (fun E ce q9 h9 H9 locs9 hX G9 hce hcv hcl => hX.elim) (fun r229 h230 H locs hw G => ?_)
      refine W.widen (k := 27 + it28 * 440) (n := 5257 + it28 * 2551) (by omega) (by omega) ?_
      refine lv_icmp_eq (tgt := 1712) hx hb dL_law_1314 (by decide) (fun hc => ?_) (fun hc => ?_)
      · replace hw := hw.1 hc
        refine W.widen (k := 467 + it28 * 440) (n := 7808 + it28 * 2551) (by omega) (by omega) ?_
        exact wk_L_law_1712 M hz0 hr k28 hit28 v0 (some a225) (some a228) v3 v4 v5 _ _ _ _ G (gh_sub hl [0, 1, 2, 3, 4, 5] rfl) hw
      · replace hw := hw.2 hc
        refine lv_iconst (v := (0 : Int32)) hx hb dL_law_1317 (by decide) ?_
        exact gh_lawret M G hz0 hr hw (by omega) (by omega) dL_law_1318
    by_cases hc20 : (x2 &&& (31 : Int32)) = (20 : Int32)
    · replace hw := hw.2.2.2.2.2.2.2.2.2.2.2.2.2.2.2.2.2.2.2.2.1 hc20
      refine lv_tableIn (tgt := 1319) hx hb dL_law_44 (by rw [hc20]; decide) (by rw [hc20]; decide) (by rw [hc20]; rfl) (by decide) ?_
      refine gh_aload_n hx hb dL_law_1319 rfl (gh_at hl 1 rfl) ?_
      refine gh_aload_n hx hb dL_law_1320 rfl (gh_at hl 0 rfl) ?_
      refine lv_iload hx hb dL_law_1321 (gh_at hl 5 rfl) ?_
      refine lv_iconst (v := (1 : Int32)) hx hb dL_law_1323 (by decide) ?_
      refine lv_iadd hx hb dL_law_1324 ?_
      refine gh_ial M G hw dL_law_1325 (fun x231 hw => ?_)
      refine gh_aload_n hx hb dL_law_1326 rfl (gh_at hl 3 rfl) ?_
      refine gh_ki G (vx_runSX M.1 (met_X0_copies l D _ _ _ _ _ _ _ hw M.2.2.2.2.2) (vx_cwSW 3 (gh_Mts M) (lw_SW q1482 q1483 q40 q1484) rfl rfl rfl ⟨by decide, by decide, rfl⟩ ⟨Nat.le_of_ble_eq_true rfl, Nat.le_of_ble_eq_true rfl⟩) (gh_pre M G (As := [va_rf v1, .int x231, va_rf v3])) rfl rfl hl.1.1 rfl (lv_room (Nat.le_of_ble_eq_true rfl)) dL_law_1327 ⟨(by show _ ≤ 1203072; omega), (by show _ ≤ 5378346; omega)⟩) (fun E ce q9 h9 H9 locs9 hX G9 hce hcv hcl => hX.elim) (fun r232 h233 H locs hw G => ?_)
      refine W.widen (k := 28 + it28 * 440) (n := 5263 + it28 * 2551) (by omega) (by omega) ?_
      refine gh_istore (lv' := [(6, 1, .int r232), (0, 1, va_rf v0), (1, 1, va_rf v1), (2, 1, va_rf v2), (3, 1, va_rf v3), (4, 1, va_rf v4), (5, 1, .int v5)]) hx hb dL_law_1330 hl (by decide) rfl (fun ls hl => ?_)
      refine gh_aload_n hx hb dL_law_1332 rfl (gh_at hl 3 rfl) ?_
      refine gh_aload_n hx hb dL_law_1333 rfl (gh_at hl 1 rfl) ?_
      refine lv_iload hx hb dL_law_1334 (gh_at hl 6 rfl) ?_
      refine lv_iconst (v := (1 : Int32)) hx hb dL_law_1336 (by decide) ?_
      refine lv_iadd hx hb dL_law_1337 ?_
      refine gh_ial M G hw dL_law_1338 (fun x234 hw => ?_)
      obtain ⟨a235, lba235, fsa235, rfl, haa235, hw⟩ := hw
      refine gh_ki G (vx_runV M.1 (met_X3_copies l D _ _ _ _ _ _ hw M.2.2.2.2.2) (cwV 1 (gh_Mts M) (lw_V q1813 q1814 q1815 q50 q1816) rfl rfl rfl ⟨rfl, by decide, by decide, rfl⟩ ⟨Nat.le_of_ble_eq_true rfl, Nat.le_of_ble_eq_true rfl⟩) (gh_preV (As := [.int x234]) M G (gh_rec M G haa235 rfl)) rfl rfl hl.1.1 rfl (lv_room (Nat.le_of_ble_eq_true rfl)) dL_law_1339 ⟨(by show _ ≤ 1203072; omega), (by show _ ≤ 5378346; omega)⟩) (fun E ce q9 h9 H9 locs9 hX G9 hce hcv hcl => hX.elim) (fun r236 h237 H locs hw G => ?_)
      refine W.widen (k := 28 + it28 * 440) (n := 5263 + it28 * 2551) (by omega) (by omega) ?_
      refine gh_istore (lv' := [(7, 1, .int r236), (6, 1, .int r232), (0, 1, va_rf v0), (1, 1, va_rf v1), (2, 1, va_rf (some a235)), (3, 1, va_rf v3), (4, 1, va_rf v4), (5, 1, .int v5)]) hx hb dL_law_1342 hl (by decide) rfl (fun ls hl => ?_)
      refine gh_aload_n hx hb dL_law_1344 rfl (gh_at hl 4 rfl) ?_
      obtain ⟨a238, lba238, fsa238, hra238, haa238, hw⟩ := hw
      rw [← Option.some.inj hra238] at haa238
      refine gh_ki G (vx_runV M.1 (met_X3_thrown l D _ _ _ _ _ hw M.2.2.2.2.2) (cwV 0 (gh_Mts M) (lw_V q1649 q1650 q1651 q50 q1652) rfl rfl rfl ⟨rfl, by decide, by decide, rfl⟩ ⟨Nat.le_of_ble_eq_true rfl, Nat.le_of_ble_eq_true rfl⟩) (gh_preV (As := []) M G (gh_rec M G haa238 rfl)) rfl rfl hl.1.1 rfl (lv_room (Nat.le_of_ble_eq_true rfl)) dL_law_1345 ⟨(by show _ ≤ 1203072; omega), (by show _ ≤ 5378346; omega)⟩) (fun E ce q9 h9 H9 locs9 hX G9 hce hcv hcl => hX.elim) (fun r239 h240 H locs hw G => ?_)
      refine W.widen (k := 28 + it28 * 440) (n := 5263 + it28 * 2551) (by omega) (by omega) ?_
      refine lv_iload hx hb dL_law_1348 (gh_at hl 1 rfl) ?_
      refine lv_icmp_eq (tgt := 1355) hx hb dL_law_1350 (by decide) (fun hc => ?_) (fun hc => ?_)
      · replace hw := hw.1 hc
        refine lv_iload hx hb dL_law_1355 (gh_at hl 1 rfl) ?_
        refine lv_if_ne (tgt := 1372) hx hb dL_law_1357 (by decide) (fun hc => ?_) (fun hc => ?_)
        · replace hw := hw.2 hc
          exact wk_L_law_1372 M hz0 hr k28 hit28 v0 v1 (some a235) v3 v4 v5 _ _ _ _ G (gh_sub hl [2, 3, 4, 5, 6, 7] rfl) hw
        · replace hw := hw.1 hc
          refine gh_aload_n hx hb dL_law_1360 rfl (gh_at hl 5 rfl) ?_
          refine lv_iconst (v := (0 : Int32)) hx hb dL_law_1361 (by decide) ?_
          refine gh_jal M G hw dL_law_1362 (fun x241 hw => ?_)
          refine lv_iload hx hb dL_law_1363 (gh_at hl 0 rfl) ?_
          refine lv_i2l (v := (r236.toInt64)) hx hb dL_law_1365 rfl ?_
          refine W.lcmp hx hb dL_law_1366 ?_
          refine lv_if_eq (tgt := 1372) hx hb dL_law_1367 (by decide) (fun hc => ?_) (fun hc => ?_)
          · replace hw := hw.1 hc
            exact wk_L_law_1372 M hz0 hr k28 hit28 v0 v1 (some a235) v3 v4 v5 _ _ _ _ G (gh_sub hl [2, 3, 4, 5, 6, 7] rfl) hw
          · replace hw := hw.2 hc
            refine lv_iconst (v := (0 : Int32)) hx hb dL_law_1370 (by decide) ?_
            exact gh_lawret M G hz0 hr hw (by omega) (by omega) dL_law_1371
      · replace hw := hw.2 hc
        refine lv_iconst (v := (0 : Int32)) hx hb dL_law_1353 (by decide) ?_
        exact gh_lawret M G hz0 hr hw (by omega) (by omega) dL_law_1354
    by_cases hc21 : (x2 &&& (31 : Int32)) = (21 : Int32)
    · replace hw := hw.2.2.2.2.2.2.2.2.2.2.2.2.2.2.2.2.2.2.2.2.2.1 hc21
      refine lv_tableIn (tgt := 1375) hx hb dL_law_44 (by rw [hc21]; decide) (by rw [hc21]; decide) (by rw [hc21]; rfl) (by decide) ?_
      refine gh_aload_n hx hb dL_law_1375 rfl (gh_at hl 1 rfl) ?_
      refine gh_aload_n hx hb dL_law_1376 rfl (gh_at hl 0 rfl) ?_
      refine lv_iload hx hb dL_law_1377 (gh_at hl 5 rfl) ?_
      refine lv_iconst (v := (1 : Int32)) hx hb dL_law_1379 (by decide) ?_
      refine lv_iadd hx hb dL_law_1380 ?_
      refine gh_ial M G hw dL_law_1381 (fun x242 hw => ?_)
      refine gh_aload_n hx hb dL_law_1382 rfl (gh_at hl 0 rfl) ?_
      refine lv_iload hx hb dL_law_1383 (gh_at hl 5 rfl) ?_
      refine lv_iconst (v := (2 : Int32)) hx hb dL_law_1385 (by decide) ?_
      refine lv_iadd hx hb dL_law_1386 ?_
      refine gh_ial M G hw dL_law_1387 (fun x243 hw => ?_)
      refine gh_aload_n hx hb dL_law_1388 rfl (gh_at hl 3 rfl) ?_
      refine gh_ki G (vx_runSX M.1 (met_X0_stateIn l D _ _ _ _ _ _ _ _ hw M.2.2.2.2.2) (vx_cwSW 4 (gh_Mts M) (lw_SW q1493 q1494 q40 q1495) rfl rfl rfl ⟨by decide, by decide, rfl⟩ ⟨Nat.le_of_ble_eq_true rfl, Nat.le_of_ble_eq_true rfl⟩) (gh_pre M G (As := [va_rf v1, .int x242, .int x243, va_rf v3])) rfl rfl hl.1.1 rfl (lv_room (Nat.le_of_ble_eq_true rfl)) dL_law_1389 ⟨(by show _ ≤ 1203072; omega), (by show _ ≤ 5378346; omega)⟩) (fun E ce q9 h9 H9 locs9 hX G9 hce hcv hcl => hX.elim) (fun r244 h245 H locs hw G => ?_)
      refine W.widen (k := 29 + it28 * 440) (n := 5269 + it28 * 2551) (by omega) (by omega) ?_
      refine gh_istore (lv' := [(6, 1, .int r244), (0, 1, va_rf v0), (1, 1, va_rf v1), (2, 1, va_rf v2), (3, 1, va_rf v3), (4, 1, va_rf v4), (5, 1, .int v5)]) hx hb dL_law_1392 hl (by decide) rfl (fun ls hl => ?_)
      refine gh_aload_n hx hb dL_law_1394 rfl (gh_at hl 3 rfl) ?_
      refine gh_aload_n hx hb dL_law_1395 rfl (gh_at hl 1 rfl) ?_
      refine lv_iload hx hb dL_law_1396 (gh_at hl 6 rfl) ?_
      refine lv_iconst (v := (1 : Int32)) hx hb dL_law_1398 (by decide) ?_
      refine lv_iadd hx hb dL_law_1399 ?_
      refine gh_ial M G hw dL_law_1400 (fun x246 hw => ?_)
      refine gh_aload_n hx hb dL_law_1401 rfl (gh_at hl 1 rfl) ?_
      refine lv_iload hx hb dL_law_1402 (gh_at hl 6 rfl) ?_
      refine lv_iconst (v := (2 : Int32)) hx hb dL_law_1404 (by decide) ?_
      refine lv_iadd hx hb dL_law_1405 ?_
      refine gh_ial M G hw dL_law_1406 (fun x247 hw => ?_)
      obtain ⟨a248, lba248, fsa248, rfl, haa248, hw⟩ := hw
      refine gh_ki G (vx_runV M.1 (met_X3_stateIn l D _ _ _ _ _ _ _ hw M.2.2.2.2.2) (cwV 2 (gh_Mts M) (lw_V q1817 q1818 q1819 q50 q1820) rfl rfl rfl ⟨rfl, by decide, by decide, rfl⟩ ⟨Nat.le_of_ble_eq_true rfl, Nat.le_of_ble_eq_true rfl⟩) (gh_preV (As := [.int x246, .int x247]) M G (gh_rec M G haa248 rfl)) rfl rfl hl.1.1 rfl (lv_room (Nat.le_of_ble_eq_true rfl)) dL_law_1407 ⟨(by show _ ≤ 1203072; omega), (by show _ ≤ 5378346; omega)⟩) (fun E ce q9 h9 H9 locs9 hX G9 hce hcv hcl => hX.elim) (fun r249 h250 H locs hw G => ?_)
      refine W.widen (k := 29 + it28 * 440) (n := 5269 + it28 * 2551) (by omega) (by omega) ?_
      refine gh_istore (lv' := [(7, 1, .int r249), (6, 1, .int r244), (0, 1, va_rf v0), (1, 1, va_rf v1), (2, 1, va_rf (some a248)), (3, 1, va_rf v3), (4, 1, va_rf v4), (5, 1, .int v5)]) hx hb dL_law_1410 hl (by decide) rfl (fun ls hl => ?_)
      refine gh_aload_n hx hb dL_law_1412 rfl (gh_at hl 4 rfl) ?_
      obtain ⟨a251, lba251, fsa251, hra251, haa251, hw⟩ := hw
      rw [← Option.some.inj hra251] at haa251
      refine gh_ki G (vx_runV M.1 (met_X3_thrown l D _ _ _ _ _ hw M.2.2.2.2.2) (cwV 0 (gh_Mts M) (lw_V q1649 q1650 q1651 q50 q1652) rfl rfl rfl ⟨rfl, by decide, by decide, rfl⟩ ⟨Nat.le_of_ble_eq_true rfl, Nat.le_of_ble_eq_true rfl⟩) (gh_preV (As := []) M G (gh_rec M G haa251 rfl)) rfl rfl hl.1.1 rfl (lv_room (Nat.le_of_ble_eq_true rfl)) dL_law_1413 ⟨(by show _ ≤ 1203072; omega), (by show _ ≤ 5378346; omega)⟩) (fun E ce q9 h9 H9 locs9 hX G9 hce hcv hcl => hX.elim) (fun r252 h253 H locs hw G => ?_)
      refine W.widen (k := 29 + it28 * 440) (n := 5269 + it28 * 2551) (by omega) (by omega) ?_
      refine lv_iload hx hb dL_law_1416 (gh_at hl 1 rfl) ?_
      refine lv_icmp_eq (tgt := 1423) hx hb dL_law_1418 (by decide) (fun hc => ?_) (fun hc => ?_)
      · replace hw := hw.1 hc
        refine lv_iload hx hb dL_law_1423 (gh_at hl 1 rfl) ?_
        refine lv_if_ne (tgt := 1440) hx hb dL_law_1425 (by decide) (fun hc => ?_) (fun hc => ?_)
        · replace hw := hw.2 hc
          exact wk_L_law_1440 M hz0 hr k28 hit28 v0 v1 (some a248) v3 v4 v5 _ _ _ _ G (gh_sub hl [2, 3, 4, 5, 6, 7] rfl) hw
        · replace hw := hw.1 hc
          refine gh_aload_n hx hb dL_law_1428 rfl (gh_at hl 5 rfl) ?_
          refine lv_iconst (v := (0 : Int32)) hx hb dL_law_1429 (by decide) ?_
          refine gh_jal M G hw dL_law_1430 (fun x254 hw => ?_)
          refine lv_iload hx hb dL_law_1431 (gh_at hl 0 rfl) ?_
          refine lv_i2l (v := (r249.toInt64)) hx hb dL_law_1433 rfl ?_
          refine W.lcmp hx hb dL_law_1434 ?_
          refine lv_if_eq (tgt := 1440) hx hb dL_law_1435 (by decide) (fun hc => ?_) (fun hc => ?_)
          · replace hw := hw.1 hc
            exact wk_L_law_1440 M hz0 hr k28 hit28 v0 v1 (some a248) v3 v4 v5 _ _ _ _ G (gh_sub hl [2, 3, 4, 5, 6, 7] rfl) hw
          · replace hw := hw.2 hc
            refine lv_iconst (v := (0 : Int32)) hx hb dL_law_1438 (by decide) ?_
            exact gh_lawret M G hz0 hr hw (by omega) (by omega) dL_law_1439
      · replace hw := hw.2 hc
        refine lv_iconst (v := (0 : Int32)) hx hb dL_law_1421 (by decide) ?_
        exact gh_lawret M G hz0 hr hw (by omega) (by omega) dL_law_1422
    by_cases hc22 : (x2 &&& (31 : Int32)) = (22 : Int32)
    · replace hw := hw.2.2.2.2.2.2.2.2.2.2.2.2.2.2.2.2.2.2.2.2.2.2.1 hc22
      refine lv_tableIn (tgt := 1443) hx hb dL_law_44 (by rw [hc22]; decide) (by rw [hc22]; decide) (by rw [hc22]; rfl) (by decide) ?_
      refine gh_aload_n hx hb dL_law_1443 rfl (gh_at hl 1 rfl) ?_
      refine gh_aload_n hx hb dL_law_1444 rfl (gh_at hl 0 rfl) ?_
      refine lv_iload hx hb dL_law_1445 (gh_at hl 5 rfl) ?_
      refine lv_iconst (v := (1 : Int32)) hx hb dL_law_1447 (by decide) ?_
      refine lv_iadd hx hb dL_law_1448 ?_
      refine gh_ial M G hw dL_law_1449 (fun x255 hw => ?_)
      refine gh_aload_n hx hb dL_law_1450 rfl (gh_at hl 0 rfl) ?_
      refine lv_iload hx hb dL_law_1451 (gh_at hl 5 rfl) ?_
      refine lv_iconst (v := (2 : Int32)) hx hb dL_law_1453 (by decide) ?_
      refine lv_iadd hx hb dL_law_1454 ?_
      refine gh_ial M G hw dL_law_1455 (fun x256 hw => ?_)
      refine gh_aload_n hx hb dL_law_1456 rfl (gh_at hl 3 rfl) ?_
      refine gh_ki G (vx_runSX M.1 (met_X0_stateByReplay l D _ _ _ _ _ _ _ _ hw M.2.2.2.2.2) (vx_cwSW 4 (gh_Mts M) (lw_SW q1504 q1505 q40 q1506) rfl rfl rfl ⟨by decide, by decide, rfl⟩ ⟨Nat.le_of_ble_eq_true rfl, Nat.le_of_ble_eq_true rfl⟩) (gh_pre M G (As := [va_rf v1, .int x255, .int x256, va_rf v3])) rfl rfl hl.1.1 rfl (lv_room (Nat.le_of_ble_eq_true rfl)) dL_law_1457 ⟨(by show _ ≤ 1203072; omega), (by show _ ≤ 5378346; omega)⟩) (fun E ce q9 h9 H9 locs9 hX G9 hce hcv hcl => hX.elim) (fun r257 h258 H locs hw G => ?_)
      refine W.widen (k := 96 + it28 * 440) (n := 5669 + it28 * 2551) (by omega) (by omega) ?_
      refine gh_istore (lv' := [(6, 1, .int r257), (0, 1, va_rf v0), (1, 1, va_rf v1), (2, 1, va_rf v2), (3, 1, va_rf v3), (4, 1, va_rf v4), (5, 1, .int v5)]) hx hb dL_law_1460 hl (by decide) rfl (fun ls hl => ?_)
      refine gh_aload_n hx hb dL_law_1462 rfl (gh_at hl 3 rfl) ?_
      refine gh_aload_n hx hb dL_law_1463 rfl (gh_at hl 1 rfl) ?_
      refine lv_iload hx hb dL_law_1464 (gh_at hl 6 rfl) ?_
      refine lv_iconst (v := (1 : Int32)) hx hb dL_law_1466 (by decide) ?_
      refine lv_iadd hx hb dL_law_1467 ?_
      refine gh_ial M G hw dL_law_1468 (fun x259 hw => ?_)
      refine gh_aload_n hx hb dL_law_1469 rfl (gh_at hl 1 rfl) ?_
      refine lv_iload hx hb dL_law_1470 (gh_at hl 6 rfl) ?_
      refine lv_iconst (v := (2 : Int32)) hx hb dL_law_1472 (by decide) ?_
      refine lv_iadd hx hb dL_law_1473 ?_
      refine gh_ial M G hw dL_law_1474 (fun x260 hw => ?_)
      obtain ⟨a261, lba261, fsa261, rfl, haa261, hw⟩ := hw
      refine gh_ki G (vx_runV M.1 (met_X3_stateByReplay l D _ _ _ _ _ _ _ hw M.2.2.2.2.2) (cwV 2 (gh_Mts M) (lw_V q1821 q1822 q1823 q50 q1824) rfl rfl rfl ⟨rfl, by decide, by decide, rfl⟩ ⟨Nat.le_of_ble_eq_true rfl, Nat.le_of_ble_eq_true rfl⟩) (gh_preV (As := [.int x259, .int x260]) M G (gh_rec M G haa261 rfl)) rfl rfl hl.1.1 rfl (lv_room (Nat.le_of_ble_eq_true rfl)) dL_law_1475 ⟨(by show _ ≤ 1203072; omega), (by show _ ≤ 5378346; omega)⟩) (fun E ce q9 h9 H9 locs9 hX G9 hce hcv hcl => hX.elim) (fun r262 h263 H locs hw G => ?_)
      refine W.widen (k := 96 + it28 * 440) (n := 5669 + it28 * 2551) (by omega) (by omega) ?_
      refine gh_istore (lv' := [(7, 1, .int r262), (6, 1, .int r257), (0, 1, va_rf v0), (1, 1, va_rf v1), (2, 1, va_rf (some a261)), (3, 1, va_rf v3), (4, 1, va_rf v4), (5, 1, .int v5)]) hx hb dL_law_1478 hl (by decide) rfl (fun ls hl => ?_)
      refine gh_aload_n hx hb dL_law_1480 rfl (gh_at hl 4 rfl) ?_
      obtain ⟨a264, lba264, fsa264, hra264, haa264, hw⟩ := hw
      rw [← Option.some.inj hra264] at haa264
      refine gh_ki G (vx_runV M.1 (met_X3_thrown l D _ _ _ _ _ hw M.2.2.2.2.2) (cwV 0 (gh_Mts M) (lw_V q1649 q1650 q1651 q50 q1652) rfl rfl rfl ⟨rfl, by decide, by decide, rfl⟩ ⟨Nat.le_of_ble_eq_true rfl, Nat.le_of_ble_eq_true rfl⟩) (gh_preV (As := []) M G (gh_rec M G haa264 rfl)) rfl rfl hl.1.1 rfl (lv_room (Nat.le_of_ble_eq_true rfl)) dL_law_1481 ⟨(by show _ ≤ 1203072; omega), (by show _ ≤ 5378346; omega)⟩) (fun E ce q9 h9 H9 locs9 hX G9 hce hcv hcl => hX.elim) (fun r265 h266 H locs hw G => ?_)
      refine W.widen (k := 96 + it28 * 440) (n := 5669 + it28 * 2551) (by omega) (by omega) ?_
      refine lv_iload hx hb dL_law_1484 (gh_at hl 1 rfl) ?_
      refine lv_icmp_eq (tgt := 1491) hx hb dL_law_1486 (by decide) (fun hc => ?_) (fun hc => ?_)
      · replace hw := hw.1 hc
        refine lv_iload hx hb dL_law_1491 (gh_at hl 1 rfl) ?_
        refine lv_if_ne (tgt := 1508) hx hb dL_law_1493 (by decide) (fun hc => ?_) (fun hc => ?_)
        · replace hw := hw.2 hc
          exact wk_L_law_1508 M hz0 hr k28 hit28 v0 v1 (some a261) v3 v4 v5 _ _ _ _ G (gh_sub hl [2, 3, 4, 5, 6, 7] rfl) hw
        · replace hw := hw.1 hc
          refine gh_aload_n hx hb dL_law_1496 rfl (gh_at hl 5 rfl) ?_
          refine lv_iconst (v := (0 : Int32)) hx hb dL_law_1497 (by decide) ?_
          refine gh_jal M G hw dL_law_1498 (fun x267 hw => ?_)
          refine lv_iload hx hb dL_law_1499 (gh_at hl 0 rfl) ?_
          refine lv_i2l (v := (r262.toInt64)) hx hb dL_law_1501 rfl ?_
          refine W.lcmp hx hb dL_law_1502 ?_
          refine lv_if_eq (tgt := 1508) hx hb dL_law_1503 (by decide) (fun hc => ?_) (fun hc => ?_)
          · replace hw := hw.1 hc
            exact wk_L_law_1508 M hz0 hr k28 hit28 v0 v1 (some a261) v3 v4 v5 _ _ _ _ G (gh_sub hl [2, 3, 4, 5, 6, 7] rfl) hw
          · replace hw := hw.2 hc
            refine lv_iconst (v := (0 : Int32)) hx hb dL_law_1506 (by decide) ?_
            exact gh_lawret M G hz0 hr hw (by omega) (by omega) dL_law_1507
      · replace hw := hw.2 hc
        refine lv_iconst (v := (0 : Int32)) hx hb dL_law_1489 (by decide) ?_
        exact gh_lawret M G hz0 hr hw (by omega) (by omega) dL_law_1490
    by_cases hc23 : (x2 &&& (31 : Int32)) = (23 : Int32)
    · replace hw := hw.2.2.2.2.2.2.2.2.2.2.2.2.2.2.2.2.2.2.2.2.2.2.2.1 hc23
      refine lv_tableIn (tgt := 1511) hx hb dL_law_44 (by rw [hc23]; decide) (by rw [hc23]; decide) (by rw [hc23]; rfl) (by decide) ?_
      refine gh_aload_n hx hb dL_law_1511 rfl (gh_at hl 1 rfl) ?_
      refine gh_aload_n hx hb dL_law_1512 rfl (gh_at hl 0 rfl) ?_
      refine lv_iload hx hb dL_law_1513 (gh_at hl 5 rfl) ?_
      refine lv_iconst (v := (1 : Int32)) hx hb dL_law_1515 (by decide) ?_
      refine lv_iadd hx hb dL_law_1516 ?_
      refine gh_ial M G hw dL_law_1517 (fun x268 hw => ?_)
      refine gh_aload_n hx hb dL_law_1518 rfl (gh_at hl 3 rfl) ?_
      refine gh_ki G (vx_runSX M.1 (met_X0_outdated l D _ _ _ _ _ _ _ hw M.2.2.2.2.2) (vx_cwSW 3 (gh_Mts M) (lw_SW q1512 q1513 q40 q1514) rfl rfl rfl ⟨by decide, by decide, rfl⟩ ⟨Nat.le_of_ble_eq_true rfl, Nat.le_of_ble_eq_true rfl⟩) (gh_pre M G (As := [va_rf v1, .int x268, va_rf v3])) rfl rfl hl.1.1 rfl (lv_room (Nat.le_of_ble_eq_true rfl)) dL_law_1519 ⟨(by show _ ≤ 1203072; omega), (by show _ ≤ 5378346; omega)⟩) (fun E ce q9 h9 H9 locs9 hX G9 hce hcv hcl => hX.elim) (fun r269 h270 H locs hw G => ?_)
      refine W.widen (k := 95 + it28 * 440) (n := 5663 + it28 * 2551) (by omega) (by omega) ?_
      refine gh_istore (lv' := [(6, 1, .int r269), (0, 1, va_rf v0), (1, 1, va_rf v1), (2, 1, va_rf v2), (3, 1, va_rf v3), (4, 1, va_rf v4), (5, 1, .int v5)]) hx hb dL_law_1522 hl (by decide) rfl (fun ls hl => ?_)
      refine gh_aload_n hx hb dL_law_1524 rfl (gh_at hl 3 rfl) ?_
      refine gh_aload_n hx hb dL_law_1525 rfl (gh_at hl 1 rfl) ?_
      refine lv_iload hx hb dL_law_1526 (gh_at hl 6 rfl) ?_
      refine lv_iconst (v := (1 : Int32)) hx hb dL_law_1528 (by decide) ?_
      refine lv_iadd hx hb dL_law_1529 ?_
      refine gh_ial M G hw dL_law_1530 (fun x271 hw => ?_)
      obtain ⟨a272, lba272, fsa272, rfl, haa272, hw⟩ := hw
      refine gh_ki G (vx_runV M.1 (met_X3_outdated l D _ _ _ _ _ _ hw M.2.2.2.2.2) (cwV 1 (gh_Mts M) (lw_V q1826 q1827 q1828 q50 q1829) rfl rfl rfl ⟨rfl, by decide, by decide, rfl⟩ ⟨Nat.le_of_ble_eq_true rfl, Nat.le_of_ble_eq_true rfl⟩) (gh_preV (As := [.int x271]) M G (gh_rec M G haa272 rfl)) rfl rfl hl.1.1 rfl (lv_room (Nat.le_of_ble_eq_true rfl)) dL_law_1531 ⟨(by show _ ≤ 1203072; omega), (by show _ ≤ 5378346; omega)⟩) (fun E ce q9 h9 H9 locs9 hX G9 hce hcv hcl => hX.elim) (fun r273 h274 H locs hw G => ?_)
      refine W.widen (k := 95 + it28 * 440) (n := 5663 + it28 * 2551) (by omega) (by omega) ?_
      refine gh_istore (lv' := [(7, 1, .int r273), (6, 1, .int r269), (0, 1, va_rf v0), (1, 1, va_rf v1), (2, 1, va_rf (some a272)), (3, 1, va_rf v3), (4, 1, va_rf v4), (5, 1, .int v5)]) hx hb dL_law_1534 hl (by decide) rfl (fun ls hl => ?_)
      refine gh_aload_n hx hb dL_law_1536 rfl (gh_at hl 4 rfl) ?_
      obtain ⟨a275, lba275, fsa275, hra275, haa275, hw⟩ := hw
      rw [← Option.some.inj hra275] at haa275
      refine gh_ki G (vx_runV M.1 (met_X3_thrown l D _ _ _ _ _ hw M.2.2.2.2.2) (cwV 0 (gh_Mts M) (lw_V q1649 q1650 q1651 q50 q1652) rfl rfl rfl ⟨rfl, by decide, by decide, rfl⟩ ⟨Nat.le_of_ble_eq_true rfl, Nat.le_of_ble_eq_true rfl⟩) (gh_preV (As := []) M G (gh_rec M G haa275 rfl)) rfl rfl hl.1.1 rfl (lv_room (Nat.le_of_ble_eq_true rfl)) dL_law_1537 ⟨(by show _ ≤ 1203072; omega), (by show _ ≤ 5378346; omega)⟩) (fun E ce q9 h9 H9 locs9 hX G9 hce hcv hcl => hX.elim) (fun r276 h277 H locs hw G => ?_)
      refine W.widen (k := 95 + it28 * 440) (n := 5663 + it28 * 2551) (by omega) (by omega) ?_
      refine lv_iload hx hb dL_law_1540 (gh_at hl 1 rfl) ?_
      refine lv_icmp_eq (tgt := 1547) hx hb dL_law_1542 (by decide) (fun hc => ?_) (fun hc => ?_)
      · replace hw := hw.1 hc
        refine lv_iload hx hb dL_law_1547 (gh_at hl 1 rfl) ?_
        refine lv_if_ne (tgt := 1564) hx hb dL_law_1549 (by decide) (fun hc => ?_) (fun hc => ?_)
        · replace hw := hw.2 hc
          exact wk_L_law_1564 M hz0 hr k28 hit28 v0 v1 (some a272) v3 v4 v5 _ _ _ _ G (gh_sub hl [2, 3, 4, 5, 6, 7] rfl) hw
        · replace hw := hw.1 hc
          refine gh_aload_n hx hb dL_law_1552 rfl (gh_at hl 5 rfl) ?_
          refine lv_iconst (v := (0 : Int32)) hx hb dL_law_1553 (by decide) ?_
          refine gh_jal M G hw dL_law_1554 (fun x278 hw => ?_)
          refine lv_iload hx hb dL_law_1555 (gh_at hl 0 rfl) ?_
          refine lv_i2l (v := (r273.toInt64)) hx hb dL_law_1557 rfl ?_
          refine W.lcmp hx hb dL_law_1558 ?_
          refine lv_if_eq (tgt := 1564) hx hb dL_law_1559 (by decide) (fun hc => ?_) (fun hc => ?_)
          · replace hw := hw.1 hc
            exact wk_L_law_1564 M hz0 hr k28 hit28 v0 v1 (some a272) v3 v4 v5 _ _ _ _ G (gh_sub hl [2, 3, 4, 5, 6, 7] rfl) hw
          · replace hw := hw.2 hc
            refine lv_iconst (v := (0 : Int32)) hx hb dL_law_1562 (by decide) ?_
            exact gh_lawret M G hz0 hr hw (by omega) (by omega) dL_law_1563
      · replace hw := hw.2 hc
        refine lv_iconst (v := (0 : Int32)) hx hb dL_law_1545 (by decide) ?_
        exact gh_lawret M G hz0 hr hw (by omega) (by omega) dL_law_1546
    by_cases hc24 : (x2 &&& (31 : Int32)) = (24 : Int32)
    · replace hw := hw.2.2.2.2.2.2.2.2.2.2.2.2.2.2.2.2.2.2.2.2.2.2.2.2.1 hc24
      refine lv_tableIn (tgt := 1567) hx hb dL_law_44 (by rw [hc24]; decide) (by rw [hc24]; decide) (by rw [hc24]; rfl) (by decide) ?_
      refine gh_aload_n hx hb dL_law_1567 rfl (gh_at hl 1 rfl) ?_
      obtain ⟨a279, lba279, fsa279, rfl, haa279, hw⟩ := hw
      refine gh_kl G (vx_runV M.1 (met_X1_waste l D _ _ _ _ _ hw M.2.2.2.2.2) (cwV 0 (gh_Mts M) (lw_V q248 q249 q250 q41 q251) rfl rfl rfl ⟨rfl, by decide, by decide, rfl⟩ ⟨Nat.le_of_ble_eq_true rfl, Nat.le_of_ble_eq_true rfl⟩) (gh_preV (As := []) M G (gh_rec M G haa279 rfl)) rfl rfl hl.1.1 rfl (lv_room (Nat.le_of_ble_eq_true rfl)) dL_law_1568 ⟨(by show _ ≤ 1203072; omega), (by show _ ≤ 5378346; omega)⟩) (fun E ce q9 h9 H9 locs9 hX G9 hce hcv hcl => hX.elim) (fun r280 h281 H locs hw G => ?_)
      refine W.widen (k := 27 + it28 * 440) (n := 5257 + it28 * 2551) (by omega) (by omega) ?_
      refine gh_aload_n hx hb dL_law_1571 rfl (gh_at hl 2 rfl) ?_
      obtain ⟨a282, lba282, fsa282, rfl, haa282, hw⟩ := hw
      refine gh_kl G (vx_runV M.1 (met_X3_waste l D _ _ _ _ _ hw M.2.2.2.2.2) (cwV 0 (gh_Mts M) (lw_V q1830 q1831 q1832 q50 q1833) rfl rfl rfl ⟨rfl, by decide, by decide, rfl⟩ ⟨Nat.le_of_ble_eq_true rfl, Nat.le_of_ble_eq_true rfl⟩) (gh_preV (As := []) M G (gh_rec M G haa282 rfl)) rfl rfl hl.1.1 rfl (lv_room (Nat.le_of_ble_eq_true rfl)) dL_law_1572 ⟨(by show _ ≤ 1203072; omega), (by show _ ≤ 5378346; omega)⟩) (fun E ce q9 h9 H9 locs9 hX G9 hce hcv hcl => hX.elim) (fun r283 h284 H locs hw G => ?_)
      refine W.widen (k := 27 + it28 * 440) (n := 5257 + it28 * 2551) (by omega) (by omega) ?_
      refine W.lcmp hx hb dL_law_1575 ?_
      refine lv_if_eq (tgt := 1712) hx hb dL_law_1576 (by decide) (fun hc => ?_) (fun hc => ?_)
      · replace hw := hw.1 hc
        refine W.widen (k := 467 + it28 * 440) (n := 7808 + it28 * 2551) (by omega) (by omega) ?_
        exact wk_L_law_1712 M hz0 hr k28 hit28 v0 (some a279) (some a282) v3 v4 v5 _ _ _ _ G (gh_sub hl [0, 1, 2, 3, 4, 5] rfl) hw
      · replace hw := hw.2 hc
        refine lv_iconst (v := (0 : Int32)) hx hb dL_law_1579 (by decide) ?_
        exact gh_lawret M G hz0 hr hw (by omega) (by omega) dL_law_1580
    by_cases hc25 : (x2 &&& (31 : Int32)) = (25 : Int32)
    · replace hw := hw.2.2.2.2.2.2.2.2.2.2.2.2.2.2.2.2.2.2.2.2.2.2.2.2.2.1 hc25
      refine lv_tableIn (tgt := 1581) hx hb dL_law_44 (by rw [hc25]; decide) (by rw [hc25]; decide) (by rw [hc25]; rfl) (by decide) ?_
      refine gh_aload_n hx hb dL_law_1581 rfl (gh_at hl 1 rfl) ?_
      refine gh_aload hx hb dL_law_1582 (gh_at hl 4 rfl) ?_
      refine gh_ki G (vx_runSX M.1 (met_X0_wasteShare l D _ _ _ _ _ _ hw M.2.2.2.2.2) (vx_cwSW 2 (gh_Mts M) (lw_SW q1530 q1531 q40 q1532) rfl rfl rfl ⟨by decide, by decide, rfl⟩ ⟨Nat.le_of_ble_eq_true rfl, Nat.le_of_ble_eq_true rfl⟩) (gh_pre M G (As := [va_rf v1, va_rf v4])) rfl rfl hl.1.1 rfl (lv_room (Nat.le_of_ble_eq_true rfl)) dL_law_1584 ⟨(by show _ ≤ 1203072; omega), (by show _ ≤ 5378346; omega)⟩) (fun E ce q9 h9 H9 locs9 hX G9 hce hcv hcl => hX.elim) (fun r285 h286 H locs hw G => ?_)
      refine W.widen (k := 28 + it28 * 440) (n := 5263 + it28 * 2551) (by omega) (by omega) ?_
      refine gh_istore (lv' := [(6, 1, .int r285), (0, 1, va_rf v0), (1, 1, va_rf v1), (2, 1, va_rf v2), (3, 1, va_rf v3), (4, 1, va_rf v4), (5, 1, .int v5)]) hx hb dL_law_1587 hl (by decide) rfl (fun ls hl => ?_)
      refine gh_aload_n hx hb dL_law_1589 rfl (gh_at hl 3 rfl) ?_
      obtain ⟨a287, lba287, fsa287, rfl, haa287, hw⟩ := hw
      refine gh_kf G (vx_runV M.1 (met_X3_wasteShare l D _ _ _ _ _ hw M.2.2.2.2.2) (cwV 0 (gh_Mts M) (lw_V q1834 q1835 q1836 q50 q1837) rfl rfl rfl ⟨rfl, by decide, by decide, rfl⟩ ⟨Nat.le_of_ble_eq_true rfl, Nat.le_of_ble_eq_true rfl⟩) (gh_preV (As := []) M G (gh_rec M G haa287 rfl)) rfl rfl hl.1.1 rfl (lv_room (Nat.le_of_ble_eq_true rfl)) dL_law_1590 ⟨(by show _ ≤ 1203072; omega), (by show _ ≤ 5378346; omega)⟩) (fun E ce q9 h9 H9 locs9 hX G9 hce hcv hcl => hX.elim) (fun r288 h289 H locs hw G => ?_)
      refine W.widen (k := 28 + it28 * 440) (n := 5263 + it28 * 2551) (by omega) (by omega) ?_
      refine gh_fstore (lv' := [(7, 1, .float r288), (6, 1, .int r285), (0, 1, va_rf v0), (1, 1, va_rf v1), (2, 1, va_rf (some a287)), (3, 1, va_rf v3), (4, 1, va_rf v4), (5, 1, .int v5)]) hx hb dL_law_1593 hl (by decide) rfl (fun ls hl => ?_)
      refine gh_aload_n hx hb dL_law_1595 rfl (gh_at hl 4 rfl) ?_
      obtain ⟨a290, lba290, fsa290, hra290, haa290, hw⟩ := hw
      rw [← Option.some.inj hra290] at haa290
      refine gh_ki G (vx_runV M.1 (met_X3_thrown l D _ _ _ _ _ hw M.2.2.2.2.2) (cwV 0 (gh_Mts M) (lw_V q1649 q1650 q1651 q50 q1652) rfl rfl rfl ⟨rfl, by decide, by decide, rfl⟩ ⟨Nat.le_of_ble_eq_true rfl, Nat.le_of_ble_eq_true rfl⟩) (gh_preV (As := []) M G (gh_rec M G haa290 rfl)) rfl rfl hl.1.1 rfl (lv_room (Nat.le_of_ble_eq_true rfl)) dL_law_1596 ⟨(by show _ ≤ 1203072; omega), (by show _ ≤ 5378346; omega)⟩) (fun E ce q9 h9 H9 locs9 hX G9 hce hcv hcl => hX.elim) (fun r291 h292 H locs hw G => ?_)
      refine W.widen (k := 28 + it28 * 440) (n := 5263 + it28 * 2551) (by omega) (by omega) ?_
      refine lv_iload hx hb dL_law_1599 (gh_at hl 1 rfl) ?_
      refine lv_icmp_eq (tgt := 1606) hx hb dL_law_1601 (by decide) (fun hc => ?_) (fun hc => ?_)
      · replace hw := hw.1 hc
        refine lv_iload hx hb dL_law_1606 (gh_at hl 1 rfl) ?_
        refine lv_if_ne (tgt := 1644) hx hb dL_law_1608 (by decide) (fun hc => ?_) (fun hc => ?_)
        · replace hw := hw.2 hc
          exact wk_L_law_1644 M hz0 hr k28 hit28 v0 v1 (some a287) v3 v4 v5 _ _ _ _ G (gh_sub hl [2, 3, 4, 5, 6, 7] rfl) hw
        · replace hw := hw.1 hc
          refine gh_aload hx hb dL_law_1611 (gh_at hl 6 rfl) ?_
          refine lv_iconst (v := (0 : Int32)) hx hb dL_law_1613 (by decide) ?_
          refine gh_dal M G hw dL_law_1614 (fun x293 hw => ?_)
          refine lv_fload hx hb dL_law_1615 (gh_at hl 0 rfl) ?_
          refine lv_f2d hx hb dL_law_1617 hw.1 ?_
          replace hw := hw.2
          refine lv_dcmp hx hb dL_law_1618 ?_
          refine lv_if_eq (tgt := 1644) hx hb dL_law_1619 (by decide) (fun hc => ?_) (fun hc => ?_)
          · replace hw := hw.1 hc
            exact wk_L_law_1644 M hz0 hr k28 hit28 v0 v1 (some a287) v3 v4 v5 _ _ _ _ G (gh_sub hl [2, 3, 4, 5, 6, 7] rfl) hw
          · replace hw := hw.2 hc
            refine gh_aload hx hb dL_law_1622 (gh_at hl 6 rfl) ?_
            refine lv_iconst (v := (0 : Int32)) hx hb dL_law_1624 (by decide) ?_
            refine gh_dal M G hw dL_law_1625 (fun x294 hw => ?_)
            refine gh_aload hx hb dL_law_1626 (gh_at hl 6 rfl) ?_
            refine lv_iconst (v := (0 : Int32)) hx hb dL_law_1628 (by decide) ?_
            refine gh_dal M G hw dL_law_1629 (fun x295 hw => ?_)
            refine lv_dcmp hx hb dL_law_1630 ?_
            refine lv_if_eq (tgt := 1642) hx hb dL_law_1631 (by decide) (fun hc => ?_) (fun hc => ?_)
            · replace hw := hw.1 hc
              refine W.widen (k := 28188) (n := 168527) (by omega) (by omega) ?_
              exact wk_L_law_1642 M hz0 hr   _ _ _ _ G (gh_sub hl [] rfl) hw
            · replace hw := hw.2 hc
              refine lv_fload hx hb dL_law_1634 (gh_at hl 0 rfl) ?_
              refine lv_fload hx hb dL_law_1636 (gh_at hl 0 rfl) ?_
              refine lv_fcmp hx hb dL_law_1638 ?_
              refine lv_if_ne (tgt := 1644) hx hb dL_law_1639 (by decide) (fun hc => ?_) (fun hc => ?_)
              · replace hw := hw.2 hc
                exact wk_L_law_1644 M hz0 hr k28 hit28 v0 v1 (some a287) v3 v4 v5 _ _ _ _ G (gh_sub hl [2, 3, 4, 5, 6, 7] rfl) hw
              · replace hw := hw.1 hc
                refine W.widen (k := 28188) (n := 168527) (by omega) (by omega) ?_
                exact wk_L_law_1642 M hz0 hr   _ _ _ _ G (gh_sub hl [] rfl) hw
      · replace hw := hw.2 hc
        refine lv_iconst (v := (0 : Int32)) hx hb dL_law_1604 (by decide) ?_
        exact gh_lawret M G hz0 hr hw (by omega) (by omega) dL_law_1605
    by_cases hc26 : (x2 &&& (31 : Int32)) = (26 : Int32)
    · replace hw := hw.2.2.2.2.2.2.2.2.2.2.2.2.2.2.2.2.2.2.2.2.2.2.2.2.2.2.1 hc26
      refine lv_tableIn (tgt := 1647) hx hb dL_law_44 (by rw [hc26]; decide) (by rw [hc26]; decide) (by rw [hc26]; rfl) (by decide) ?_
      refine gh_aload_n hx hb dL_law_1647 rfl (gh_at hl 1 rfl) ?_
      refine gh_aload hx hb dL_law_1648 (gh_at hl 4 rfl) ?_
      refine gh_ki G (vx_runSX M.1 (met_X0_meanMakeready l D _ _ _ _ _ _ hw M.2.2.2.2.2) (vx_cwSW 2 (gh_Mts M) (lw_SW q1556 q1557 q40 q1558) rfl rfl rfl ⟨by decide, by decide, rfl⟩ ⟨Nat.le_of_ble_eq_true rfl, Nat.le_of_ble_eq_true rfl⟩) (gh_pre M G (As := [va_rf v1, va_rf v4])) rfl rfl hl.1.1 rfl (lv_room (Nat.le_of_ble_eq_true rfl)) dL_law_1650 ⟨(by show _ ≤ 1203072; omega), (by show _ ≤ 5378346; omega)⟩) (fun E ce q9 h9 H9 locs9 hX G9 hce hcv hcl => hX.elim) (fun r296 h297 H locs hw G => ?_)
      refine W.widen (k := 28 + it28 * 440) (n := 5263 + it28 * 2551) (by omega) (by omega) ?_
      refine gh_istore (lv' := [(6, 1, .int r296), (0, 1, va_rf v0), (1, 1, va_rf v1), (2, 1, va_rf v2), (3, 1, va_rf v3), (4, 1, va_rf v4), (5, 1, .int v5)]) hx hb dL_law_1653 hl (by decide) rfl (fun ls hl => ?_)
      refine gh_aload_n hx hb dL_law_1655 rfl (gh_at hl 3 rfl) ?_
      obtain ⟨a298, lba298, fsa298, rfl, haa298, hw⟩ := hw
      refine gh_kd G (vx_runV M.1 (met_X3_meanMakeready l D _ _ _ _ _ hw M.2.2.2.2.2) (cwV 0 (gh_Mts M) (lw_V q1838 q1839 q1840 q50 q1841) rfl rfl rfl ⟨rfl, by decide, by decide, rfl⟩ ⟨Nat.le_of_ble_eq_true rfl, Nat.le_of_ble_eq_true rfl⟩) (gh_preV (As := []) M G (gh_rec M G haa298 rfl)) rfl rfl hl.1.1 rfl (lv_room (Nat.le_of_ble_eq_true rfl)) dL_law_1656 ⟨(by show _ ≤ 1203072; omega), (by show _ ≤ 5378346; omega)⟩) (fun E ce q9 h9 H9 locs9 hX G9 hce hcv hcl => hX.elim) (fun r299 h300 H locs hw G => ?_)
      refine W.widen (k := 28 + it28 * 440) (n := 5263 + it28 * 2551) (by omega) (by omega) ?_
      refine gh_dstore (lv' := [(7, 2, .double r299), (6, 1, .int r296), (0, 1, va_rf v0), (1, 1, va_rf v1), (2, 1, va_rf (some a298)), (3, 1, va_rf v3), (4, 1, va_rf v4), (5, 1, .int v5)]) hx hb dL_law_1659 hl (by decide) rfl (fun ls hl => ?_)
      refine gh_aload_n hx hb dL_law_1661 rfl (gh_at hl 4 rfl) ?_
      obtain ⟨a301, lba301, fsa301, hra301, haa301, hw⟩ := hw
      rw [← Option.some.inj hra301] at haa301
      refine gh_ki G (vx_runV M.1 (met_X3_thrown l D _ _ _ _ _ hw M.2.2.2.2.2) (cwV 0 (gh_Mts M) (lw_V q1649 q1650 q1651 q50 q1652) rfl rfl rfl ⟨rfl, by decide, by decide, rfl⟩ ⟨Nat.le_of_ble_eq_true rfl, Nat.le_of_ble_eq_true rfl⟩) (gh_preV (As := []) M G (gh_rec M G haa301 rfl)) rfl rfl hl.1.1 rfl (lv_room (Nat.le_of_ble_eq_true rfl)) dL_law_1662 ⟨(by show _ ≤ 1203072; omega), (by show _ ≤ 5378346; omega)⟩) (fun E ce q9 h9 H9 locs9 hX G9 hce hcv hcl => hX.elim) (fun r302 h303 H locs hw G => ?_)
      refine W.widen (k := 28 + it28 * 440) (n := 5263 + it28 * 2551) (by omega) (by omega) ?_
      refine lv_iload hx hb dL_law_1665 (gh_at hl 1 rfl) ?_
      refine lv_icmp_eq (tgt := 1672) hx hb dL_law_1667 (by decide) (fun hc => ?_) (fun hc => ?_)
      · replace hw := hw.1 hc
        refine lv_iload hx hb dL_law_1672 (gh_at hl 1 rfl) ?_
        refine lv_if_ne (tgt := 1709) hx hb dL_law_1674 (by decide) (fun hc => ?_) (fun hc => ?_)
        · replace hw := hw.2 hc
          exact wk_L_law_1709 M hz0 hr k28 hit28 v0 v1 (some a298) v3 v4 v5 _ _ _ _ G (gh_sub hl [2, 3, 4, 5, 6, 7] rfl) hw
        · replace hw := hw.1 hc
          refine gh_aload hx hb dL_law_1677 (gh_at hl 6 rfl) ?_
          refine lv_iconst (v := (0 : Int32)) hx hb dL_law_1679 (by decide) ?_
          refine gh_dal M G hw dL_law_1680 (fun x304 hw => ?_)
          refine lv_dload hx hb dL_law_1681 (gh_at hl 0 rfl) ?_
          refine lv_dcmp hx hb dL_law_1683 ?_
          refine lv_if_eq (tgt := 1709) hx hb dL_law_1684 (by decide) (fun hc => ?_) (fun hc => ?_)
          · replace hw := hw.1 hc
            exact wk_L_law_1709 M hz0 hr k28 hit28 v0 v1 (some a298) v3 v4 v5 _ _ _ _ G (gh_sub hl [2, 3, 4, 5, 6, 7] rfl) hw
          · replace hw := hw.2 hc
            refine gh_aload hx hb dL_law_1687 (gh_at hl 6 rfl) ?_
            refine lv_iconst (v := (0 : Int32)) hx hb dL_law_1689 (by decide) ?_
            refine gh_dal M G hw dL_law_1690 (fun x305 hw => ?_)
            refine gh_aload hx hb dL_law_1691 (gh_at hl 6 rfl) ?_
            refine lv_iconst (v := (0 : Int32)) hx hb dL_law_1693 (by decide) ?_
            refine gh_dal M G hw dL_law_1694 (fun x306 hw => ?_)
            refine lv_dcmp hx hb dL_law_1695 ?_
            refine lv_if_eq (tgt := 1707) hx hb dL_law_1696 (by decide) (fun hc => ?_) (fun hc => ?_)
            · replace hw := hw.1 hc
              refine W.widen (k := 28188) (n := 168527) (by omega) (by omega) ?_
              exact wk_L_law_1707 M hz0 hr   _ _ _ _ G (gh_sub hl [] rfl) hw
            · replace hw := hw.2 hc
              refine lv_dload hx hb dL_law_1699 (gh_at hl 0 rfl) ?_
              refine lv_dload hx hb dL_law_1701 (gh_at hl 0 rfl) ?_
              refine lv_dcmp hx hb dL_law_1703 ?_
              refine lv_if_ne (tgt := 1709) hx hb dL_law_1704 (by decide) (fun hc => ?_) (fun hc => ?_)
              · replace hw := hw.2 hc
                exact wk_L_law_1709 M hz0 hr k28 hit28 v0 v1 (some a298) v3 v4 v5 _ _ _ _ G (gh_sub hl [2, 3, 4, 5, 6, 7] rfl) hw
              · replace hw := hw.1 hc
                refine W.widen (k := 28188) (n := 168527) (by omega) (by omega) ?_
                exact wk_L_law_1707 M hz0 hr   _ _ _ _ G (gh_sub hl [] rfl) hw
      · replace hw := hw.2 hc
        refine lv_iconst (v := (0 : Int32)) hx hb dL_law_1670 (by decide) ?_
        exact gh_lawret M G hz0 hr hw (by omega) (by omega) dL_law_1671
    replace hw := hw.2.2.2.2.2.2.2.2.2.2.2.2.2.2.2.2.2.2.2.2.2.2.2.2.2.2.2 ⟨hc0, hc1, hc2, hc3, hc4, hc5, hc6, hc7, hc8, hc9, hc10, hc11, hc12, hc13, hc14, hc15, hc16, hc17, hc18, hc19, hc20, hc21, hc22, hc23, hc24, hc25, hc26⟩
    refine lv_tableOut (tgt := 1712) hx hb dL_law_44 (by have q0 : ¬ (x2 &&& (31 : Int32)).toInt = 0 := fun z => hc0 (Int32.toInt_inj.mp (z.trans rfl)); have q1 : ¬ (x2 &&& (31 : Int32)).toInt = 1 := fun z => hc1 (Int32.toInt_inj.mp (z.trans rfl)); have q2 : ¬ (x2 &&& (31 : Int32)).toInt = 2 := fun z => hc2 (Int32.toInt_inj.mp (z.trans rfl)); have q3 : ¬ (x2 &&& (31 : Int32)).toInt = 3 := fun z => hc3 (Int32.toInt_inj.mp (z.trans rfl)); have q4 : ¬ (x2 &&& (31 : Int32)).toInt = 4 := fun z => hc4 (Int32.toInt_inj.mp (z.trans rfl)); have q5 : ¬ (x2 &&& (31 : Int32)).toInt = 5 := fun z => hc5 (Int32.toInt_inj.mp (z.trans rfl)); have q6 : ¬ (x2 &&& (31 : Int32)).toInt = 6 := fun z => hc6 (Int32.toInt_inj.mp (z.trans rfl)); have q7 : ¬ (x2 &&& (31 : Int32)).toInt = 7 := fun z => hc7 (Int32.toInt_inj.mp (z.trans rfl)); have q8 : ¬ (x2 &&& (31 : Int32)).toInt = 8 := fun z => hc8 (Int32.toInt_inj.mp (z.trans rfl)); have q9 : ¬ (x2 &&& (31 : Int32)).toInt = 9 := fun z => hc9 (Int32.toInt_inj.mp (z.trans rfl)); have q10 : ¬ (x2 &&& (31 : Int32)).toInt = 10 := fun z => hc10 (Int32.toInt_inj.mp (z.trans rfl)); have q11 : ¬ (x2 &&& (31 : Int32)).toInt = 11 := fun z => hc11 (Int32.toInt_inj.mp (z.trans rfl)); have q12 : ¬ (x2 &&& (31 : Int32)).toInt = 12 := fun z => hc12 (Int32.toInt_inj.mp (z.trans rfl)); have q13 : ¬ (x2 &&& (31 : Int32)).toInt = 13 := fun z => hc13 (Int32.toInt_inj.mp (z.trans rfl)); have q14 : ¬ (x2 &&& (31 : Int32)).toInt = 14 := fun z => hc14 (Int32.toInt_inj.mp (z.trans rfl)); have q15 : ¬ (x2 &&& (31 : Int32)).toInt = 15 := fun z => hc15 (Int32.toInt_inj.mp (z.trans rfl)); have q16 : ¬ (x2 &&& (31 : Int32)).toInt = 16 := fun z => hc16 (Int32.toInt_inj.mp (z.trans rfl)); have q17 : ¬ (x2 &&& (31 : Int32)).toInt = 17 := fun z => hc17 (Int32.toInt_inj.mp (z.trans rfl)); have q18 : ¬ (x2 &&& (31 : Int32)).toInt = 18 := fun z => hc18 (Int32.toInt_inj.mp (z.trans rfl)); have q19 : ¬ (x2 &&& (31 : Int32)).toInt = 19 := fun z => hc19 (Int32.toInt_inj.mp (z.trans rfl)); have q20 : ¬ (x2 &&& (31 : Int32)).toInt = 20 := fun z => hc20 (Int32.toInt_inj.mp (z.trans rfl)); have q21 : ¬ (x2 &&& (31 : Int32)).toInt = 21 := fun z => hc21 (Int32.toInt_inj.mp (z.trans rfl)); have q22 : ¬ (x2 &&& (31 : Int32)).toInt = 22 := fun z => hc22 (Int32.toInt_inj.mp (z.trans rfl)); have q23 : ¬ (x2 &&& (31 : Int32)).toInt = 23 := fun z => hc23 (Int32.toInt_inj.mp (z.trans rfl)); have q24 : ¬ (x2 &&& (31 : Int32)).toInt = 24 := fun z => hc24 (Int32.toInt_inj.mp (z.trans rfl)); have q25 : ¬ (x2 &&& (31 : Int32)).toInt = 25 := fun z => hc25 (Int32.toInt_inj.mp (z.trans rfl)); have q26 : ¬ (x2 &&& (31 : Int32)).toInt = 26 := fun z => hc26 (Int32.toInt_inj.mp (z.trans rfl)); omega) (by decide) ?_
    refine W.widen (k := 467 + it28 * 440) (n := 7808 + it28 * 2551) (by omega) (by omega) ?_
    exact wk_L_law_1712 M hz0 hr k28 hit28 v0 v1 v2 v3 v4 v5 _ _ _ _ G (gh_sub hl [0, 1, 2, 3, 4, 5] rfl) hw
theorem wk_L_law_28 {D : gh_D} {p : Program} {l : Launch} {e : Env} {s : State} {m : MethodId} {b0 : Nat} {below : List Frame} {meth : Method} {c : Code} {h0 : gh_H} (M : gh_M D p l s m #[Value.ref b0] meth c R_law code 9 (gh_A h0 s.heap.size)) (hz0 : ∀ (a lb : Nat) (e : gh_C), h0 a = some (lb, e) → lb = 0) (hr : meth.sig.returnType = some .boolean)      : ∀ (n : Nat) (it28 : Nat) (v0 : Option Nat) (v1 : Option Nat) (v2 : Option Nat) (v3 : Option Nat) (v4 : Option Nat) (v5 : Int32) (H : Heap) (locs : List Loc) (ls : Array Slot) (h : gh_H) (_ : gh_Inv D h0 (gh_A h0 s.heap.size) s.heap s H locs h) (_ : gh_L ls 9 [(0, 1, va_rf v0), (1, 1, va_rf v1), (2, 1, va_rf v2), (3, 1, va_rf v3), (4, 1, va_rf v4), (5, 1, .int v5)]) (_ : wl_L_law_28 D.2.2 n it28 v0 v1 v2 v3 v4 v5 h), W p l e room_1 s m #[Value.ref b0] below meth c H locs (27 + it28 * 440) (5257 + it28 * 2551) (lw_Z below #[Value.ref b0] s) (F0 m 28 ls []) := by
  intro fu
  induction fu with
  | zero => intro it28 v0 v1 v2 v3 v4 v5 H locs ls h G hl hw; exact False.elim hw
  | succ n1 ih =>
    intro it28 v0 v1 v2 v3 v4 v5 H locs ls h G hl hw
    obtain ⟨hi, hw⟩ := hw
    exact wk1_L_law_28 M hz0 hr ih hi v0 v1 v2 v3 v4 v5 _ _ _ _ G hl hw
set_option maxHeartbeats 4000000 in
theorem met_L_law {D : gh_D} {p : Program} {l : Launch} {e : Env} {s : State} {m : MethodId} {b0 : Nat} {below : List Frame} {meth : Method} {c : Code} {h0 : gh_H} (M : gh_M D p l s m #[Value.ref b0] meth c R_law code 9 (gh_A h0 s.heap.size)) (hz0 : ∀ (a lb : Nat) (e : gh_C), h0 a = some (lb, e) → lb = 0) (hr : meth.sig.returnType = some .boolean) (v0 : Option Nat) (ls : Array Slot) (h : gh_H) (G : gh_Inv D h0 (gh_A h0 s.heap.size) s.heap s s.heap [] h) (hl : gh_L ls 9 [(0, 1, va_rf v0)]) (hw : wp_L_law D.2.2 v0 h) : W p l e room_1 s m #[Value.ref b0] below meth c s.heap [] 0 0 (lw_Z below #[Value.ref b0] s) (F0 m 0 ls []) := by
  unfold wp_L_law at hw
  have hx := M.1.1
  have hb := M.1.2.1
  refine gh_new (N := 11) (r := (RX1, TX1, 11)) (ci := 0) (fs := [va_rf none, va_rf none, va_rf none, va_rf none, va_rf none, va_rf none, va_rf none, .int 0, .long 0, va_rf none, va_rf none]) M G hw tyX1 tyX1_ok q85 q86 q41 rfl rfl nd_X1 (Nat.le_of_ble_eq_true rfl) (Nat.le_of_ble_eq_true rfl) dL_law_0 (fun q1 h2 H hw G => ?_)
  refine lv_dup hx hb dL_law_3 (gh_cat _) ?_
  refine gh_kv G (vx_runI M.1 (met_X1_init l D _ _ _ _ _ hw M.2.2.2.2.2) (cwI 0 (gh_Mts M) (lw_meth q89) rfl rfl rfl (gh_Mts M _ q41) (gh_Mts M _ q87) (gh_Mts M _ q88) rfl ⟨by decide, by decide, rfl⟩ ⟨Nat.le_of_ble_eq_true rfl, Nat.le_of_ble_eq_true rfl⟩) (gh_pre M G (As := .ref q1 :: [])) rfl rfl hl.1.1 rfl (lv_room (Nat.le_trans (gh_r1 (gh_cat _) gh_r0) (Nat.le_of_ble_eq_true rfl : 1 ≤ 8))) dL_law_4 ⟨(Nat.le_of_ble_eq_true rfl), (Nat.le_of_ble_eq_true rfl)⟩) (fun E ce q9 h9 H9 locs9 hX G9 hce hcv hcl => hX.elim) (fun h3 H locs hw G => ?_)
  refine gh_astore_n (lv' := [(1, 1, va_rf (some q1)), (0, 1, va_rf v0)]) hx hb dL_law_7 rfl hl (by decide) rfl (fun ls hl => ?_)
  refine gh_new (N := 26) (r := (RX3, TX3, 26)) (ci := 1) (fs := [.int 0, .int 0, .int 0, .int 0, .int 0, .int 0, .int 0, .int 0, .int 0, .int 0, .long 0, .long 0, va_rf none, va_rf none, va_rf none, va_rf none, va_rf none, va_rf none, va_rf none, va_rf none, va_rf none, va_rf none, va_rf none, va_rf none, va_rf none, va_rf none]) M G hw tyX3 tyX3_ok q1563 q1564 q50 rfl rfl nd_X3 (Nat.le_of_ble_eq_true rfl) (Nat.le_of_ble_eq_true rfl) dL_law_8 (fun q4 h5 H hw G => ?_)
  refine lv_dup hx hb dL_law_11 (gh_cat _) ?_
  refine gh_kv G (vx_runI M.1 (met_X3_init l D _ _ _ _ _ hw M.2.2.2.2.2) (cwI 0 (gh_Mts M) (lw_meth q1567) rfl rfl rfl (gh_Mts M _ q50) (gh_Mts M _ q1565) (gh_Mts M _ q1566) rfl ⟨by decide, by decide, rfl⟩ ⟨Nat.le_of_ble_eq_true rfl, Nat.le_of_ble_eq_true rfl⟩) (gh_pre M G (As := .ref q4 :: [])) rfl rfl hl.1.1 rfl (lv_room (Nat.le_trans (gh_r1 (gh_cat _) gh_r0) (Nat.le_of_ble_eq_true rfl : 1 ≤ 8))) dL_law_12 ⟨(Nat.le_of_ble_eq_true rfl), (Nat.le_of_ble_eq_true rfl)⟩) (fun E ce q9 h9 H9 locs9 hX G9 hce hcv hcl => hX.elim) (fun h6 H locs hw G => ?_)
  refine gh_astore_n (lv' := [(2, 1, va_rf (some q4)), (1, 1, va_rf (some q1)), (0, 1, va_rf v0)]) hx hb dL_law_15 rfl hl (by decide) rfl (fun ls hl => ?_)
  refine lv_iconst (v := (1 : Int32)) hx hb dL_law_16 (by decide) ?_
  refine gh_newJ (lim := 1) M G hw q1842 (Nat.le_of_ble_eq_true rfl) (Nat.le_of_ble_eq_true rfl) (Nat.le_of_ble_eq_true rfl) dL_law_17 (fun q7 h8 H hw G => ?_)
  refine gh_astore_n (lv' := [(3, 1, va_rf (some q7)), (2, 1, va_rf (some q4)), (1, 1, va_rf (some q1)), (0, 1, va_rf v0)]) hx hb dL_law_19 rfl hl (by decide) rfl (fun ls hl => ?_)
  refine lv_iconst (v := (1 : Int32)) hx hb dL_law_20 (by decide) ?_
  refine gh_newD (lim := 1) M G hw q1843 (Nat.le_of_ble_eq_true rfl) (Nat.le_of_ble_eq_true rfl) (Nat.le_of_ble_eq_true rfl) dL_law_21 (fun q9 h10 H hw G => ?_)
  refine gh_astore (lv' := [(4, 1, va_rf (some q9)), (3, 1, va_rf (some q7)), (2, 1, va_rf (some q4)), (1, 1, va_rf (some q1)), (0, 1, va_rf v0)]) hx hb dL_law_23 hl (by decide) rfl (fun ls hl => ?_)
  refine lv_iconst (v := (0 : Int32)) hx hb dL_law_25 (by decide) ?_
  refine gh_istore (lv' := [(5, 1, .int (0 : Int32)), (4, 1, va_rf (some q9)), (3, 1, va_rf (some q7)), (2, 1, va_rf (some q4)), (1, 1, va_rf (some q1)), (0, 1, va_rf v0)]) hx hb dL_law_26 hl (by decide) rfl (fun ls hl => ?_)
  obtain ⟨n, hw⟩ := hw
  refine W.widen (k := 27 + 0 * 440) (n := 5257 + 0 * 2551) (by omega) (by omega) ?_
  exact wk_L_law_28 M hz0 hr  n 0 v0 (some q1) (some q4) (some q7) (some q9) (0 : Int32) _ _ _ _ G (gh_sub hl [5, 4, 3, 2, 1, 0] rfl) hw
