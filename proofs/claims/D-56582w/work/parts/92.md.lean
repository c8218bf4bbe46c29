/-! PLAIN LAW, part MD: floating point: quotients of whole numbers are numbers -/
set_option maxRecDepth 100000
def fp_FM (f : FP.Core.Fmt) : Prop := f.tails * 2 = 2 ^ f.p ∧ f.qmax - f.qmin + 3 = (f.exps : Int) ∧ 0 < f.tails ∧ f.qmin + 1 ≤ f.qmax ∧ 62 ≤ f.qmax + (f.p : Int) - 1 ∧ f.qmin ≤ 0 ∧ 1 ≤ f.qmax
theorem fp_32 : fp_FM FP.Core.b32 := by unfold fp_FM; decide +kernel
theorem fp_64 : fp_FM FP.Core.b64 := by unfold fp_FM; decide +kernel
def fp_GB (f : FP.Core.Fmt) (n : Nat) : Prop := ∃ (s : Bool) (E T : Nat), n = FP.Core.assemble f s E T ∧ E + 1 ≤ f.exps ∧ T < f.tails ∧ (E + 1 = f.exps → T = 0)
def fp_FB (f : FP.Core.Fmt) (n : Nat) : Prop := ∃ (s : Bool) (E T : Nat), n = FP.Core.assemble f s E T ∧ E + 2 ≤ f.exps ∧ T < f.tails
def fp_NZ (f : FP.Core.Fmt) (n : Nat) : Prop := ∃ (s : Bool) (E T : Nat), n = FP.Core.assemble f s E T ∧ E + 2 ≤ f.exps ∧ T < f.tails ∧ (E ≠ 0 ∨ T ≠ 0)
section
variable {f : FP.Core.Fmt} {n : Nat} {s : Bool} {c : Nat} {q : Int}
theorem fp_FB.gb (h : fp_FB f n) : fp_GB f n := by
  obtain ⟨s, E, T, h1, h2, h3⟩ := h
  exact ⟨s, E, T, h1, by omega, h3, fun e => by omega⟩
theorem fp_NZ.fb (h : fp_NZ f n) : fp_FB f n := by
  obtain ⟨s, E, T, h1, h2, h3, -⟩ := h
  exact ⟨s, E, T, h1, h2, h3⟩
theorem fp_enc (hf : fp_FM f) (hc : c < 2 ^ f.p) (hq : q ≤ f.qmax) : ∃ (E T : Nat), FP.Core.encode f (.fin s c q) = FP.Core.assemble f s E T ∧ E + 2 ≤ f.exps ∧ T < f.tails ∧ (c ≠ 0 → E ≠ 0 ∨ T ≠ 0) := by
  obtain ⟨h1, h2, h3, h4, h5, h6, h7⟩ := hf
  rw [← h1] at hc
  show ∃ (E T : Nat), (if c < f.tails then FP.Core.assemble f s 0 c else FP.Core.assemble f s ((q - f.qmin).toNat + 1) (c - f.tails)) = FP.Core.assemble f s E T ∧ _
  split
  · exact ⟨0, c, rfl, by omega, by assumption, fun w => Or.inr w⟩
  · exact ⟨(q - f.qmin).toNat + 1, c - f.tails, rfl, by omega, by omega, fun _ => Or.inl (Nat.succ_ne_zero _)⟩
theorem fp_inf (hf : fp_FM f) : fp_GB f (FP.Core.encode f (.inf s)) := by
  obtain ⟨h1, h2, h3, h4, h5, h6, h7⟩ := hf
  exact ⟨s, f.exps - 1, 0, rfl, by omega, h3, fun _ => rfl⟩
theorem fp_bound (hf : fp_FM f) (hc : c < 2 ^ f.p) : fp_GB f (FP.Core.encode f (FP.Core.bound f s c q)) := by
  unfold FP.Core.bound
  split
  · obtain ⟨E, T, h1, h2, h3, -⟩ := fp_enc (s := s) hf hc (by assumption)
    exact fp_FB.gb ⟨s, E, T, h1, h2, h3⟩
  · exact fp_inf hf
theorem fp_tails (hf : fp_FM f) : f.tails < 2 ^ f.p := by
  obtain ⟨h1, h2, h3, -⟩ := hf
  rw [← h1]
  omega
theorem fp_settle (hf : fp_FM f) : fp_GB f (FP.Core.encode f (FP.Core.settle f s c q)) := by
  unfold FP.Core.settle
  split
  · exact fp_bound hf (by assumption)
  · exact fp_bound hf (fp_tails hf)
theorem fp_rr (hf : fp_FM f) (s : Bool) (n d : Nat) (e : Int) : fp_GB f (FP.Core.encode f (FP.Core.roundRatio f s n d e)) := by
  unfold FP.Core.roundRatio
  split
  · obtain ⟨E, T, h1, h2, h3, -⟩ := fp_enc (s := s) (c := 0) (q := f.qmin) hf (Nat.two_pow_pos _) (by have := hf.2.2.2.1; omega)
    exact fp_FB.gb ⟨s, E, T, h1, h2, h3⟩
  · exact fp_settle hf
theorem fp_settle_fb (hf : fp_FM f) (hq : q + 1 ≤ f.qmax) : fp_FB f (FP.Core.encode f (FP.Core.settle f s c q)) := by
  unfold FP.Core.settle FP.Core.bound
  split
  · rw [if_pos (by omega)]
    obtain ⟨E, T, h1, h2, h3, -⟩ := fp_enc (s := s) (c := c) (q := q) hf (by assumption) (by omega)
    exact ⟨s, E, T, h1, h2, h3⟩
  · try rw [if_pos hq]
    obtain ⟨E, T, h1, h2, h3, -⟩ := fp_enc (s := s) (c := f.tails) (q := q + 1) hf (fp_tails hf) hq
    exact ⟨s, E, T, h1, h2, h3⟩
theorem fp_settle_nz (hf : fp_FM f) (hq : q + 1 ≤ f.qmax) (hc : c ≠ 0) : fp_NZ f (FP.Core.encode f (FP.Core.settle f s c q)) := by
  unfold FP.Core.settle FP.Core.bound
  split
  · rw [if_pos (by omega)]
    obtain ⟨E, T, h1, h2, h3, h4⟩ := fp_enc (s := s) (c := c) (q := q) hf (by assumption) (by omega)
    exact ⟨s, E, T, h1, h2, h3, h4 hc⟩
  · try rw [if_pos hq]
    obtain ⟨E, T, h1, h2, h3, h4⟩ := fp_enc (s := s) (c := f.tails) (q := q + 1) hf (fp_tails hf) hq
    exact ⟨s, E, T, h1, h2, h3, h4 (Nat.ne_of_gt hf.2.2.1)⟩
theorem fp_lead (n : Nat) : FP.Core.leading n 1 ≤ (n.log2 : Int) := by
  unfold FP.Core.leading
  dsimp only
  split <;> omega
theorem fp_quantum (n : Nat) : FP.Core.quantum f n 1 0 ≤ max f.qmin ((n.log2 : Int) - ((f.p : Int) - 1)) := by
  have := fp_lead n
  unfold FP.Core.quantum
  omega
theorem fp_int (hf : fp_FM f) {i : Int} (hi : i.natAbs < 2 ^ 60) : fp_FB f (FP.Core.fromInt f i) := by
  show fp_FB f (FP.Core.encode f (FP.Core.roundRatio f (decide (i < 0)) i.natAbs 1 0))
  unfold FP.Core.roundRatio
  split
  · obtain ⟨E, T, h1, h2, h3, -⟩ := fp_enc (s := decide (i < 0)) (c := 0) (q := f.qmin) hf (Nat.two_pow_pos _) (by have := hf.2.2.2.1; omega)
    exact ⟨_, E, T, h1, h2, h3⟩
  · rename_i h0
    have hl := (Nat.log2_lt h0).mpr hi
    have hq := fp_quantum (f := f) i.natAbs
    obtain ⟨h1, h2, h3, h4, h5, h6, h7⟩ := id hf
    exact fp_settle_fb hf (by omega)
theorem fp_int_nz (hf : fp_FM f) {i : Int} (hi : i.natAbs < 2 ^ 20) (h20 : 20 ≤ f.p) (h0 : i ≠ 0) : fp_NZ f (FP.Core.fromInt f i) := by
  show fp_NZ f (FP.Core.encode f (FP.Core.roundRatio f (decide (i < 0)) i.natAbs 1 0))
  have hn : i.natAbs ≠ 0 := by omega
  unfold FP.Core.roundRatio
  rw [if_neg hn]
  have hl := (Nat.log2_lt hn).mpr hi
  have hq := fp_quantum (f := f) i.natAbs
  obtain ⟨h1, h2, h3, h4, h5, h6, h7⟩ := id hf
  refine fp_settle_nz hf (by omega) ?_
  have hq0 : FP.Core.quantum f i.natAbs 1 0 ≤ 0 := by omega
  have hd : FP.Core.unitsDen 1 0 (FP.Core.quantum f i.natAbs 1 0) = 1 := by
    unfold FP.Core.unitsDen
    rw [show (FP.Core.quantum f i.natAbs 1 0 - 0).toNat = 0 by omega]
  rw [hd]
  have hm : FP.Core.unitsNum i.natAbs 0 (FP.Core.quantum f i.natAbs 1 0) ≠ 0 := by
    unfold FP.Core.unitsNum
    exact Nat.mul_ne_zero hn (Nat.ne_of_gt (Nat.two_pow_pos _))
  unfold FP.Core.nearest
  rw [Nat.mod_one, if_pos (by decide), Nat.div_one]
  exact hm
theorem fp_fields (hf : fp_FM f) {E T : Nat} (hE : E + 1 ≤ f.exps) (hT : T < f.tails) : FP.Core.fieldE f (FP.Core.assemble f s E T) = E ∧ FP.Core.fieldT f (FP.Core.assemble f s E T) = T := by
  have h3 := hf.2.2.1
  have h0 : 0 < f.exps := by omega
  unfold FP.Core.fieldE FP.Core.fieldT FP.Core.assemble
  refine ⟨?_, ?_⟩
  · rw [Nat.mul_comm (s.toNat * f.exps + E) f.tails, Nat.mul_add_div h3, Nat.div_eq_of_lt hT, Nat.add_zero, Nat.mul_comm s.toNat f.exps, Nat.mul_add_mod, Nat.mod_eq_of_lt (by omega)]
  · rw [Nat.mul_comm (s.toNat * f.exps + E) f.tails, Nat.mul_add_mod, Nat.mod_eq_of_lt hT]
theorem fp_dec (hf : fp_FM f) (h : fp_FB f n) : ∃ (s : Bool) (c : Nat) (q : Int), FP.Core.decode f n = .fin s c q := by
  obtain ⟨s, E, T, rfl, h2, h3⟩ := h
  have hf2 := fp_fields (s := s) hf (show E + 1 ≤ f.exps by omega) h3
  unfold FP.Core.decode
  rw [hf2.1, hf2.2, if_neg (by omega)]
  split
  · exact ⟨_, _, _, rfl⟩
  · exact ⟨_, _, _, rfl⟩
theorem fp_dec_nz (hf : fp_FM f) (h : fp_NZ f n) : ∃ (s : Bool) (c : Nat) (q : Int), FP.Core.decode f n = .fin s c q ∧ c ≠ 0 := by
  obtain ⟨s, E, T, rfl, h2, h3, h4⟩ := h
  have hf2 := fp_fields (s := s) hf (show E + 1 ≤ f.exps by omega) h3
  have hp := hf.2.2.1
  unfold FP.Core.decode
  rw [hf2.1, hf2.2, if_neg (by omega)]
  split
  · exact ⟨_, _, _, rfl, by omega⟩
  · exact ⟨_, _, _, rfl, by omega⟩
theorem fp_dec_gb (hf : fp_FM f) (h : fp_GB f n) : FP.Core.decode f n ≠ .nan := by
  obtain ⟨s, E, T, rfl, h2, h3, h4⟩ := h
  have hf2 := fp_fields (s := s) hf h2 h3
  unfold FP.Core.decode
  rw [hf2.1, hf2.2]
  split
  · rename_i e
    rw [if_pos (h4 (by omega))]
    exact fun w => nomatch w
  · split
    · exact fun w => nomatch w
    · exact fun w => nomatch w
theorem fp_order {d : FP.Core.Datum} (h : d ≠ .nan) : FP.Core.order d d = some .eq := by
  cases d with
  | nan => exact absurd rfl h
  | inf s => cases s <;> rfl
  | fin s c q =>
    show some (compare _ _) = _
    rw [show ∀ x : Int, compare x x = .eq from fun x => by simp]
theorem fp_div (hf : fp_FM f) {x y : Nat} (hx : fp_FB f x) (hy : fp_NZ f y) : fp_GB f (FP.Core.div f x y) := by
  obtain ⟨s, c, q, h1⟩ := fp_dec hf hx
  obtain ⟨t, d, r, h2, h3⟩ := fp_dec_nz hf hy
  unfold FP.Core.div
  rw [h1, h2]
  show fp_GB f (FP.Core.encode f (if d = 0 then _ else _))
  rw [if_neg h3]
  exact fp_rr hf _ _ _ _
end
theorem fp_n32 {n : Nat} (h : fp_GB FP.Core.b32 n) : vf_n32 (UInt32.ofNat n) ∧ (UInt32.ofNat n).toNat = n := by
  obtain ⟨s, E, T, h1, h2, h3, h4⟩ := h
  have e1 : FP.Core.b32.exps = 256 := by decide
  have e2 : FP.Core.b32.tails = 8388608 := by decide
  unfold FP.Core.assemble at h1
  rw [e1] at h1 h2 h4
  rw [e2] at h1 h3
  have hs : s.toNat ≤ 1 := by cases s <;> decide
  have hn : n < 4294967296 := by omega
  have hv : (UInt32.ofNat n).toNat = n := by rw [UInt32.toNat_ofNat']; exact Nat.mod_eq_of_lt hn
  refine ⟨?_, hv⟩
  unfold vf_n32
  rw [UInt32.le_iff_toNat_le, UInt32.toNat_and, hv]
  have e3 : n &&& (0x7fffffff : UInt32).toNat = n % 2 ^ 31 := Nat.and_two_pow_sub_one_eq_mod n 31
  rw [e3]
  show n % 2147483648 ≤ 2139095040
  omega
theorem fp_n64 {n : Nat} (h : fp_GB FP.Core.b64 n) : vf_n64 (UInt64.ofNat n) ∧ (UInt64.ofNat n).toNat = n := by
  obtain ⟨s, E, T, h1, h2, h3, h4⟩ := h
  have e1 : FP.Core.b64.exps = 2048 := by decide
  have e2 : FP.Core.b64.tails = 4503599627370496 := by decide +kernel
  unfold FP.Core.assemble at h1
  rw [e1] at h1 h2 h4
  rw [e2] at h1 h3
  have hs : s.toNat ≤ 1 := by cases s <;> decide
  have hn : n < 18446744073709551616 := by omega
  have hv : (UInt64.ofNat n).toNat = n := by rw [UInt64.toNat_ofNat']; exact Nat.mod_eq_of_lt hn
  refine ⟨?_, hv⟩
  unfold vf_n64
  rw [UInt64.le_iff_toNat_le, UInt64.toNat_and, hv]
  have e3 : n &&& (0x7fffffffffffffff : UInt64).toNat = n % 2 ^ 63 := Nat.and_two_pow_sub_one_eq_mod n 63
  rw [e3]
  show n % 9223372036854775808 ≤ 9218868437227405312
  omega
theorem fp_self {n : Nat} (h : fp_GB FP.Core.b64 n) : Op.cmpValue (FP.dcmp (UInt64.ofNat n) (UInt64.ofNat n)) .l = 0 := by
  have hv := (fp_n64 h).2
  have : FP.dcmp (UInt64.ofNat n) (UInt64.ofNat n) = some .eq := by
    show FP.Core.order (FP.Core.decode FP.Core.b64 (UInt64.ofNat n).toNat) (FP.Core.decode FP.Core.b64 (UInt64.ofNat n).toNat) = _
    rw [hv]
    exact fp_order (fp_dec_gb fp_64 h)
  rw [this]
  rfl
/-- float: the share, and it as a double -/
theorem fp_share {w p : Nat} (hw : w < 2 ^ 30) (hp0 : 0 < p) (hp : p < 2 ^ 20) : vf_n32 (FP.fdiv (FP.l2f (lN w)) (FP.l2f (lN p))) ∧ vf_n64 (FP.f2d (FP.fdiv (FP.l2f (lN w)) (FP.l2f (lN p)))) ∧ Op.cmpValue (FP.dcmp (FP.f2d (FP.fdiv (FP.l2f (lN w)) (FP.l2f (lN p)))) (FP.f2d (FP.fdiv (FP.l2f (lN w)) (FP.l2f (lN p))))) .l = 0 := by
  have ew : (lN w).toInt = (w : Int) := lN_toInt (by omega)
  have ep : (lN p).toInt = (p : Int) := lN_toInt (by omega)
  have f1 : fp_FB FP.Core.b32 (FP.Core.fromInt FP.Core.b32 (lN w).toInt) := fp_int fp_32 (by rw [ew]; omega)
  have f2 : fp_NZ FP.Core.b32 (FP.Core.fromInt FP.Core.b32 (lN p).toInt) := fp_int_nz fp_32 (by rw [ep]; omega) (by decide) (by rw [ep]; omega)
  have v1 : (FP.l2f (lN w)).toNat = FP.Core.fromInt FP.Core.b32 (lN w).toInt := (fp_n32 f1.gb).2
  have v2 : (FP.l2f (lN p)).toNat = FP.Core.fromInt FP.Core.b32 (lN p).toInt := (fp_n32 f2.fb.gb).2
  have g : fp_GB FP.Core.b32 (FP.Core.div FP.Core.b32 (FP.l2f (lN w)).toNat (FP.l2f (lN p)).toNat) := by
    rw [v1, v2]
    exact fp_div fp_32 f1 f2
  have n1 := fp_n32 g
  have e1 : FP.fdiv (FP.l2f (lN w)) (FP.l2f (lN p)) = UInt32.ofNat (FP.Core.div FP.Core.b32 (FP.l2f (lN w)).toNat (FP.l2f (lN p)).toNat) := rfl
  rw [e1]
  generalize FP.Core.div FP.Core.b32 (FP.l2f (lN w)).toNat (FP.l2f (lN p)).toNat = n at g n1
  have hd := fp_dec_gb fp_32 g
  have nn : FP.Core.fIsNaN (UInt32.ofNat n) = false := by
    show decide (FP.Core.decode FP.Core.b32 (UInt32.ofNat n).toNat = .nan) = false
    rw [n1.2]
    exact decide_eq_false hd
  have e2 : FP.f2d (UInt32.ofNat n) = UInt64.ofNat (FP.Core.encode FP.Core.b64 (FP.Core.round FP.Core.b64 (FP.Core.decode FP.Core.b32 n))) := by
    unfold FP.f2d
    rw [nn]
    show UInt64.ofNat (FP.Core.encode FP.Core.b64 (FP.Core.round FP.Core.b64 (FP.Core.decode FP.Core.b32 (UInt32.ofNat n).toNat))) = _
    rw [n1.2]
  have g2 : fp_GB FP.Core.b64 (FP.Core.encode FP.Core.b64 (FP.Core.round FP.Core.b64 (FP.Core.decode FP.Core.b32 n))) := by
    cases hdd : FP.Core.decode FP.Core.b32 n with
    | nan => exact absurd hdd hd
    | inf s => exact fp_inf fp_64
    | fin s c q => exact fp_rr fp_64 s c 1 q
  rw [e2]
  exact ⟨n1.1, (fp_n64 g2).1, fp_self g2⟩
/-- double: the mean -/
theorem fp_mean {w p : Nat} (hw : w < 2 ^ 30) (hp0 : 0 < p) (hp : p < 2 ^ 20) : FP.l2d (lN w) = FP.i2d (nI w) ∧ vf_n64 (FP.ddiv (FP.i2d (nI w)) (FP.i2d (nI p))) ∧ Op.cmpValue (FP.dcmp (FP.ddiv (FP.i2d (nI w)) (FP.i2d (nI p))) (FP.ddiv (FP.i2d (nI w)) (FP.i2d (nI p)))) .l = 0 := by
  have el : (lN w).toInt = (w : Int) := lN_toInt (by omega)
  have ew : (nI w).toInt = (w : Int) := nI_toInt (by omega)
  have ep : (nI p).toInt = (p : Int) := nI_toInt (by omega)
  have f1 : fp_FB FP.Core.b64 (FP.Core.fromInt FP.Core.b64 (nI w).toInt) := fp_int fp_64 (by rw [ew]; omega)
  have f2 : fp_NZ FP.Core.b64 (FP.Core.fromInt FP.Core.b64 (nI p).toInt) := fp_int_nz fp_64 (by rw [ep]; omega) (by decide) (by rw [ep]; omega)
  have v1 : (FP.i2d (nI w)).toNat = FP.Core.fromInt FP.Core.b64 (nI w).toInt := (fp_n64 f1.gb).2
  have v2 : (FP.i2d (nI p)).toNat = FP.Core.fromInt FP.Core.b64 (nI p).toInt := (fp_n64 f2.fb.gb).2
  have g : fp_GB FP.Core.b64 (FP.Core.div FP.Core.b64 (FP.i2d (nI w)).toNat (FP.i2d (nI p)).toNat) := by
    rw [v1, v2]
    exact fp_div fp_64 f1 f2
  refine ⟨?_, (fp_n64 g).1, fp_self g⟩
  show UInt64.ofNat (FP.Core.fromInt FP.Core.b64 (lN w).toInt) = UInt64.ofNat (FP.Core.fromInt FP.Core.b64 (nI w).toInt)
  rw [el, ew]
