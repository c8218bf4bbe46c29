/-! PLAIN LAW, part LB: the law's calls that only look -/
set_option maxRecDepth 100000
section
variable {κ bd : Nat → Nat} {sc : Nat × Nat × (Nat → Int32)} {T : (Nat → Nat) → Nat → gh_H → Prop} {d m vO vD t : Nat} {h : gh_H} {K : gh_H → Prop}
theorem ix_out {x : Int32} {n j : Nat} (hn : n < 2 ^ 31) (hj : j < n) (hx : x = nI j) (z : x < 0 ∨ nI n ≤ x) : False := by
  subst hx
  rcases z with z | z
  · exact nI_pos (by omega) z
  · exact nI_ge hj hn z
end
