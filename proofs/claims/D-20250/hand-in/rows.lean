section
/-- a cell of a script of at most two ints is read within bounds, or 0 is taken: any post that holds of every int -/
theorem sp_cell {post : Int32 → Prop} {L : Nat} {xs : Nat → Int32} (hL : L ≤ 2) (p : Nat) (hp : p < 2) (H : ∀ r, post r) : wpL_cellAt post L xs () (nI p) := by
  by_cases h : L ≤ p
  · exact br_t (nI_le h (by omega)) (H 0)
  · exact br_f (nI_ge (by omega) (by omega)) ⟨vp_in_nI (by omega) (by omega), H _⟩
/-- the two widths agree on every code -/
theorem sp_same (z : Int32) : wL_lawOf_19 (fun r => r = 1) z := by
  by_cases h : z < 65536
  · have h2 : ¬ 65536 ≤ z := Int32.not_le.mpr h
    exact br_t h (br_f h2 (br_t rfl rfl))
  · have h2 : 65536 ≤ z := Int32.not_lt.mp h
    exact br_f h (br_t h2 (br_t rfl rfl))
/-- both roads of the law end in the comparison -/
theorem sp_lawOf (a b : Int32) : wpL_lawOf (fun r => r = 1) () a b :=
  ⟨fun _ => sp_same _, fun _ => sp_same _⟩
theorem i_vc (xs : Nat → Int32) (L : Nat) (hL : L ≤ 2) : wpL_law (fun r => r = 1) L xs :=
  sp_cell hL 0 (by omega) (fun a => sp_cell hL 1 (by omega) (fun b => sp_lawOf a b))
end
