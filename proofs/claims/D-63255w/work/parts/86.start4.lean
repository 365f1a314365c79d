/-! THE LAW from its entry -/
set_option maxRecDepth 100000
theorem s_script {D : va_G} {s : State} {b L : Nat} {xs : Nat → Int32} (hK : x_K D s) (hL : L ≤ 320) (hX : va_X b L xs s s.heap) : s_h D s b = some (1, .inl (.int, (L, .inl (fun j => if j < L then xs j else 0)))) := by
  obtain ⟨scr, h1, h2, h3, h4, h5⟩ := hX
  refine s_h_eq hK (Or.inr (Or.inl ⟨.int, L, _, rfl, Or.inl rfl, by omega, fun j hj => if_neg (by omega)⟩)) ⟨scr, h1, h2, h3, Nat.le_of_eq h4.symm, by rw [h4]; try rfl, fun j hj => ?_⟩
  rw [h5 j hj]
  show some (Value.int (xs j)) = some (Value.int (if j < L then xs j else 0))
  rw [if_pos hj]
