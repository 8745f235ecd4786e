/-! PLAIN LAW: draws of both -/
set_option maxRecDepth 100000
def drawV (s : Int64) : Int64 := ((1103515245 * s) + 12345) - ((1103515245 * s) + 12345) / 2147483648 * 2147483648
def drawR (s : Int64) (x : Int32) : Int32 := ((drawV s / 64) - (drawV s / 64) / x.toInt64 * x.toInt64).toInt32
section ZFs
variable {g : CG} {c : CC} {τ : TS} {X : Nat} {x : Int32}
theorem C_draw (h1 : gT g X = 1) (hx : ¬ x.toInt64 = 0) : f_c_X0_draw g X x c = some (drawR (cL c 122 X) x, uL c 122 X (drawV (cL c 122 X))) := by
  unfold f_c_X0_draw
  rw [if_pos h1, if_pos hx, cL_uL, if_pos ⟨rfl, rfl⟩]
  rfl
theorem T_draw (hx : ¬ x.toInt64 = 0) : f_t_drawOf x τ = some (drawR (tL τ 87) x, sL τ 87 (drawV (tL τ 87))) := by
  unfold f_t_drawOf
  rw [if_pos hx, tL_sL, if_pos rfl]
  rfl
end ZFs
