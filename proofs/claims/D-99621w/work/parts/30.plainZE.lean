/-! PLAIN LAW: the tape's bytes -/
set_option maxRecDepth 100000
theorem bits255 : ∀ i, i < 32 → (255#32).getLsbD i = decide (i < 8) := by decide
theorem byte_and (y : Int32) : y.toInt8.toInt32 &&& 255 = y &&& 255 := by
  apply Int32.toBitVec_inj.mp
  rw [Int32.toBitVec_and, Int32.toBitVec_and]
  apply BitVec.eq_of_getLsbD_eq
  intro i hi
  rw [BitVec.getLsbD_and, BitVec.getLsbD_and]
  have e : (255 : Int32).toBitVec = 255#32 := rfl
  rw [e, bits255 i hi]
  by_cases h : i < 8
  · rw [decide_eq_true h, Bool.and_true, Bool.and_true]
    show ((y.toBitVec.signExtend 8).signExtend 32).getLsbD i = _
    rw [BitVec.getLsbD_signExtend, BitVec.getLsbD_signExtend]
    simp only [hi, h, decide_true, Bool.true_and, reduceIte, show i < 32 from hi]
  · rw [decide_eq_false h, Bool.and_false, Bool.and_false]
theorem byte_two (y : Int32) : y.toInt8.toInt32.toInt8.toInt32 &&& 255 = y &&& 255 := by rw [byte_and, byte_and]
/-- the tape -/
def TG (g : CG) (X : Nat) : Prop := gR g 101 X = some (X + 27) ∧ gT g (X + 27) = 103 ∧ gN g (X + 27) = 1600
/-- the same bytes on both tapes -/
def TB (c : CC) (τ : TS) (X : Nat) : Prop := ∀ i, i < 1600 → cA c (X + 27) i &&& 255 = tA τ 0 i ∧ ∃ b : Int8, cA c (X + 27) i = b.toInt32
def TPE (c : CC) (τ : TS) (X : Nat) : Prop := ∃ n, n ≤ 1600 ∧ cI c 102 X = nI n ∧ tI τ 1 = nI n ∧ TB c τ X
section ZEs
variable {g : CG} {c c' : CC} {τ τ' q : TS} {X V s lo hi n : Nat} {v : VD} {w : Nat → Int32}
theorem I_end {x : Int32} (h1 : gT g X = 1) (hg : RG g X) (h : TPE c τ X) : OK2 (f_c_X0_end g X x c) (f_t_end x τ) (fun o r => o.1 = r.1 ∧ ((o.2 = uI c 102 X x ∧ r.2 = sI τ 1 x ∧ TPE o.2 r.2 X) ∨ (o.2 = uA c (X + 34) 0 (cA c (X + 34) 0 + nI 1) ∧ r.2 = sA τ 9 0 (tA τ 9 0 + nI 1)))) := by
  obtain ⟨n, hn, e1, e2, e3⟩ := h
  have hC : Jc_X0_end_12 g X c = some (0, uA c (X + 34) 0 (cA c (X + 34) 0 + nI 1)) := by
    unfold Jc_X0_end_12
    rw [if_pos h1, nl_0, C_refuses h1 hg (by omega), xbd_some, if_pos (show (-1 : Int32) < nI 0 by decide)]
  have hD : Jt_end_12 τ = some (0, sA τ 9 0 (tA τ 9 0 + nI 1)) := by
    unfold Jt_end_12
    rw [if_pos (show xin 0 6 = true by decide), if_pos (show xin 0 6 = true by decide)]
    rfl
  unfold f_c_X0_end f_t_end
  rw [e1, e2, hC, hD]
  by_cases h0 : x < 0
  · rw [if_pos h0, if_pos h0]
    exact OK2_some ⟨rfl, Or.inr ⟨rfl, rfl⟩⟩
  · rw [if_neg h0, if_neg h0, if_pos h1]
    by_cases hx : x ≤ nI n
    · rw [if_pos hx, if_pos hx]
      refine OK2_some ⟨rfl, Or.inl ⟨rfl, rfl, ?_⟩⟩
      have a1 : nI 0 ≤ x := by rw [i32_le]; have h0 : ¬ x < nI 0 := h0; rw [i32_lt] at h0; omega
      obtain ⟨k, hk, rfl⟩ := nI_lto (x := x) (n := n + 1) (by omega) a1 (by rw [i32_le, nI_toInt (by omega)] at hx; rw [i32_lt, nI_toInt (by omega)]; omega)
      exact ⟨k, by omega, by rw [cI_uI, if_pos ⟨rfl, rfl⟩], by rw [tI_sI, if_pos rfl], e3⟩
    · rw [if_neg hx, if_neg hx]
      exact OK2_some ⟨rfl, Or.inr ⟨rfl, rfl⟩⟩
end ZEs
