/-! PLAIN LAW: both together: the readers -/
set_option maxRecDepth 100000
theorem nI_lto {x : Int32} {n : Nat} (hn : n < 2147483648) (h0 : nI 0 ≤ x) (h1 : x < nI n) : ∃ k, k < n ∧ x = nI k := by
  rw [i32_le, nI_toInt (by omega)] at h0
  rw [i32_lt, nI_toInt hn] at h1
  refine ⟨x.toInt.toNat, by omega, ?_⟩
  rw [i32_eq, nI_toInt (by omega)]
  omega
theorem CX.b {g : CG} {c : CC} {X V lo hi : Nat} {v : VD} (h : CX g c X V v lo hi) : RVb g c V v := h.2.2.1.b
section CH
variable {g : CG} {c : CC} {X V lo hi : Nat} {v : VD}
theorem C_isColumn {x : Int32} (h : CX g c X V v lo hi) : f_c_X0_isColumn g X x c = some (b32 (decide (nI 0 ≤ x) && decide (x < nI (vC v))), c) := by
  unfold f_c_X0_isColumn Jc_X0_isColumn_16
  simp only [C_columns h.1 h.2.1 h.b, h.1, xbd_some, reduceIte, nl_0]
  by_cases h1 : x < nI 0
  · have h2 : ¬ nI 0 ≤ x := by rw [i32_le]; rw [i32_lt] at h1; omega
    rw [if_pos h1]; simp [h2, b32]
  · have h2 : nI 0 ≤ x := by rw [i32_le]; rw [i32_lt] at h1; omega
    rw [if_neg h1]
    by_cases h3 : nI (vC v) ≤ x
    · have h4 : ¬ x < nI (vC v) := by rw [i32_lt]; rw [i32_le] at h3; omega
      rw [if_pos h3]; simp [h4, b32]
    · have h4 : x < nI (vC v) := by rw [i32_lt]; rw [i32_le] at h3; omega
      rw [if_neg h3]; simp [h2, h4, b32]; rfl
theorem C_isLord {x : Int32} (h : CX g c X V v lo hi) : f_c_X0_isLord g X x c = some (b32 (decide (nI 0 ≤ x) && decide (x < nI (vN v))), c) := by
  unfold f_c_X0_isLord Jc_X0_isLord_16
  simp only [C_lords h.1 h.2.1 h.b, h.1, xbd_some, reduceIte, nl_0]
  by_cases h1 : x < nI 0
  · have h2 : ¬ nI 0 ≤ x := by rw [i32_le]; rw [i32_lt] at h1; omega
    rw [if_pos h1]; simp [h2, b32]
  · have h2 : nI 0 ≤ x := by rw [i32_le]; rw [i32_lt] at h1; omega
    rw [if_neg h1]
    by_cases h3 : nI (vN v) ≤ x
    · have h4 : ¬ x < nI (vN v) := by rw [i32_lt]; rw [i32_le] at h3; omega
      rw [if_pos h3]; simp [h4, b32]
    · have h4 : x < nI (vN v) := by rw [i32_lt]; rw [i32_le] at h3; omega
      rw [if_neg h3]; simp [h2, h4, b32]; rfl
theorem C_isCell {x y : Int32} (h : CX g c X V v lo hi) : f_c_X0_isCell g X x y c = some (b32 (decide (nI 0 ≤ x) && decide (x < nI (vC v)) && (decide (nI 0 ≤ y) && decide (y < nI (vW v)))), c) := by
  unfold f_c_X0_isCell Jc_X0_isCell_29
  have hb := h.2.2.2.2.2.1
  have hr := h.b
  simp only [C_isColumn h, h.1, h.2.1, hr.1, hr.2.2.1, C_is, xbd_some, Option.bind_some, reduceIte, nl_0, nl_1, b32_0]
  cases h9 : (decide (nI 0 ≤ x) && decide (x < nI (vC v))) with
  | false => simp [b32]
  | true =>
    have hc : 0 < vC v := by
      simp only [Bool.and_eq_true, decide_eq_true_eq, i32_le, i32_lt] at h9
      have h1 := hb.1
      rw [nI_toInt (by omega), nI_toInt (by omega)] at h9
      omega
    have hw := hb.2.1
    have hw2 := (hb.2.2.2.2.1 hc).2.1
    have e1 : nI (vW v) - nI 1 = nI (vW v - 1) := nI_m1 (by omega)
    have e3 : (y ≤ nI (vW v - 1)) ↔ (y < nI (vW v)) := by
      rw [i32_le, i32_lt, nI_toInt (by omega), nI_toInt (by omega)]; omega
    simp only [e1, e3]
    cases h8 : (decide (nI 0 ≤ y) && decide (y < nI (vW v))) <;> simp [b32]
end CH
/-- both hold the same valley and the same state -/
def IV (g : CG) (c : CC) (τ : TS) (X V : Nat) (v : VD) (lo hi : Nat) : Prop := CX g c X V v lo hi ∧ (gR g 109 X = some (X + 35) ∧ gR g 110 X = some (X + 103)) ∧ CT g c X (X + 35) v (tA τ 62) ∧
  (∃ K π, RKp c (X + 35) K π ∧ RKw c (X + 35) K π (tA τ 62)) ∧ (StG g (X + 103) X ∧ ∃ K π, RKp c (X + 103) K π) ∧ TV τ v ∧ tI τ 70 = nI 0 ∧ ∃ n, n ≤ 999 ∧ tA τ 62 0 = nI n
/-- both answer the same, with noise only -/
def RD {α : Type} (X : Nat) (c : CC) (τ : TS) (o : α × CC) (q : α × TS) : Prop := o.1 = q.1 ∧ CN X c o.2 ∧ TN τ q.2
theorem RKp.cn {X s K : Nat} {c c' : CC} {π : Nat → Nat} (h : RKp c s K π) (hs : X + 35 ≤ s) (n : CN X c c') : RKp c' s K π := h.of (n.ks hs)
theorem IV.cn {g : CG} {c c' : CC} {τ τ' : TS} {X V lo hi : Nat} {v : VD} (h : IV g c τ X V v lo hi) (n : CN X c c') (m : TN τ τ') : IV g c' τ' X V v lo hi := by
  obtain ⟨h1, h2, h3, ⟨K, π, h4, h5⟩, ⟨h6, K', π', h7⟩, h8, h9, h10⟩ := h
  have e : tA τ' 62 = tA τ 62 := funext (fun i => m.2.2.1 62 i)
  refine ⟨h1.cn n, h2, ?_, ⟨K, π, h4.cn (by omega) n, ?_⟩, ⟨h6, K', π', h7.cn (by omega) n⟩, h8.tn m, by rw [m.1 70 rfl]; exact h9, by rw [e]; exact h10⟩
  · rw [e]; exact h3.cn n
  · rw [e]; exact RKw.of h4 h5 (n.ks (by omega)) (fun _ _ => rfl)
section IVR
variable {g : CG} {c : CC} {τ : TS} {X V lo hi : Nat} {v : VD}
theorem RD.mk {α : Type} {a : α} : RD X c τ (a, c) (a, τ) := ⟨rfl, CN.refl X c, TN.refl τ⟩
theorem I_isValley (h : IV g c τ X V v lo hi) : f_c_X0_isValley g X c = some (b32 (decide (0 < vC v)), c) := by
  obtain ⟨h1, -⟩ := h
  have hr := h1.b
  have hb := h1.2.2.2.2.2.1
  have hb1 := hb.1
  unfold f_c_X0_isValley
  simp only [h1.1, h1.2.1, hr.1, hr.2.1, Option.bind_some, reduceIte, nl_0, nl_1]
  by_cases e : 0 < vC v
  · rw [if_neg (by rw [nI_leI (by omega) (by omega)]; omega)]; simp [e, b32]
  · rw [if_pos (by rw [nI_leI (by omega) (by omega)]; omega)]; simp [e, b32]
def aheadS (v : VD) (w : Nat → Int32) (x a b : Int32) : Bool := decide (0 < vC v) && (decide (a ≤ x) && decide (x ≤ b)) && !decide (nI 999 < w 0 + x)
theorem C_isAhead {x a b : Int32} (h : IV g c τ X V v lo hi) : f_c_X0_isAhead g X x a b c = some (b32 (aheadS v (tA τ 62) x a b), c) := by
  have hv := I_isValley h
  obtain ⟨h1, h2, h3, h4, h5, h6, h7⟩ := h
  unfold f_c_X0_isAhead Jc_X0_isAhead_35 aheadS
  rw [hv]
  simp only [h1.1, h2.1, h3.1.1, C_is, xbd_some, Option.bind_some, reduceIte, nl_0, nl_1, nl_999, b32_0, h3.2.1.1]
  cases decide (0 < vC v) <;> cases (decide (a ≤ x) && decide (x ≤ b)) <;> by_cases e : nI 999 < tA τ 62 0 + x <;> simp [e, b32]
theorem T_isAhead {x a b : Int32} (h : TV τ v) : f_t_isAhead x a b τ = some (b32 (aheadS v (tA τ 62) x a b), τ) := by
  unfold f_t_isAhead Jt_isAhead_37 aheadS
  simp only [T_isIn32, xbd_some, Option.bind_some, reduceIte, nl_0, nl_1, nl_999, h.1.1, b32_0, show xin (nI 0) 303 = true by decide, show (nI 0).toNatClampNeg = 0 by decide]
  cases decide (0 < vC v) <;> cases (decide (a ≤ x) && decide (x ≤ b)) <;> by_cases e : nI 999 < tA τ 62 0 + x <;> simp [e, b32]
theorem I_isAhead {x a b : Int32} (h : IV g c τ X V v lo hi) : OK2 (f_c_X0_isAhead g X x a b c) (f_t_isAhead x a b τ) (RD X c τ) := by
  rw [C_isAhead h, T_isAhead h.2.2.2.2.2.1]
  exact OK2_some RD.mk
theorem I_column {x y : Int32} (h : IV g c τ X V v lo hi) : OK2 (f_c_X0_column g X x y c) (f_t_column x y τ) (RD X c τ) := by
  obtain ⟨h1, h2, h3, h4, h5, h6, h7⟩ := h
  have hb := h1.2.2.2.2.2.1
  have hb1 := hb.1
  unfold f_c_X0_column f_t_column
  rw [C_isColumn h1, T_isColumn h6.1 hb]
  simp only [h1.1, h2.1, h3.1.1, h3.1.2.2.1, xbd_some, Option.bind_some, reduceIte, nl_0, nl_1, nl_2, nl_3, b32_0]
  split
  · exact OK2_some RD.mk
  · rename_i hz
    simp only [Bool.not_eq_false, Bool.and_eq_true, decide_eq_true_eq] at hz
    obtain ⟨k, hk, rfl⟩ := nI_lto (by omega) hz.1 hz.2
    simp only [xin_nI (show k < 10 by omega) (by omega), nI_clamp (show k < 2 ^ 31 by omega), T_rowOf (show k < 301 by omega), C_turn h3.1 h1.1 h1.2.1 h1.b hb h3.2.1 hk, T_turnOf h6.1 hb hk, C_pay h3.1 h1.1 h1.2.1 h1.b hb h3.2.1 (fun k hk => (h3.2.2.1.2.2.2.2 k hk).1), T_payOf h6.1 hb, reduceIte, xbd_some, h3.2.1.2.2.1 k (by omega)]
    split
    · exact OK2_some RD.mk
    · split
      · exact OK2_some RD.mk
      · split
        · obtain ⟨⟨r, c'⟩, e1, q1, q2⟩ := C_isBend h1 h3 hk
          obtain ⟨⟨r', τ'⟩, e2, q3, q4⟩ := T_isBend h6 hb hk
          rw [e1, e2]
          simp only [xbd_some]
          have e : r = r' := q1.trans q3.symm
          subst e
          by_cases hr0 : r = nI 0
          · simp only [hr0, reduceIte]; exact OK2_some ⟨rfl, q2, q4⟩
          · simp only [hr0, reduceIte]; exact OK2_some ⟨rfl, q2, q4⟩
        · split
          · exact OK2_some RD.mk
          · exact OK2_some RD.mk
theorem I_eats {x y : Int32} (h : IV g c τ X V v lo hi) : OK2 (f_c_X0_eats g X x y c) (f_t_eats x y τ) (RD X c τ) := by
  obtain ⟨h1, h2, h3, h4, h5, h6, h7⟩ := h
  have hb := h1.2.2.2.2.2.1
  have hb1 := hb.1
  have hb2 := hb.2.1
  unfold f_c_X0_eats f_t_eats
  rw [C_isCell h1, T_isCell h6.1 hb]
  simp only [h1.1, h2.1, h3.1.1, xbd_some, Option.bind_some, reduceIte, nl_0, b32_0]
  split
  · exact OK2_some RD.mk
  · rename_i hz
    simp only [Bool.not_eq_false, Bool.and_eq_true, decide_eq_true_eq] at hz
    obtain ⟨k, hk, rfl⟩ := nI_lto (by omega) hz.1.1 hz.1.2
    obtain ⟨r, hr, rfl⟩ := nI_lto (by omega) hz.2.1 hz.2.2
    obtain ⟨⟨e, c'⟩, e1, q1, q2⟩ := C_eats h1 h3 hk hr
    obtain ⟨⟨e', τ'⟩, e2, q3, q4⟩ := T_eatsOf h6 hb hk hr
    rw [e1, e2]
    exact OK2_some ⟨q1.trans q3.symm, q2, q4⟩
theorem I_cell {x y z : Int32} (h : IV g c τ X V v lo hi) : OK2 (f_c_X0_cell g X x y z c) (f_t_cell x y z τ) (RD X c τ) := by
  obtain ⟨h1, h2, h3, h4, h5, h6, h7⟩ := h
  have hb := h1.2.2.2.2.2.1
  have hb1 := hb.1
  have hb2 := hb.2.1
  unfold f_c_X0_cell f_t_cell
  rw [C_isCell h1, T_isCell h6.1 hb]
  obtain ⟨so, s1, s2, s3, s4⟩ := h1.b.2.2.2.2.2.1
  obtain ⟨w1, w2, w3, w4⟩ := h3.1.2.2.2.2.2.1
  obtain ⟨v1, v2, v3, v4⟩ := h3.1.2.2.2.2.2.2.1
  simp only [h1.1, h1.2.1, h1.b.1, h2.1, h3.1.1, s1, s2, s3, w1, w2, w3, v1, v2, v3, xbd_some, Option.bind_some, reduceIte, nl_0, nl_1, nl_2, nl_8, nl_80, b32_0]
  split
  · exact OK2_some RD.mk
  · rename_i hz
    simp only [Bool.not_eq_false, Bool.and_eq_true, decide_eq_true_eq] at hz
    obtain ⟨k, hk, rfl⟩ := nI_lto (by omega) hz.1.1 hz.1.2
    obtain ⟨r, hr, rfl⟩ := nI_lto (by omega) hz.2.1 hz.2.2
    have hk2 : k < 10 := by omega
    have hr2 : r < 8 := by omega
    simp only [xin_nI hk2 (by omega), xin_nI hr2 (by omega), nI_clamp (show k < 2 ^ 31 by omega), nI_clamp (show r < 2 ^ 31 by omega), (s4 k hk2).1, (s4 k hk2).2.1, (s4 k hk2).2.2 r hr2, (w4 k hk2).1, (w4 k hk2).2.1, (w4 k hk2).2.2, (v4 k hk2).1, (v4 k hk2).2.1, (v4 k hk2).2.2,
      h3.2.1.2.2.2.1 k r hk2 hr2, h3.2.1.2.2.2.2.1 k r hk2 hr2, pk_mul, nI_add, T_willowsAt (show 8 * k + r < 291 by omega), T_everAt (show 8 * k + r < 211 by omega), xin_nI (show 80 + (8 * k + r) < 160 by omega) (by omega), nI_clamp (show 80 + (8 * k + r) < 2 ^ 31 by omega), h6.1.2.2.2.2.2.2 (8 * k + r) (by omega), reduceIte, xbd_some]
    split
    · exact OK2_some RD.mk
    · split
      · exact OK2_some RD.mk
      · split
        · exact OK2_some RD.mk
        · exact OK2_some RD.mk
theorem I_kept {x y : Int32} (h : IV g c τ X V v lo hi) : OK2 (f_c_X0_kept g X x y c) (f_t_kept x y τ) (RD X c τ) := by
  obtain ⟨h1, h2, h3, ⟨K, π, k1, k2⟩, h5, h6, h7⟩ := h
  obtain ⟨w1, w2, w3, w4⟩ := h3.1.2.2.2.2.2.2.2.1
  have hK := k1.2.1
  unfold f_c_X0_kept f_t_kept Jc_X0_kept_40 Jt_kept_49
  simp only [h1.1, h2.1, h3.1.1, xbd_some, Option.bind_some, reduceIte, nl_0, nl_1, nl_2, nl_3, nl_182, nl_183, k1.1, k2.1, show xin (nI 182) 303 = true by decide, show (nI 182).toNatClampNeg = 182 by decide, w1, w2, w3, C_is, show ((0 : Int64)) = (nI 0).toInt64 from rfl, show ((2 : Int64)) = (nI 2).toInt64 from rfl, T_isIn32, b32_0]
  split
  · exact OK2_some RD.mk
  · rename_i hz
    split
    · exact OK2_some RD.mk
    · rename_i hy
      simp only [Bool.not_eq_false, Bool.and_eq_true, decide_eq_true_eq] at hz hy
      have e3 : (x < nI K) := by
        have := hz.2
        rw [i32_le, i32_sub (by rw [nI_toInt (by omega), nI_toInt (by omega)]; omega) (by rw [nI_toInt (by omega), nI_toInt (by omega)]; omega), nI_toInt (by omega), nI_toInt (by omega)] at this
        rw [i32_lt, nI_toInt (by omega)]; omega
      obtain ⟨k, hk, rfl⟩ := nI_lto (by omega) hz.1 e3
      obtain ⟨r, hr, rfl⟩ := nI_lto (x := y) (n := 3) (by omega) hy.1 (by have := hy.2; rw [i32_le, nI_toInt (by omega)] at this; rw [i32_lt, nI_toInt (by omega)]; omega)
      obtain ⟨p1, p2⟩ := k1.2.2.1 k (by omega)
      simp only [xin_nI (show k < 40 by omega) (by omega), xin_nI hr (by omega), nI_clamp (show k < 2 ^ 31 by omega), nI_clamp (show r < 2 ^ 31 by omega), p1, (w4 _ p2).1, (w4 _ p2).2, Option.bind_some, pk_mul, nI_add, xin_nI (show 183 + 3 * k + r < 303 by omega) (by omega), nI_clamp (show 183 + 3 * k + r < 2 ^ 31 by omega), k2.2 k r hk hr, reduceIte]
      exact OK2_some RD.mk
end IVR
