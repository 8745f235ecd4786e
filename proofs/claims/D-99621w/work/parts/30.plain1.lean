/-! PLAIN LAW: the twin's readers -/
set_option maxRecDepth 100000
theorem T_isIn {x a b : Int64} {τ : TS} : f_t_isIn x a b τ = some (b32 (decide (a ≤ x) && decide (x ≤ b)), τ) := by
  unfold f_t_isIn Jt_isIn_17
  by_cases h1 : x < a
  · have h2 : ¬ a ≤ x := by rw [Int64.le_iff_toInt_le]; rw [Int64.lt_iff_toInt_lt] at h1; omega
    rw [if_pos ((lg_cmp_lt _ _).mpr h1)]
    simp [h2, b32]
    rfl
  · have h2 : a ≤ x := by rw [Int64.le_iff_toInt_le]; rw [Int64.lt_iff_toInt_lt] at h1; omega
    rw [if_neg (fun h => h1 ((lg_cmp_lt _ _).mp h))]
    by_cases h3 : b < x
    · have h4 : ¬ x ≤ b := by rw [Int64.le_iff_toInt_le]; rw [Int64.lt_iff_toInt_lt] at h3; omega
      rw [if_pos ((lg_cmp_gt _ _).mpr h3)]
      simp [h4, b32]
      rfl
    · have h4 : x ≤ b := by rw [Int64.le_iff_toInt_le]; rw [Int64.lt_iff_toInt_lt] at h3; omega
      rw [if_neg (fun h => h3 ((lg_cmp_gt _ _).mp h))]
      simp [h2, h4, b32]
      rfl
theorem w_le (a b : Int32) : a.toInt64 ≤ b.toInt64 ↔ a ≤ b := by rw [Int64.le_iff_toInt_le, Int32.le_iff_toInt_le, Int32.toInt_toInt64, Int32.toInt_toInt64]
theorem T_isIn32 {x a b : Int32} {τ : TS} : f_t_isIn x.toInt64 a.toInt64 b.toInt64 τ = some (b32 (decide (a ≤ x) && decide (x ≤ b)), τ) := by
  rw [T_isIn]
  simp only [w_le]
theorem T_columnMany {τ : TS} : f_t_columnMany τ = some (tA τ 45 3, τ) := by
  unfold f_t_columnMany
  simp (discharger := omega) only [nl_0, nl_1, nl_2, nl_3, nl_4, nl_5, nl_6, nl_7, nl_8, nl_9, nl_10, nl_12, nl_15, nl_16, nl_20, nl_25, nl_26, nl_27, nl_28, nl_30, nl_31, nl_32, nl_40, nl_48, nl_60, nl_64, nl_80, nl_92, nl_99, nl_100, nl_117, nl_119, nl_160, nl_172, nl_179, nl_182, nl_183, nl_191, nl_248, nl_251, nl_255, nl_256, nl_300, nl_302, nl_303, nl_384, nl_640, nl_999, nl_1600, nl_1700, nl_3200, nl_6060, nl_65536, nl_999999, nI_add, pk_mul, xin_nI, nI_clamp, nI_leI, nI_ltI, nI_eq, reduceIte, Bool.true_eq_false, Bool.false_eq_true, b32_0, b32_1, xbd_some, Option.bind_some]
theorem T_rowsMany {τ : TS} : f_t_rowsMany τ = some (tA τ 45 4, τ) := by
  unfold f_t_rowsMany
  simp (discharger := omega) only [nl_0, nl_1, nl_2, nl_3, nl_4, nl_5, nl_6, nl_7, nl_8, nl_9, nl_10, nl_12, nl_15, nl_16, nl_20, nl_25, nl_26, nl_27, nl_28, nl_30, nl_31, nl_32, nl_40, nl_48, nl_60, nl_64, nl_80, nl_92, nl_99, nl_100, nl_117, nl_119, nl_160, nl_172, nl_179, nl_182, nl_183, nl_191, nl_248, nl_251, nl_255, nl_256, nl_300, nl_302, nl_303, nl_384, nl_640, nl_999, nl_1600, nl_1700, nl_3200, nl_6060, nl_65536, nl_999999, nI_add, pk_mul, xin_nI, nI_clamp, nI_leI, nI_ltI, nI_eq, reduceIte, Bool.true_eq_false, Bool.false_eq_true, b32_0, b32_1, xbd_some, Option.bind_some]
theorem T_rowOf {τ : TS} {c : Nat} (h : c < 301) : f_t_rowOf (nI c) τ = some (tA τ 62 (2 + c), τ) := by
  unfold f_t_rowOf
  simp (discharger := omega) only [nl_0, nl_1, nl_2, nl_3, nl_4, nl_5, nl_6, nl_7, nl_8, nl_9, nl_10, nl_12, nl_15, nl_16, nl_20, nl_25, nl_26, nl_27, nl_28, nl_30, nl_31, nl_32, nl_40, nl_48, nl_60, nl_64, nl_80, nl_92, nl_99, nl_100, nl_117, nl_119, nl_160, nl_172, nl_179, nl_182, nl_183, nl_191, nl_248, nl_251, nl_255, nl_256, nl_300, nl_302, nl_303, nl_384, nl_640, nl_999, nl_1600, nl_1700, nl_3200, nl_6060, nl_65536, nl_999999, nI_add, pk_mul, xin_nI, nI_clamp, nI_leI, nI_ltI, nI_eq, reduceIte, Bool.true_eq_false, Bool.false_eq_true, b32_0, b32_1, xbd_some, Option.bind_some]
theorem T_willowsAt {τ : TS} {c : Nat} (h : c < 291) : f_t_willowsAt (nI c) τ = some (tA τ 62 (12 + c), τ) := by
  unfold f_t_willowsAt
  simp (discharger := omega) only [nl_0, nl_1, nl_2, nl_3, nl_4, nl_5, nl_6, nl_7, nl_8, nl_9, nl_10, nl_12, nl_15, nl_16, nl_20, nl_25, nl_26, nl_27, nl_28, nl_30, nl_31, nl_32, nl_40, nl_48, nl_60, nl_64, nl_80, nl_92, nl_99, nl_100, nl_117, nl_119, nl_160, nl_172, nl_179, nl_182, nl_183, nl_191, nl_248, nl_251, nl_255, nl_256, nl_300, nl_302, nl_303, nl_384, nl_640, nl_999, nl_1600, nl_1700, nl_3200, nl_6060, nl_65536, nl_999999, nI_add, pk_mul, xin_nI, nI_clamp, nI_leI, nI_ltI, nI_eq, reduceIte, Bool.true_eq_false, Bool.false_eq_true, b32_0, b32_1, xbd_some, Option.bind_some]
theorem T_everAt {τ : TS} {c : Nat} (h : c < 211) : f_t_everAt (nI c) τ = some (tA τ 62 (92 + c), τ) := by
  unfold f_t_everAt
  simp (discharger := omega) only [nl_0, nl_1, nl_2, nl_3, nl_4, nl_5, nl_6, nl_7, nl_8, nl_9, nl_10, nl_12, nl_15, nl_16, nl_20, nl_25, nl_26, nl_27, nl_28, nl_30, nl_31, nl_32, nl_40, nl_48, nl_60, nl_64, nl_80, nl_92, nl_99, nl_100, nl_117, nl_119, nl_160, nl_172, nl_179, nl_182, nl_183, nl_191, nl_248, nl_251, nl_255, nl_256, nl_300, nl_302, nl_303, nl_384, nl_640, nl_999, nl_1600, nl_1700, nl_3200, nl_6060, nl_65536, nl_999999, nI_add, pk_mul, xin_nI, nI_clamp, nI_leI, nI_ltI, nI_eq, reduceIte, Bool.true_eq_false, Bool.false_eq_true, b32_0, b32_1, xbd_some, Option.bind_some]
theorem T_doesOffer {τ : TS} {k : Nat} (h : k < 5) : f_t_doesOffer (nI k) τ = some (b32 (decide (tA τ 62 (172 + 2 * k) = nI 1)), τ) := by
  unfold f_t_doesOffer
  simp (discharger := omega) only [nl_0, nl_1, nl_2, nl_3, nl_4, nl_5, nl_6, nl_7, nl_8, nl_9, nl_10, nl_12, nl_15, nl_16, nl_20, nl_25, nl_26, nl_27, nl_28, nl_30, nl_31, nl_32, nl_40, nl_48, nl_60, nl_64, nl_80, nl_92, nl_99, nl_100, nl_117, nl_119, nl_160, nl_172, nl_179, nl_182, nl_183, nl_191, nl_248, nl_251, nl_255, nl_256, nl_300, nl_302, nl_303, nl_384, nl_640, nl_999, nl_1600, nl_1700, nl_3200, nl_6060, nl_65536, nl_999999, nI_add, pk_mul, xin_nI, nI_clamp, nI_leI, nI_ltI, nI_eq, reduceIte, Bool.true_eq_false, Bool.false_eq_true, b32_0, b32_1, xbd_some, Option.bind_some]
  by_cases h1 : tA τ 62 (172 + 2 * k) = nI 1 <;> simp [h1, b32]
theorem T_purseOf {τ : TS} {k : Nat} (h : k < 5) : f_t_purseOf (nI k) τ = some (tA τ 62 (172 + 2 * k + 1), τ) := by
  unfold f_t_purseOf
  simp (discharger := omega) only [nl_0, nl_1, nl_2, nl_3, nl_4, nl_5, nl_6, nl_7, nl_8, nl_9, nl_10, nl_12, nl_15, nl_16, nl_20, nl_25, nl_26, nl_27, nl_28, nl_30, nl_31, nl_32, nl_40, nl_48, nl_60, nl_64, nl_80, nl_92, nl_99, nl_100, nl_117, nl_119, nl_160, nl_172, nl_179, nl_182, nl_183, nl_191, nl_248, nl_251, nl_255, nl_256, nl_300, nl_302, nl_303, nl_384, nl_640, nl_999, nl_1600, nl_1700, nl_3200, nl_6060, nl_65536, nl_999999, nI_add, pk_mul, xin_nI, nI_clamp, nI_leI, nI_ltI, nI_eq, reduceIte, Bool.true_eq_false, Bool.false_eq_true, b32_0, b32_1, xbd_some, Option.bind_some]
theorem T_isOf {τ : TS} {k : Nat} {x : Int32} (h : k < 5) : f_t_isOf (nI k) x τ = some (b32 (decide (tA τ 49 (25 + 5 * k) ≤ x) && decide (x ≤ tA τ 49 (26 + 5 * k))), τ) := by
  unfold f_t_isOf Jt_isOf_34
  simp (discharger := omega) only [nl_0, nl_1, nl_2, nl_3, nl_4, nl_5, nl_6, nl_7, nl_8, nl_9, nl_10, nl_12, nl_15, nl_16, nl_20, nl_25, nl_26, nl_27, nl_28, nl_30, nl_31, nl_32, nl_40, nl_48, nl_60, nl_64, nl_80, nl_92, nl_99, nl_100, nl_117, nl_119, nl_160, nl_172, nl_179, nl_182, nl_183, nl_191, nl_248, nl_251, nl_255, nl_256, nl_300, nl_302, nl_303, nl_384, nl_640, nl_999, nl_1600, nl_1700, nl_3200, nl_6060, nl_65536, nl_999999, nI_add, pk_mul, xin_nI, nI_clamp, nI_leI, nI_ltI, nI_eq, reduceIte, Bool.true_eq_false, Bool.false_eq_true, b32_0, b32_1, xbd_some, Option.bind_some]
  by_cases h1 : x < tA τ 49 (25 + 5 * k)
  · have h2 : ¬ tA τ 49 (25 + 5 * k) ≤ x := by rw [i32_le]; rw [i32_lt] at h1; omega
    simp [h1, h2, b32]
  · have h2 : tA τ 49 (25 + 5 * k) ≤ x := by rw [i32_le]; rw [i32_lt] at h1; omega
    by_cases h3 : tA τ 49 (26 + 5 * k) < x
    · have h4 : ¬ x ≤ tA τ 49 (26 + 5 * k) := by rw [i32_le]; rw [i32_lt] at h3; omega
      simp [h1, h3, h4, b32]
    · have h4 : x ≤ tA τ 49 (26 + 5 * k) := by rw [i32_le]; rw [i32_lt] at h3; omega
      simp [h1, h2, h3, h4, b32]
