/-! PLAIN LAW: both together: lord, has -/
set_option maxRecDepth 100000
section IL
variable {g : CG} {c : CC} {τ : TS} {X V lo hi : Nat} {v : VD}
theorem I_lord {x y : Int32} (h : IV g c τ X V v lo hi) : OK2 (f_c_X0_lord g X x y c) (f_t_lord x y τ) (RD X c τ) := by
  obtain ⟨h1, h2, h3, h4, h5, h6, h7⟩ := h
  have hb := h1.2.2.2.2.2.1
  have hn := hb.2.2.2.1
  unfold f_c_X0_lord f_t_lord
  rw [C_isLord h1, T_isLord h6.1 hb]
  simp only [h1.1, xbd_some, reduceIte, nl_0, nl_1, nl_2, nl_3, nl_4, nl_5, nl_6, nl_25, b32_0, show ((0 : Int64)) = (nI 0).toInt64 from rfl, show ((3 : Int64)) = (nI 3).toInt64 from rfl, T_isIn32]
  split
  · exact OK2_some RD.mk
  · rename_i hz
    simp only [Bool.not_eq_false, Bool.and_eq_true, decide_eq_true_eq] at hz
    obtain ⟨k, hk, rfl⟩ := nI_lto (by omega) hz.1 hz.2
    obtain ⟨o, o1, o2, o3, o4, o5, o6, o7⟩ := C_lordOf h1.1 h1.2.1 h1.b hb hk
    obtain ⟨a, b, p, j, z, v1, v2, v3, v4, -⟩ := hb.2.2.2.2.2.2 k hk
    simp only [o1, xbd_some, o2, o3, o4, o5, o6, reduceIte, h2.1, h3.1.1, h3.1.2.2.2.1, h3.1.2.2.2.2.1, Option.bind_some, xin_nI (show k < 5 by omega) (by omega), nI_clamp (show k < 2 ^ 31 by omega), (h3.2.1.2.2.2.2.2 k hk).1, (h3.2.1.2.2.2.2.2 k hk).2, T_purseOf (show k < 5 by omega), T_doesOffer (show k < 5 by omega), pk_mul, nI_add, b32_0]
    by_cases hy : nI 0 ≤ y ∧ y < nI 4
    · obtain ⟨i, hi, rfl⟩ := nI_lto (by omega) hy.1 hy.2
      have e1 : (decide (nI 0 ≤ nI i) && decide (nI i ≤ nI 3)) = true := by
        simp only [Bool.and_eq_true, decide_eq_true_eq, nI_leI (show 0 < 2147483648 by omega) (show i < 2147483648 by omega), nI_leI (show i < 2147483648 by omega) (show 3 < 2147483648 by omega)]; omega
      have e2 : tA τ 49 (25 + 5 * k + i) = vL v (5 * k + i) := by rw [← h6.1.2.2.2.2.2.1 (5 * k + i) (by omega)]; congr 1; omega
      simp only [e1, Bool.true_eq_false, reduceIte, nI_add, xin_nI (show 25 + 5 * k + i < 50 by omega) (by omega), nI_clamp (show 25 + 5 * k + i < 2 ^ 31 by omega), e2]
      rcases (show i = 0 ∨ i = 1 ∨ i = 2 ∨ i = 3 by omega) with rfl | rfl | rfl | rfl
      · exact OK2_some RD.mk
      · exact OK2_some RD.mk
      · exact OK2_some RD.mk
      · exact OK2_some RD.mk
    · have e1 : (decide (nI 0 ≤ y) && decide (y ≤ nI 3)) = false := by
        rw [Bool.eq_false_iff]
        intro e
        simp only [Bool.and_eq_true, decide_eq_true_eq] at e
        refine hy ⟨e.1, ?_⟩
        have := e.2
        rw [i32_le, nI_toInt (by omega)] at this
        rw [i32_lt, nI_toInt (by omega)]; omega
      have n0 : ¬ y = nI 0 := fun e => hy (by rw [e]; decide)
      have n1 : ¬ y = nI 1 := fun e => hy (by rw [e]; decide)
      have n2 : ¬ y = nI 2 := fun e => hy (by rw [e]; decide)
      have n3 : ¬ y = nI 3 := fun e => hy (by rw [e]; decide)
      simp only [e1, n0, n1, n2, n3, reduceIte]
      by_cases n4 : y = nI 4
      · simp only [n4, reduceIte]; exact OK2_some RD.mk
      · simp only [n4, reduceIte]
        by_cases n5 : y = nI 5
        · simp only [n5, reduceIte]
          rcases (h3.2.2.1.2.2.2.2 k hk).1 with q | q
          · simp only [q, reduceIte, show ¬ nI 0 = nI 1 by decide, decide_false]; exact OK2_some RD.mk
          · simp only [q, reduceIte, show ¬ nI 1 = nI 0 by decide, decide_true, Bool.true_eq_false]; exact OK2_some RD.mk
        · simp only [n5, reduceIte]
          by_cases n6 : y = nI 6
          · simp only [n6, reduceIte]
            obtain ⟨⟨r, c'⟩, e3, q1, q2⟩ := C_bendsOf h1 h3 hk v1 v2 v3 v4
            obtain ⟨⟨r', τ'⟩, e4, q3, q4⟩ := T_bendsOf h6 hb hk v1 v2 v3 v4
            rw [e3, e4]
            exact OK2_some ⟨q1.trans q3.symm, q2, q4⟩
          · simp only [n6, reduceIte]
            exact OK2_some RD.mk
def offN (w : Nat → Int32) : Nat → Int32
  | 0 => nI 0
  | k + 1 => offN w k + (if w (172 + 2 * k) = nI 0 then nI 0 else nI 1)
theorem T_offerMany (h : TV τ v) (hb : VB v) (ho : ∀ k, k < vN v → tA τ 62 (172 + 2 * k) = nI 0 ∨ tA τ 62 (172 + 2 * k) = nI 1) : f_t_offerMany τ = some (offN (tA τ 62) (vN v), τ) := by
  have hn := hb.2.2.2.1
  unfold f_t_offerMany
  have e : itr (fun s_ : Int32 × Int32 × TS => Bt_offerMany_4 s_.1 s_.2.1 s_.2.2) 4096 (0, 0, τ) = some (offN (tA τ 62) (vN v), τ) := ?_
  · rw [e]; rfl
  refine itr_det (fun k => (offN (tA τ 62) k, nI k, τ)) (a := 0) (n := vN v) (r := (offN (tA τ 62) (vN v), τ)) (fun k _ hk => ?_) ?_ (by omega) (by omega)
  · show Bt_offerMany_4 (offN (tA τ 62) k) (nI k) τ = some (.inl (offN (tA τ 62) k + (if tA τ 62 (172 + 2 * k) = nI 0 then nI 0 else nI 1), nI (k + 1), τ))
    unfold Bt_offerMany_4 Jt_offerMany_23
    have h9 : ¬ nI (vN v) ≤ nI k := by rw [nI_leI (by omega) (by omega)]; omega
    simp only [T_lordMany h, xbd_some, h9, reduceIte, T_doesOffer (show k < 5 by omega), nl_1, nl_0, nI_add, b32_0]
    rcases ho k hk with q | q
    · simp only [q, show ¬ nI 0 = nI 1 by decide, decide_false, reduceIte]
      rw [show offN (tA τ 62) k + nI 0 = offN (tA τ 62) k from Int32.add_zero _]
    · simp only [q, show ¬ nI 1 = nI 0 by decide, decide_true, Bool.true_eq_false, reduceIte]
  · show Bt_offerMany_4 (offN (tA τ 62) (vN v)) (nI (vN v)) τ = _
    unfold Bt_offerMany_4
    have h9 : nI (vN v) ≤ nI (vN v) := by rw [nI_leI (by omega) (by omega)]; omega
    simp only [T_lordMany h, xbd_some, h9, reduceIte]
theorem C_offerMany {w : Nat → Int32} (h1 : CX g c X V v lo hi) (h2 : gR g 109 X = some (X + 35)) (h3 : CT g c X (X + 35) v w) : itr (fun s_ : Int32 × Int32 × CC => Bc_X0_has_2_104 g X s_.1 s_.2.1 s_.2.2) 4096 (0, 0, c) = some (offN w (vN v), c) := by
  have hb := h1.2.2.2.2.2.1
  have hn := hb.2.2.2.1
  refine itr_det (fun k => (offN w k, nI k, c)) (a := 0) (n := vN v) (r := (offN w (vN v), c)) (fun k _ hk => ?_) ?_ (by omega) (by omega)
  · show Bc_X0_has_2_104 g X (offN w k) (nI k) c = some (.inl (offN w k + (if w (172 + 2 * k) = nI 0 then nI 0 else nI 1), nI (k + 1), c))
    unfold Bc_X0_has_2_104 Jc_X0_has_2_130
    have h9 : ¬ nI (vN v) ≤ nI k := by rw [nI_leI (by omega) (by omega)]; omega
    simp only [C_lords h1.1 h1.2.1 h1.b, h1.1, xbd_some, h9, h2, h3.1.1, h3.1.2.2.2.2.1, Option.bind_some, reduceIte, xin_nI (show k < 5 by omega) (by omega), nI_clamp (show k < 2 ^ 31 by omega), (h3.2.1.2.2.2.2.2 k hk).1, nl_1, nl_0, nI_add]
    split <;> rfl
  · show Bc_X0_has_2_104 g X (offN w (vN v)) (nI (vN v)) c = _
    unfold Bc_X0_has_2_104
    have h9 : nI (vN v) ≤ nI (vN v) := by rw [nI_leI (by omega) (by omega)]; omega
    simp only [C_lords h1.1 h1.2.1 h1.b, h1.1, xbd_some, h9, reduceIte]
def wilN (w : Nat → Int32) : Nat → Int32
  | 0 => nI 0
  | k + 1 => wilN w k + w (12 + k)
theorem T_willowAll : f_t_willowAll τ = some (wilN (tA τ 62) 80, τ) := by
  unfold f_t_willowAll
  have e : itr (fun s_ : Int32 × Int32 × TS => Bt_willowAll_4 s_.1 s_.2.1 s_.2.2) 4096 (0, 0, τ) = some (wilN (tA τ 62) 80, τ) := ?_
  · rw [e]; rfl
  refine itr_det (fun k => (wilN (tA τ 62) k, nI k, τ)) (a := 0) (n := 80) (r := (wilN (tA τ 62) 80, τ)) (fun k _ hk => ?_) ?_ (by omega) (by omega)
  · show Bt_willowAll_4 (wilN (tA τ 62) k) (nI k) τ = some (.inl (wilN (tA τ 62) k + tA τ 62 (12 + k), nI (k + 1), τ))
    unfold Bt_willowAll_4
    have h9 : ¬ nI 80 ≤ nI k := by rw [nI_leI (by omega) (by omega)]; omega
    simp only [nl_80, xbd_some, h9, reduceIte, T_willowsAt (show k < 291 by omega), nl_1, nI_add]
  · show Bt_willowAll_4 (wilN (tA τ 62) 80) (nI 80) τ = _
    unfold Bt_willowAll_4
    have h9 : nI 80 ≤ nI 80 := by decide
    simp only [nl_80, h9, reduceIte]
theorem C_willowAll {w : Nat → Int32} (h3 : CT g c X (X + 35) v w) : itr (fun s_ : Int32 × Int32 × CC => Bc_X0_has_2_155 g (X + 35 + 4) (Int32.ofNat 10) s_.1 s_.2.1 s_.2.2) 4096 (0, 0, c) = some (wilN w 80, c) := by
  obtain ⟨w1, w2, w3, w4⟩ := h3.1.2.2.2.2.2.1
  refine itr_det (fun k => (wilN w (8 * k), nI k, c)) (a := 0) (n := 10) (r := (wilN w 80, c)) (fun k _ hk => ?_) ?_ (by omega) (by omega)
  · show Bc_X0_has_2_155 g (X + 35 + 4) (Int32.ofNat 10) (wilN w (8 * k)) (nI k) c = some (.inl (wilN w (8 * (k + 1)), nI (k + 1), c))
    unfold Bc_X0_has_2_155
    have h9 : ¬ Int32.ofNat 10 ≤ nI k := by show ¬ nI 10 ≤ nI k; rw [nI_leI (by omega) (by omega)]; omega
    have e : itr (fun s_ : Int32 × Int32 × CC => Bc_X0_has_2_180 g (X + 35 + 4) (Int32.ofNat 10) (nI k) (X + 35 + 5 + k) (Int32.ofNat 8) s_.1 s_.2.1 s_.2.2) 4096 (wilN w (8 * k), 0, c) = some (wilN w (8 * (k + 1)), c) := by
      refine itr_det (fun r => (wilN w (8 * k + r), nI r, c)) (a := 0) (n := 8) (r := (wilN w (8 * (k + 1)), c)) (fun r _ hr => ?_) ?_ (by omega) (by omega)
      · show Bc_X0_has_2_180 g (X + 35 + 4) (Int32.ofNat 10) (nI k) (X + 35 + 5 + k) (Int32.ofNat 8) (wilN w (8 * k + r)) (nI r) c = some (.inl (wilN w (8 * k + r) + w (12 + (8 * k + r)), nI (r + 1), c))
        unfold Bc_X0_has_2_180
        have h8 : ¬ Int32.ofNat 8 ≤ nI r := by show ¬ nI 8 ≤ nI r; rw [nI_leI (by omega) (by omega)]; omega
        simp only [h8, reduceIte, (w4 k hk).2.1, (w4 k hk).2.2, xin_nI hr (show 8 < 2147483648 by omega), nI_clamp (show r < 2 ^ 31 by omega), h3.2.1.2.2.2.1 k r hk hr, nl_1, nI_add]
      · show Bc_X0_has_2_180 g (X + 35 + 4) (Int32.ofNat 10) (nI k) (X + 35 + 5 + k) (Int32.ofNat 8) (wilN w (8 * k + 8)) (nI 8) c = _
        unfold Bc_X0_has_2_180
        have h8 : Int32.ofNat 8 ≤ nI 8 := by decide
        simp only [h8, reduceIte]
        rfl
    simp only [h9, reduceIte, w2, w3, xin_nI hk (show 10 < 2147483648 by omega), nI_clamp (show k < 2 ^ 31 by omega), (w4 k hk).1, (w4 k hk).2.1, (w4 k hk).2.2, e, Option.bind_some, nl_1, nI_add]
  · show Bc_X0_has_2_155 g (X + 35 + 4) (Int32.ofNat 10) (wilN w 80) (nI 10) c = _
    unfold Bc_X0_has_2_155
    have h9 : Int32.ofNat 10 ≤ nI 10 := by decide
    simp only [h9, reduceIte]
theorem I_has {x : Int32} (h : IV g c τ X V v lo hi) (h9 : cI c 118 X = tI τ 79) (h10 : cI c 121 X = tI τ 85) : OK2 (f_c_X0_has_2 g X x c) (f_t_has x τ) (RD X c τ) := by
  obtain ⟨h1, h2, h3, ⟨K, π, k1, k2⟩, h5, h6, h7⟩ := h
  have hb := h1.2.2.2.2.2.1
  have hr := h1.b
  have eo := C_offerMany h1 h2.1 h3
  have ew := C_willowAll h3
  obtain ⟨w1, w2, w3, w4⟩ := h3.1.2.2.2.2.2.1
  unfold f_c_X0_has_2 f_t_has Jt_has_60 Jt_has_74
  simp only [nl_0] at eo ew
  simp only [h1.1, h1.2.1, hr.1, hr.2.1, hr.2.2.1, h2.1, h3.1.1, C_columns h1.1 h1.2.1 h1.b, C_lords h1.1 h1.2.1 h1.b, xbd_some, Option.bind_some, reduceIte, nl_0, nl_1, nl_2, nl_3, nl_4, nl_5, nl_6, nl_7, nl_8, nl_9, nl_10, nl_182, h3.2.1.1, h3.2.1.2.1, w1, w2, w3, eo, ew, T_lordMany h6, T_offerMany h6 hb (fun k hk => (h3.2.2.1.2.2.2.2 k hk).1), T_willowAll, show xin (nI 182) 303 = true by decide, show (nI 182).toNatClampNeg = 182 by decide, k1.1, k2.1, h9, h10]
  by_cases n0 : x = nI 0
  · simp only [n0, reduceIte, nI_add, show xin (nI (3 + 0)) 6 = true by decide, show (nI (3 + 0)).toNatClampNeg = 3 by decide, h6.1.2.1]; exact OK2_some RD.mk
  simp only [n0, reduceIte]
  by_cases n1 : x = nI 1
  · simp only [n1, reduceIte, nI_add, show xin (nI (3 + 1)) 6 = true by decide, show (nI (3 + 1)).toNatClampNeg = 4 by decide, h6.1.2.2.1]; exact OK2_some RD.mk
  simp only [n1, reduceIte]
  by_cases n2 : x = nI 2
  · simp only [n2, reduceIte]; exact OK2_some RD.mk
  simp only [n2, reduceIte]
  by_cases n3 : x = nI 3
  · simp only [n3, reduceIte, show xin (nI 3 - nI 3) 303 = true by decide, show (nI 3 - nI 3).toNatClampNeg = 0 by decide]; exact OK2_some RD.mk
  simp only [n3, reduceIte]
  by_cases n4 : x = nI 4
  · simp only [n4, reduceIte, show xin (nI 4 - nI 3) 303 = true by decide, show (nI 4 - nI 3).toNatClampNeg = 1 by decide]; exact OK2_some RD.mk
  simp only [n4, reduceIte]
  by_cases n5 : x = nI 5
  · obtain ⟨⟨b, c3⟩, e6, b1, b2⟩ := C_bends h1 h3
    obtain ⟨⟨b', q4⟩, e7, b3, b4⟩ := T_bendMany h6 hb
    simp only [n5, reduceIte, e6, e7, xbd_some]; exact OK2_some ⟨b1.trans b3.symm, b2, b4⟩
  simp only [n5, reduceIte]
  by_cases n6 : x = nI 6
  · simp only [n6, reduceIte]; exact OK2_some RD.mk
  simp only [n6, reduceIte]
  by_cases n7 : x = nI 7
  · simp only [n7, reduceIte]; exact OK2_some RD.mk
  simp only [n7, reduceIte]
  by_cases n8 : x = nI 8
  · simp only [n8, reduceIte]; exact OK2_some RD.mk
  simp only [n8, reduceIte]
  by_cases n9 : x = nI 9
  · simp only [n9, reduceIte]; exact OK2_some RD.mk
  simp only [n9, reduceIte]
  by_cases n10 : x = nI 10
  · simp only [n10, reduceIte]; exact OK2_some RD.mk
  simp only [n10, reduceIte]
  exact OK2_some RD.mk
end IL
