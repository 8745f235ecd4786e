/-! PLAIN LAW: the component bends -/
set_option maxRecDepth 100000
section CB
variable {g : CG} {c : CC} {X V s lo hi : Nat} {v : VD} {w : Nat → Int32}
theorem C_isBendBy {k : Nat} {x y z sn : Nat} (hx : CX g c X V v lo hi) (hk : k < vC v) (hx1 : x < 10) (hy1 : y < 10) (hz1 : z < 10) (hsn : sn ≤ 5000) : OK (f_c_X0_isBendBy g X (nI k) (nI x) (nI y) (nI z) (nI sn) c) (fun o => o.1 = b32 (bendB v (nI sn) k (nI x) (nI y) (nI z)) ∧ CN X c o.2) := by
  obtain ⟨hX, hV, hv, hap, ⟨m1, m2, m3, m4, m5⟩, hb, hsb⟩ := id hx
  have hc := hb.1
  obtain ⟨tn, htn, et⟩ := turnB_b (v := v) (c := k) hx1 hy1 hz1
  unfold f_c_X0_isBendBy bendB
  cases hF : vB v with
  | none =>
    have hF2 := hv.b.2.2.2.2.2.2.2.2
    rw [hF] at hF2
    simp only at hF2
    simp only [hX, hV, hv.b.1, hF2, C_turnOf hX hV hv.b hb hk, et, nl_0, nl_1, reduceIte, Option.bind_some, xbd_some, nI_leI (show tn < 2 ^ 31 by omega) (show 0 < 2 ^ 31 by omega), nI_ltI (show 0 < 2 ^ 31 by omega) (show tn < 2 ^ 31 by omega)]
    by_cases h0 : tn ≤ 0
    · have h1 : ¬ 0 < tn := by omega
      rw [if_pos h0]
      exact ⟨_, rfl, by simp [h1, b32], CN.refl X c⟩
    · have h1 : 0 < tn := by omega
      rw [if_neg h0]
      exact ⟨_, rfl, by simp [h1, b32], CN.refl X c⟩
  | some F =>
    have hF2 := hv.b.2.2.2.2.2.2.2.2
    rw [hF] at hF2
    simp only at hF2
    obtain ⟨honly, e, he, -⟩ := hF2
    have hne : ¬ (cR c 210 V = none) := by rw [he]; intro h; cases h
    have i0 : ∀ j, j < 18 → xin (nI j) 18 = true := fun j hj => xin_nI hj (by omega)
    have q0 : ∀ j, j < 18 → (nI j).toNatClampNeg = j := fun j hj => nI_clamp (by omega)
    have n6 : CN X c (uM (uM (uM (uM (uM (uM c (X + 31) 0 (nI k).toInt64) (X + 31) 1 (nI y).toInt64) (X + 31) 2 (nI tn).toInt64) (X + 31) 3 (nI sn).toInt64) (X + 31) 8 (nI x).toInt64) (X + 31) 9 (nI z).toInt64) := (((((CN.refl X c).uM).uM).uM).uM).uM.uM
    have hx' := hx.cn n6
    have hvb := hx'.2.2.1.b
    have hF3 := hvb.2.2.2.2.2.2.2.2
    rw [hF] at hF3
    simp only at hF3
    obtain ⟨-, e', he', hval⟩ := hF3
    have hVX := hx'.2.1
    simp only [nl_0, nl_1, nl_2, nl_3, nl_8, nl_9]
    generalize hc6 : uM (uM (uM (uM (uM (uM c (X + 31) 0 (nI k).toInt64) (X + 31) 1 (nI y).toInt64) (X + 31) 2 (nI tn).toInt64) (X + 31) 3 (nI sn).toInt64) (X + 31) 8 (nI x).toInt64) (X + 31) 9 (nI z).toInt64 = c6 at *
    have hat := hval (X + 30) (X + 31) m2 m3 m4 m5
    simp only [hX, hV, hv.b.1, hne, C_turnOf hX hV hv.b hb hk, et, m1, m2, m3, m4, m5, i0 0 (by omega), i0 1 (by omega), i0 2 (by omega), i0 3 (by omega), i0 8 (by omega), i0 9 (by omega), q0 0 (by omega), q0 1 (by omega), q0 2 (by omega), q0 3 (by omega), q0 8 (by omega), q0 9 (by omega), hc6, hVX, he', hat, b32_and, reduceIte, Option.bind_some, xbd_some]
    refine ⟨_, rfl, ?_, n6⟩
    refine congrArg b32 (honly _ _ (fun j hj _ => ?_))
    have hj8 : j < 4 ∨ j = 8 ∨ j = 9 := by
      simp only [okB, Bool.or_eq_true, Bool.and_eq_true, decide_eq_true_eq, beq_iff_eq] at hj
      omega
    rw [← hc6]
    simp only [cM_uM, envB]
    rcases (by omega : j = 0 ∨ j = 1 ∨ j = 2 ∨ j = 3 ∨ j = 8 ∨ j = 9) with h | h | h | h | h | h <;> subst h <;> simp <;> exact clip_nI (by omega)
theorem C_isBend {k : Nat} (hx : CX g c X V v lo hi) (ht : CT g c X s v w) (hk : k < vC v) : OK (f_c_X5_isBend g s (nI k) c) (fun o => o.1 = b32 (bendS v w k) ∧ CN X c o.2) := by
  obtain ⟨hX, hV, hv, hap, hmm, hb, hsb⟩ := id hx
  obtain ⟨hs, hR, hW, hsX⟩ := id ht
  have hc := hb.1
  have hw := hb.2.1
  obtain ⟨⟨x, hx1, ex⟩, ⟨y, hy1, ey⟩, z, hz1, ez⟩ := WR_beh hb hW.1 hk
  obtain ⟨sn, hsn, es⟩ := hW.2.1
  unfold f_c_X5_isBend bendS
  simp only [hs.1, hs.2.1, hs.2.2.1.1, hs.2.2.1.2.1, hs.2.2.1.2.2, hX, C_before hs hR (show k < 10 by omega), C_behind hs hX hV hv.b hb hR hk, hR.2.2.1 k (by omega), hR.1, reduceIte, Option.bind_some, xbd_some, xin_nI (show k < 10 by omega) (by omega), nI_clamp (show k < 2 ^ 31 by omega), ex, ey, ez, es]
  refine OK_bd (C_isBendBy hx hk (by omega) (by omega) (by omega) hsn) (fun q c' hq => ⟨_, rfl, ?_, hq.2⟩)
  have hq1 : q = _ := hq.1
  rw [hq1, nl_1, b32_and]
theorem C_bends (hx : CX g c X V v lo hi) (ht : CT g c X s v w) : OK (f_c_X5_bends g s c) (fun o => o.1 = bendsN v w 0 (vC v) ∧ CN X c o.2) := by
  obtain ⟨hX, -, -, -, -, hb, -⟩ := id hx
  have hc := hb.1
  unfold f_c_X5_bends
  refine OK_bind (P := fun o => o.1 = bendsN v w 0 (vC v) ∧ CN X c o.2) ?_ (fun o ho => ⟨_, rfl, ho⟩)
  refine itr_for (fun k p => ∃ c', p = (bendsN v w 0 k, nI k, c') ∧ CN X c c') _ 0 (vC v) ?_ ?_ (by omega) (by omega) ⟨c, rfl, CN.refl X c⟩
  · rintro k p - hk ⟨c', rfl, hn⟩
    have hx' := hx.cn hn
    show OK (Bc_X5_bends_4 g s (bendsN v w 0 k) (nI k) c') _
    unfold Bc_X5_bends_4 Jc_X5_bends_29
    have h2 : ¬ nI (vC v) ≤ nI k := by rw [nI_leI (by omega) (by omega)]; omega
    simp only [ht.1.1, ht.1.2.1, hX, C_columns hX hx'.2.1 hx'.2.2.1.b, h2, reduceIte, Option.bind_some, xbd_some]
    refine OK_bd (C_isBend hx' (ht.cn hn) hk) (fun q c2 hq => ?_)
    have hq1 : q = _ := hq.1
    rw [hq1, nl_0, nl_1]
    simp only [b32_0, nI_add]
    cases hf : bendS v w k with
    | true => exact ⟨_, rfl, Or.inl ⟨_, rfl, c2, by rw [bendsN, Nat.zero_add, hf]; simp, hn.trans hq.2⟩⟩
    | false =>
      refine ⟨_, rfl, Or.inl ⟨_, rfl, c2, ?_, hn.trans hq.2⟩⟩
      rw [bendsN, Nat.zero_add, hf]
      simp only [Bool.false_eq_true, reduceIte]
      rw [show bendsN v w 0 k + nI 0 = bendsN v w 0 k from Int32.add_zero _]
  · rintro p ⟨c', rfl, hn⟩
    have hx' := hx.cn hn
    show OK (Bc_X5_bends_4 g s (bendsN v w 0 (vC v)) (nI (vC v)) c') _
    unfold Bc_X5_bends_4
    have h2 : nI (vC v) ≤ nI (vC v) := by rw [nI_leI (by omega) (by omega)]; omega
    simp only [ht.1.1, ht.1.2.1, hX, C_columns hX hx'.2.1 hx'.2.2.1.b, h2, reduceIte, Option.bind_some, xbd_some]
    exact ⟨_, rfl, _, rfl, rfl, hn⟩
/-- a column in which a lord asks, by its numbers -/
theorem C_bendsOf {l a b : Nat} (hx : CX g c X V v lo hi) (ht : CT g c X s v w) (hl : l < vN v) (ha : vL v (5 * l) = nI a) (hb2 : vL v (5 * l + 1) = nI b) (hab : a ≤ b) (hbc : b < vC v) : OK (f_c_X5_bendsOf g s (nI l) c) (fun o => o.1 = bendsN v w a (b + 1 - a) ∧ CN X c o.2) := by
  obtain ⟨hX, hV, hv, -, -, hb, -⟩ := id hx
  have hc := hb.1
  obtain ⟨o, o1, o2, o3, -⟩ := C_lordOf hX hV hv.b hb hl
  unfold f_c_X5_bendsOf
  simp only [ht.1.1, ht.1.2.1, hX, o1, o2, o3, ha, reduceIte, Option.bind_some, xbd_some]
  refine OK_bind (P := fun o => o.1 = bendsN v w a (b + 1 - a) ∧ CN X c o.2) ?_ (fun o ho => ⟨_, rfl, ho⟩)
  refine itr_for (fun k p => ∃ c', p = (bendsN v w a k, nI (a + k), c') ∧ CN X c c') _ 0 (b + 1 - a) ?_ ?_ (by omega) (by omega) ⟨c, rfl, CN.refl X c⟩
  · rintro k p - hk ⟨c', rfl, hn⟩
    have hx' := hx.cn hn
    obtain ⟨o', p1, p2, p3, p4, -⟩ := C_lordOf hX hx'.2.1 hx'.2.2.1.b hb hl
    show OK (Bc_X5_bendsOf_14 g s (nI l) (bendsN v w a k) (nI (a + k)) c') _
    unfold Bc_X5_bendsOf_14 Jc_X5_bendsOf_43
    have h2 : ¬ nI b < nI (a + k) := by rw [nI_ltI (by omega) (by omega)]; omega
    simp only [ht.1.1, ht.1.2.1, hX, p1, p2, p4, hb2, h2, reduceIte, Option.bind_some, xbd_some]
    refine OK_bd (C_isBend hx' (ht.cn hn) (show a + k < vC v by omega)) (fun q c2 hq => ?_)
    have hq1 : q = _ := hq.1
    rw [hq1, nl_0, nl_1]
    simp only [b32_0, nI_add]
    cases hf : bendS v w (a + k) with
    | true => exact ⟨_, rfl, Or.inl ⟨_, rfl, c2, by rw [bendsN, hf]; simp [Nat.add_assoc], hn.trans hq.2⟩⟩
    | false =>
      refine ⟨_, rfl, Or.inl ⟨_, rfl, c2, ?_, hn.trans hq.2⟩⟩
      rw [bendsN, hf]
      simp only [Bool.false_eq_true, reduceIte, Nat.add_assoc]
      rw [show bendsN v w a k + nI 0 = bendsN v w a k from Int32.add_zero _]
  · rintro p ⟨c', rfl, hn⟩
    have hx' := hx.cn hn
    obtain ⟨o', p1, p2, p3, p4, -⟩ := C_lordOf hX hx'.2.1 hx'.2.2.1.b hb hl
    show OK (Bc_X5_bendsOf_14 g s (nI l) (bendsN v w a (b + 1 - a)) (nI (a + (b + 1 - a))) c') _
    unfold Bc_X5_bendsOf_14
    have h2 : nI b < nI (a + (b + 1 - a)) := by rw [nI_ltI (by omega) (by omega)]; omega
    simp only [ht.1.1, ht.1.2.1, hX, p1, p2, p4, hb2, h2, reduceIte, Option.bind_some, xbd_some]
    exact ⟨_, rfl, _, rfl, rfl, hn⟩
end CB
theorem T_bendsOf {τ : TS} {v : VD} {l a b : Nat} (h : TV τ v) (hb : VB v) (hl : l < vN v) (ha : vL v (5 * l) = nI a) (hb2 : vL v (5 * l + 1) = nI b) (hab : a ≤ b) (hbc : b < vC v) : OK (f_t_bendsOf (nI l) τ) (fun o => o.1 = bendsN v (tA τ 62) a (b + 1 - a) ∧ TN τ o.2) := by
  have h1 := hb.1
  have h2 := hb.2.2.2.1
  have ea : ∀ τ', TN τ τ' → tA τ' 49 (25 + 5 * l) = nI a := fun τ' hn => by rw [hn.2.2.1, h.1.2.2.2.2.2.1 (5 * l) (by omega)]; exact ha
  have eb : ∀ τ', TN τ τ' → tA τ' 49 (26 + 5 * l) = nI b := fun τ' hn => by rw [hn.2.2.1, show 26 + 5 * l = 25 + (5 * l + 1) by omega, h.1.2.2.2.2.2.1 (5 * l + 1) (by omega)]; exact hb2
  unfold f_t_bendsOf
  simp (discharger := omega) only [nl_0, nl_1, nl_2, nl_3, nl_4, nl_5, nl_6, nl_7, nl_8, nl_9, nl_10, nl_12, nl_15, nl_16, nl_20, nl_25, nl_26, nl_27, nl_28, nl_30, nl_31, nl_32, nl_40, nl_48, nl_60, nl_64, nl_80, nl_92, nl_99, nl_100, nl_117, nl_119, nl_160, nl_172, nl_179, nl_182, nl_183, nl_191, nl_248, nl_251, nl_255, nl_256, nl_300, nl_302, nl_303, nl_384, nl_640, nl_999, nl_1600, nl_1700, nl_3200, nl_6060, nl_65536, nl_999999, nI_add, pk_mul, xin_nI, nI_clamp, nI_leI, nI_ltI, nI_eq, reduceIte, Bool.true_eq_false, Bool.false_eq_true, b32_0, b32_1, xbd_some, Option.bind_some, ea τ (TN.refl τ)]
  refine OK_bind (P := fun o => o.1 = bendsN v (tA τ 62) a (b + 1 - a) ∧ TN τ o.2) ?_ (fun o ho => ⟨_, rfl, ho⟩)
  refine itr_for (fun k s => ∃ τ', s = (bendsN v (tA τ 62) a k, nI (a + k), τ') ∧ TN τ τ') _ 0 (b + 1 - a) ?_ ?_ (by omega) (by omega) ⟨τ, rfl, TN.refl τ⟩
  · rintro k s - hk ⟨τ', rfl, hn⟩
    have e62 : tA τ' 62 = tA τ 62 := by funext i; exact hn.2.2.1 62 i
    show OK (Bt_bendsOf_14 (nI l) (bendsN v (tA τ 62) a k) (nI (a + k)) τ') _
    unfold Bt_bendsOf_14 Jt_bendsOf_40
    have h3 : ¬ b < a + k := by omega
    simp (discharger := omega) only [nl_0, nl_1, nl_2, nl_3, nl_4, nl_5, nl_6, nl_7, nl_8, nl_9, nl_10, nl_12, nl_15, nl_16, nl_20, nl_25, nl_26, nl_27, nl_28, nl_30, nl_31, nl_32, nl_40, nl_48, nl_60, nl_64, nl_80, nl_92, nl_99, nl_100, nl_117, nl_119, nl_160, nl_172, nl_179, nl_182, nl_183, nl_191, nl_248, nl_251, nl_255, nl_256, nl_300, nl_302, nl_303, nl_384, nl_640, nl_999, nl_1600, nl_1700, nl_3200, nl_6060, nl_65536, nl_999999, nI_add, pk_mul, xin_nI, nI_clamp, nI_leI, nI_ltI, nI_eq, reduceIte, Bool.true_eq_false, Bool.false_eq_true, b32_0, b32_1, xbd_some, Option.bind_some, eb τ' hn, h3]
    refine OK_bd (T_isBend (h.tn hn) hb (show a + k < vC v by omega)) (fun q τ2 hq => ?_)
    have hq1 : q = _ := hq.1
    rw [hq1, e62]
    simp only [b32_0]
    cases hf : bendS v (tA τ 62) (a + k) with
    | true => exact ⟨_, rfl, Or.inl ⟨_, rfl, τ2, by rw [bendsN, hf]; simp [Nat.add_assoc], hn.trans hq.2⟩⟩
    | false => exact ⟨_, rfl, Or.inl ⟨_, rfl, τ2, by rw [bendsN, hf]; simp [Nat.add_assoc], hn.trans hq.2⟩⟩
  · rintro s ⟨τ', rfl, hn⟩
    show OK (Bt_bendsOf_14 (nI l) (bendsN v (tA τ 62) a (b + 1 - a)) (nI (a + (b + 1 - a))) τ') _
    unfold Bt_bendsOf_14
    have h3 : b < a + (b + 1 - a) := by omega
    simp (discharger := omega) only [nl_0, nl_1, nl_2, nl_3, nl_4, nl_5, nl_6, nl_7, nl_8, nl_9, nl_10, nl_12, nl_15, nl_16, nl_20, nl_25, nl_26, nl_27, nl_28, nl_30, nl_31, nl_32, nl_40, nl_48, nl_60, nl_64, nl_80, nl_92, nl_99, nl_100, nl_117, nl_119, nl_160, nl_172, nl_179, nl_182, nl_183, nl_191, nl_248, nl_251, nl_255, nl_256, nl_300, nl_302, nl_303, nl_384, nl_640, nl_999, nl_1600, nl_1700, nl_3200, nl_6060, nl_65536, nl_999999, nI_add, pk_mul, xin_nI, nI_clamp, nI_leI, nI_ltI, nI_eq, reduceIte, Bool.true_eq_false, Bool.false_eq_true, b32_0, b32_1, xbd_some, Option.bind_some, eb τ' hn, h3]
    exact ⟨_, rfl, _, rfl, rfl, hn⟩
