/-! PLAIN LAW: the mutators: cut, offer -/
set_option maxRecDepth 100000
section ZCs
variable {g : CG} {c c' : CC} {τ τ' q : TS} {X V s lo hi n : Nat} {v : VD} {w : Nat → Int32}
theorem KSt_row {k r : Nat} (hb : VB v) (hk : k < vC v) (hr : r < vW v) (h : KSt c v s w) : KSt (uA c (s + 1) k (nI r)) v s (upd w (2 + k) (nI r)) := by
  have hb1 := hb.1
  obtain ⟨k1, k2, k3, k4, K, π, k5, k6⟩ := h
  have ks : KS s c (uA c (s + 1) k (nI r)) := (KS.refl s c).uA (by omega)
  exact ⟨RS_row k1 (by omega), WB_row hb k2 hk hr, ⟨fun i hi => by rw [pk_un (by omega)]; exact k3.1 i hi, by unfold FB; rw [pk_un (by omega)]; exact k3.2⟩, by rw [pk_un (by omega)]; exact k4, K, π, k5.of ks, RKw.of k5 k6 ks (fun i hi => by rw [pk_un (by omega)])⟩
theorem M_cut {x : Int32} (h : CORE g c τ X V v lo hi) : OK2 (f_c_X0_cut g X x c) (f_t_cut x τ) (fun o r => o.1 = r.1 ∧ CORE g o.2 r.2 X V v lo hi ∧ FR X c o.2 τ r.2) := by
  have hb := h.1.2.2.2.2.2.1
  have hb1 := hb.1
  have hT := h.2.2.2.2.1
  have hT0 := hT.1
  have ht := h.iv.2.2.1
  have hrefC : Jc_X0_cut_34 g X c = some (0, uA c (X + 34) 2 (cA c (X + 34) 2 + nI 1)) := by
    unfold Jc_X0_cut_34
    rw [if_pos h.1.1, nl_2, C_refuses h.1.1 h.2.1.2.2.2.2.2.2.1 (by omega), xbd_some, if_pos (show (-1 : Int32) < 0 by decide)]
  have href : ∀ r : Int32, r = 0 → OK2 (some ((0 : Int32), uA c (X + 34) 2 (cA c (X + 34) 2 + nI 1))) (some (r, sA τ 9 2 (tA τ 9 2 + nI 1))) (fun o r => o.1 = r.1 ∧ CORE g o.2 r.2 X V v lo hi ∧ FR X c o.2 τ r.2) := fun r hr => OK2_some ⟨hr.symm, h.ref (by omega)⟩
  unfold f_c_X0_cut f_t_cut
  rw [if_pos h.1.1, C_columns h.1.1 h.1.2.1 h.1.b, xbd_some, C_is, xbd_some, T_isColumn hT0 hb, xbd_some, T_isRefused, xbd_some]
  by_cases hin : ∃ k, 0 < k ∧ k + 1 < vC v ∧ x = nI k
  · obtain ⟨k, hk0, hk1, rfl⟩ := hin
    have e1 : (decide ((1 : Int32) ≤ nI k) && decide (nI k ≤ nI (vC v) - 2)) = true := by
      have a1 : (1 : Int32) ≤ nI k := by show nI 1 ≤ nI k; rw [nI_leI (by omega) (by omega)]; omega
      have a2 : nI k ≤ nI (vC v) - 2 := by
        rw [nl_2, pk_sub (show 2 ≤ vC v by omega), nI_leI (by omega) (by omega)]; omega
      simp [a1, a2]
    have e2 : (decide (nI 0 ≤ nI k) && decide (nI k < nI (vC v))) = true := by
      have a1 : nI 0 ≤ nI k := by rw [nI_leI (by omega) (by omega)]; omega
      have a2 : nI k < nI (vC v) := by rw [nI_ltI (by omega) (by omega)]; omega
      simp [a1, a2]
    rw [e1, e2, if_neg (show ¬ b32 true = 0 by decide), if_neg (show ¬ b32 true = 0 by decide), T_isInner hT0 hb (show k < vC v by omega), decide_eq_true (show 0 < k ∧ k + 1 < vC v by omega), xbd_some, if_neg (show ¬ b32 true = 0 by decide)]
    obtain ⟨z, hz1, hz2⟩ := halfS_b hb ht.2.2.1.1 (show k < vC v by omega)
    rw [h.2.1.1, Option.bind_some, if_pos h.2.1.2.2.1.1, h.2.1.2.2.1.2.2.1.1, Option.bind_some, if_pos h.2.1.2.2.1.2.2.1.2.1, h.2.1.2.2.1.2.2.1.2.2, if_pos (xin_nI (show k < 10 by omega) (by omega)), C_half h.1 ht (by omega), xbd_some, nI_clamp (show k < 2 ^ 31 by omega), h.2.2.1.1.2.2.1 k (by omega), T_rowOf (by omega), xbd_some, T_halfOf hT hb (by omega), xbd_some, hz2]
    by_cases he : tA τ 62 (2 + k) = nI z
    · rw [if_pos he, if_pos he, hrefC]
      exact href _ (show (nI 0 &&& 1 : Int32) = 0 by decide)
    · rw [if_neg he, if_neg he]
      obtain ⟨c1, q1, e3, e4, p1, p2, p3⟩ := M_keeps h
      have hz3 : halfS v (tA q1 62) k = nI z := by rw [p3]; exact hz2
      have e22 : (2 : Int32) + nI k = nI (2 + k) := by rw [nl_2, nI_add]
      rw [e3, e4, Option.bind_some, Option.bind_some, C_half p1.1 p1.iv.2.2.1 (by omega), xbd_some, hz3, if_pos (xin_nI (show k < 10 by omega) (by omega)), T_halfOf p1.2.2.2.2.1 hb (by omega), xbd_some, hz3, e22, if_pos (xin_nI (show 2 + k < 303 by omega) (by omega)), nI_clamp (show 2 + k < 2 ^ 31 by omega)]
      have hk3 := KSt_row (k := k) (r := z) hb (by omega) hz1 p1.2.2.1
      have fin := p1.now (c' := uA c1 (X + 35 + 1) k (nI z)) (τ' := sA q1 62 (2 + k) (nI z)) ((CF.refl _ _ c1).uA (by omega)) ((TX.refl _ _ q1).sA rfl) (by rw [tA_upd]; exact hk3)
      exact OK2_some ⟨rfl, fin.1, p2.trans fin.2⟩
  · have e1 : (decide ((1 : Int32) ≤ x) && decide (x ≤ nI (vC v) - 2)) = false := by
      rw [Bool.eq_false_iff]
      intro e
      simp only [Bool.and_eq_true, decide_eq_true_eq] at e
      obtain ⟨a1, a2⟩ := e
      have b1 : (nI (vC v) - nI 2).toInt = (vC v : Int) - 2 := by rw [i32_sub (by rw [nI_toInt (by omega), nI_toInt (by omega)]; omega) (by rw [nI_toInt (by omega), nI_toInt (by omega)]; omega), nI_toInt (by omega), nI_toInt (by omega)]; rfl
      rw [nl_2, i32_le, b1] at a2
      rw [nl_1, i32_le, nI_toInt (by omega)] at a1
      apply hin
      refine ⟨x.toInt.toNat, by omega, by omega, ?_⟩
      rw [i32_eq, nI_toInt (by omega)]
      omega
    rw [e1, if_pos (show b32 false = 0 by decide), hrefC]
    by_cases hcol : nI 0 ≤ x ∧ x < nI (vC v)
    · have e2 : (decide (nI 0 ≤ x) && decide (x < nI (vC v))) = true := by simp [hcol]
      obtain ⟨k, hk, rfl⟩ := nI_lto (by omega) hcol.1 hcol.2
      have hni : ¬ (0 < k ∧ k + 1 < vC v) := fun e => hin ⟨k, e.1, e.2, rfl⟩
      rw [e2, if_neg (show ¬ b32 true = 0 by decide), T_isInner hT0 hb hk, decide_eq_false hni, xbd_some, if_pos (show b32 false = 0 by decide)]
      exact href _ (show (nI 0 &&& 1 : Int32) = 0 by decide)
    · have e2 : (decide (nI 0 ≤ x) && decide (x < nI (vC v))) = false := by
        rw [Bool.eq_false_iff]; intro e; simp only [Bool.and_eq_true, decide_eq_true_eq] at e; exact hcol e
      rw [e2, if_pos (show b32 false = 0 by decide)]
      exact href _ (show (nI 0 &&& 1 : Int32) = 0 by decide)
end ZCs
