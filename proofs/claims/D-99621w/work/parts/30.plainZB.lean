/-! PLAIN LAW: the mutators: plant, offer, cut -/
set_option maxRecDepth 100000
section ZBs
variable {g : CG} {c c' : CC} {τ τ' q : TS} {X V s lo hi n : Nat} {v : VD} {w : Nat → Int32}
theorem M_plant {x y : Int32} (h : CORE g c τ X V v lo hi) : OK2 (f_c_X0_plant g X x y c) (f_t_plant x y τ) (fun o r => o.1 = r.1 ∧ CORE g o.2 r.2 X V v lo hi ∧ FR X c o.2 τ r.2) := by
  have hb := h.1.2.2.2.2.2.1
  have hb1 := hb.1
  have hb2 := hb.2.1
  have hC := C_isCell (x := x) (y := y) h.1
  have hD := T_isCell (c := x) (r := y) h.2.2.2.2.1.1 hb
  have href : OK2 (Jc_X0_plant_25 g X c) (Jt_plant_24 τ) (fun o r => o.1 = r.1 ∧ CORE g o.2 r.2 X V v lo hi ∧ FR X c o.2 τ r.2) := by
    unfold Jc_X0_plant_25 Jt_plant_24
    rw [if_pos h.1.1, nl_2, C_refuses h.1.1 h.2.1.2.2.2.2.2.2.1 (by omega), T_refuses (by omega), xbd_some, xbd_some]
    exact OK2_some ⟨rfl, h.ref (by omega)⟩
  unfold f_c_X0_plant f_t_plant
  rw [if_pos h.1.1, hC, hD, xbd_some, xbd_some]
  cases hz : (decide (nI 0 ≤ x) && decide (x < nI (vC v)) && (decide (nI 0 ≤ y) && decide (y < nI (vW v)))) with
  | false =>
    rw [if_pos (show b32 false = 0 by decide), if_pos (show b32 false = 0 by decide)]
    exact href
  | true =>
    rw [if_neg (show ¬ b32 true = 0 by decide), if_neg (show ¬ b32 true = 0 by decide)]
    simp only [Bool.and_eq_true, decide_eq_true_eq] at hz
    obtain ⟨k, hk, rfl⟩ := nI_lto (by omega) hz.1.1 hz.1.2
    obtain ⟨r, hr, rfl⟩ := nI_lto (by omega) hz.2.1 hz.2.2
    have hk2 : k < 10 := by omega
    have hr2 : r < 8 := by omega
    obtain ⟨w1, w2, w3, w4⟩ := h.2.1.2.2.1.2.2.2.2.2.1
    obtain ⟨m, hm, hm2⟩ := h.2.2.1.2.2.1.1 (8 * k + r) (by omega)
    have e8 : (8 : Int32) * nI k + nI r = nI (8 * k + r) := by rw [nl_8, pk_mul, nI_add]
    have e12 : (12 : Int32) + 8 * nI k + nI r = nI (12 + (8 * k + r)) := by rw [nl_8, nl_12, pk_mul, nI_add, nI_add, Nat.add_assoc]
    rw [h.2.1.1, Option.bind_some, if_pos h.2.1.2.2.1.1, w1, Option.bind_some, if_pos w2, w3, if_pos (xin_nI hk2 (by omega)), nI_clamp (show k < 2 ^ 31 by omega), (w4 k hk2).1, if_pos (w4 k hk2).2.1, (w4 k hk2).2.2, if_pos (xin_nI hr2 (by omega)), nI_clamp (show r < 2 ^ 31 by omega), h.2.2.1.1.2.2.2.1 k r hk2 hr2, e8, e12, T_willowsAt (show 8 * k + r < 291 by omega), xbd_some]
    by_cases h9 : tA τ 62 (12 + (8 * k + r)) = 9
    · rw [if_pos h9, if_pos h9]
      exact href
    · rw [if_neg h9, if_neg h9]
      have hm8 : m ≤ 8 := by
        rw [hm2] at h9
        have : ¬ nI m = nI 9 := h9
        rw [nI_eq (by omega) (by omega)] at this
        omega
      obtain ⟨c1, q1, e1, e2, p1, p2, p3⟩ := M_keeps h
      have ev : cA c1 (X + 35 + 5 + k) r + 1 = nI (m + 1) := by
        rw [p1.2.2.1.1.2.2.2.1 k r hk2 hr2, p3, hm2, nl_1, nI_add]
      have ev2 : tA q1 62 (12 + (8 * k + r)) + 1 = nI (m + 1) := by rw [p3, hm2, nl_1, nI_add]
      rw [e1, e2, Option.bind_some, Option.bind_some, if_pos (xin_nI hk2 (by omega)), if_pos (xin_nI hr2 (by omega)), if_pos (xin_nI hr2 (by omega)), if_pos (xin_nI hk2 (by omega)), if_pos (xin_nI hr2 (by omega)), ev, if_pos (xin_nI (show 12 + (8 * k + r) < 303 by omega) (by omega)), if_pos (xin_nI (show 12 + (8 * k + r) < 303 by omega) (by omega)), nI_clamp (show 12 + (8 * k + r) < 2 ^ 31 by omega), ev2, T_willowsAt (show 8 * k + r < 291 by omega), xbd_some]
      have hk3 := KSt_wil (k := k) (r := r) (m := m + 1) hb1 hk2 hr2 (by omega) p1.2.2.1
      have fin := p1.now (c' := uA c1 (X + 35 + 5 + k) r (nI (m + 1))) (τ' := sA q1 62 (12 + (8 * k + r)) (nI (m + 1))) ((CF.refl _ _ c1).uA (by omega)) ((TX.refl _ _ q1).sA rfl) (by rw [tA_upd]; exact hk3)
      refine OK2_some ⟨?_, fin.1, p2.trans fin.2⟩
      show cA (uA c1 (X + 35 + 5 + k) r (nI (m + 1))) (X + 35 + 5 + k) r = tA (sA q1 62 (12 + (8 * k + r)) (nI (m + 1))) 62 (12 + (8 * k + r))
      rw [cA_uA, if_pos ⟨rfl, rfl⟩, tA_sA, if_pos ⟨rfl, rfl⟩]
end ZBs
