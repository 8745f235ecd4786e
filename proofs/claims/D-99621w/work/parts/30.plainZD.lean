/-! PLAIN LAW: the mutators: offer -/
set_option maxRecDepth 100000
section ZDs
variable {g : CG} {c c' : CC} {τ τ' q : TS} {X V s lo hi n : Nat} {v : VD} {w : Nat → Int32}
theorem KSt_off {k r : Nat} (hb : VB v) (hk : k < 5) (hr : r ≤ 1) (h : KSt c v s w) : KSt (uA c (s + 3) k (nI r)) v s (upd w (172 + 2 * k) (nI r)) := by
  have hb1 := hb.1
  obtain ⟨k1, ⟨b1, b2, b3, b4, b5⟩, k3, k4, K, π, k5, k6⟩ := h
  have ks : KS s c (uA c (s + 3) k (nI r)) := (KS.refl s c).uA (by omega)
  refine ⟨RS_off k1 hb.2.2.2.1 hk, ⟨fun i hi => by rw [pk_un (by omega)]; exact b1 i hi, by rw [pk_un (by omega)]; exact b2, fun i hi => by rw [pk_un (by omega)]; exact b3 i hi, fun i hi => by rw [pk_un (by omega)]; exact b4 i hi, fun i hi => ⟨?_, by rw [pk_un (by omega)]; exact (b5 i hi).2⟩⟩, ⟨fun i hi => by rw [pk_un (by omega)]; exact k3.1 i hi, by unfold FB; rw [pk_un (by omega)]; exact k3.2⟩, by rw [pk_un (by omega)]; exact k4, K, π, k5.of ks, RKw.of k5 k6 ks (fun i hi => by rw [pk_un (by omega)])⟩
  by_cases e : i = k
  · subst e; rw [pk_us]
    rcases (show r = 0 ∨ r = 1 by omega) with rfl | rfl
    · exact Or.inl rfl
    · exact Or.inr rfl
  · rw [pk_un (by omega)]; exact (b5 i hi).1
theorem M_offer {x y : Int32} (h : CORE g c τ X V v lo hi) : OK2 (f_c_X0_offer g X x y c) (f_t_offer x y τ) (fun o r => o.1 = r.1 ∧ CORE g o.2 r.2 X V v lo hi ∧ FR X c o.2 τ r.2) := by
  have hb := h.1.2.2.2.2.2.1
  have hn := hb.2.2.2.1
  have hT := h.2.2.2.2.1
  have hrefC : Jc_X0_offer_39 g X c = some (0, uA c (X + 34) 2 (cA c (X + 34) 2 + nI 1)) := by
    unfold Jc_X0_offer_39
    rw [if_pos h.1.1, nl_2, C_refuses h.1.1 h.2.1.2.2.2.2.2.2.1 (by omega), xbd_some, if_pos (show (-1 : Int32) < 0 by decide)]
  have href : OK2 (some ((0 : Int32), uA c (X + 34) 2 (cA c (X + 34) 2 + nI 1))) (some (nI 0 &&& 1, sA τ 9 2 (tA τ 9 2 + nI 1))) (fun o r => o.1 = r.1 ∧ CORE g o.2 r.2 X V v lo hi ∧ FR X c o.2 τ r.2) := OK2_some ⟨(show (0 : Int32) = nI 0 &&& 1 by decide), h.ref (by omega)⟩
  unfold f_c_X0_offer f_t_offer
  rw [if_pos h.1.1, C_isLord h.1, xbd_some, T_isLord hT.1 hb, xbd_some, T_isRefused, xbd_some]
  cases hl : (decide (nI 0 ≤ x) && decide (x < nI (vN v))) with
  | false =>
    rw [if_pos (show b32 false = 0 by decide), if_pos (show b32 false = 0 by decide), hrefC]
    exact href
  | true =>
    rw [if_neg (show ¬ b32 true = 0 by decide), if_neg (show ¬ b32 true = 0 by decide), C_is, xbd_some, show ((0 : Int64)) = (0 : Int32).toInt64 from rfl, show ((1 : Int64)) = (1 : Int32).toInt64 from rfl, T_isIn32, xbd_some]
    simp only [Bool.and_eq_true, decide_eq_true_eq] at hl
    obtain ⟨k, hk, rfl⟩ := nI_lto (by omega) hl.1 hl.2
    cases hy : (decide ((0 : Int32) ≤ y) && decide (y ≤ 1)) with
    | false =>
      rw [if_pos (show b32 false = 0 by decide), if_pos (show b32 false = 0 by decide), hrefC]
      exact href
    | true =>
      rw [if_neg (show ¬ b32 true = 0 by decide), if_neg (show ¬ b32 true = 0 by decide)]
      simp only [Bool.and_eq_true, decide_eq_true_eq] at hy
      obtain ⟨r, hr, rfl⟩ := nI_lto (x := y) (n := 2) (by omega) hy.1 (by have := hy.2; rw [i32_le] at this; rw [i32_lt, nI_toInt (by omega)]; have h5 : (1 : Int32).toInt = 1 := by decide
                                                                          omega)
      have eo : cA c (X + 35 + 3) k = tA τ 62 (172 + 2 * k) := (h.2.2.1.1.2.2.2.2.2 k hk).1
      have e172 : (172 : Int32) + 2 * nI k = nI (172 + 2 * k) := by rw [nl_172, nl_2, pk_mul, nI_add]
      have e36 : (if nI r = 1 then Jc_X0_offer_36 g X (nI k) (nI r) 1 (cA c (X + 35 + 3) k) c else Jc_X0_offer_36 g X (nI k) (nI r) 0 (cA c (X + 35 + 3) k) c) = Jc_X0_offer_36 g X (nI k) (nI r) (nI r) (cA c (X + 35 + 3) k) c := by
        rcases (show r = 0 ∨ r = 1 by omega) with rfl | rfl
        · rw [if_neg (show ¬ nI 0 = 1 by decide)]; rfl
        · rw [if_pos (show nI 1 = 1 by decide)]; rfl
      rw [h.2.1.1, Option.bind_some, if_pos h.2.1.2.2.1.1, h.2.1.2.2.1.2.2.2.2.1.1, Option.bind_some, if_pos h.2.1.2.2.1.2.2.2.2.1.2.1, h.2.1.2.2.1.2.2.2.2.1.2.2, if_pos (xin_nI (show k < 5 by omega) (by omega)), nI_clamp (show k < 2 ^ 31 by omega), e36, e172, if_pos (xin_nI (show 172 + 2 * k < 303 by omega) (by omega)), nI_clamp (show 172 + 2 * k < 2 ^ 31 by omega)]
      unfold Jc_X0_offer_36
      rw [eo]
      by_cases he : tA τ 62 (172 + 2 * k) = nI r
      · rw [if_pos he, if_pos he, hrefC]
        exact href
      · rw [if_neg he, if_neg he, if_pos h.1.1]
        obtain ⟨c1, q1, e3, e4, p1, p2, p3⟩ := M_keeps h
        rw [e3, e4, Option.bind_some, Option.bind_some, h.2.1.1, Option.bind_some, if_pos h.2.1.2.2.1.1, h.2.1.2.2.1.2.2.2.2.1.1, Option.bind_some, if_pos h.2.1.2.2.1.2.2.2.2.1.2.1, h.2.1.2.2.1.2.2.2.2.1.2.2, if_pos (xin_nI (show k < 5 by omega) (by omega)), nI_clamp (show k < 2 ^ 31 by omega), if_pos (xin_nI (show 172 + 2 * k < 303 by omega) (by omega))]
        have hk3 := KSt_off (k := k) (r := r) hb (by omega) (by omega) p1.2.2.1
        have fin := p1.now (c' := uA c1 (X + 35 + 3) k (nI r)) (τ' := sA q1 62 (172 + 2 * k) (nI r)) ((CF.refl _ _ c1).uA (by omega)) ((TX.refl _ _ q1).sA rfl) (by rw [tA_upd]; exact hk3)
        rcases (show r = 0 ∨ r = 1 by omega) with rfl | rfl
        · rw [if_neg (show ¬ nI 0 = 1 by decide), if_pos h.2.1.2.2.1.2.2.2.2.1.2.1, if_pos (xin_nI (show k < 5 by omega) (by omega))]
          exact OK2_some ⟨rfl, fin.1, p2.trans fin.2⟩
        · rw [if_pos (show nI 1 = 1 by decide)]
          exact OK2_some ⟨rfl, fin.1, p2.trans fin.2⟩
end ZDs
