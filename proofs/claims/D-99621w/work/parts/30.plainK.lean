/-! PLAIN LAW: both together: straight; lord, has -/
set_option maxRecDepth 100000
theorem ahead_nI {v : VD} {w : Nat → Int32} {n k K : Nat} (hw : w 0 = nI n) (hn : n ≤ 999) (hk : k ≤ 1000) (hK : K ≤ 1000) : aheadS v w (nI k) (nI 0) (nI K) = decide (0 < vC v ∧ k ≤ K ∧ n + k ≤ 999) := by
  unfold aheadS
  rw [hw, nI_add, Bool.eq_iff_iff]
  simp only [Bool.and_eq_true, decide_eq_true_eq, Bool.not_eq_true', decide_eq_false_iff_not, nI_leI (show 0 < 2147483648 by omega) (show k < 2147483648 by omega), nI_leI (show k < 2147483648 by omega) (show K < 2147483648 by omega), nI_ltI (show 999 < 2147483648 by omega) (show n + k < 2147483648 by omega)]
  omega
section IK
variable {g : CG} {c : CC} {τ : TS} {X V lo hi : Nat} {v : VD}
theorem I_straightL {n : Nat} (h : IV g c τ X V v lo hi) (hv : 0 < vC v) (hn : tA τ 62 0 = nI n) : ∀ d k, k + d = 60 → n + k ≤ 999 → ∀ c' q f f', d + 2 ≤ f → d + 1 ≤ f' → TH g c' q X V v lo hi (n + k) → CZ X c c' → TX fY aY τ q → (∀ i, i < 182 → tA q 63 i = tA τ 62 i) → (∀ j, 182 ≤ j → tA q 62 j = tA τ 62 j) →
    OK2 ((itr (fun s_ : Int32 × CC => Bc_X0_straight_14 g X s_.1 s_.2) f (nI k, c')).bind fun b12 => (Sum.elim (fun e13 => some (((-1 : Int32), e13))) (fun r_ => some r_)) b12) ((itr (fun s_ : Int32 × TS => Bt_straight_15 s_.1 s_.2) f' (nI k, q)).bind fun b4 => Jt_straight_50 b4.1 b4.2) (RZ X c τ) := by
  intro d
  induction d with
  | zero =>
    intro k hk hnk c' q f f' hf hf' ht hz ty h63 hhi
    have hb := h.1.2.2.2.2.2.1
    have hb1 := hb.1
    obtain ⟨f, rfl⟩ : ∃ m, f = m + 2 := ⟨f - 2, by omega⟩
    obtain ⟨f', rfl⟩ : ∃ m, f' = m + 1 := ⟨f' - 1, by omega⟩
    have hI : IV g c' τ X V v lo hi := h.cz hz (TX.refl _ _ τ) ht.2.2.2.1
    obtain ⟨⟨b, c3⟩, e6, b1, b2⟩ := C_bends ht.1 ht.2.2.1
    obtain ⟨⟨b', q4⟩, e7, b3, b4⟩ := T_bendMany ht.2.2.2.2.1 hb
    obtain ⟨m, hm, hm2⟩ := bendsN_b (v := v) (w := tA q 62) (a := 0) (vC v)
    have hbb : b = nI m := b1.trans hm2
    have hbb' : b' = nI m := b3.trans hm2
    subst hbb hbb'
    have ht4 := ht.cn b2 b4
    obtain ⟨⟨b5, q5⟩, e8, b6, b7⟩ := T_bendMany ht4.2.2.2.2.1 hb
    have e62 : tA q4 62 = tA q 62 := funext (fun i => b4.2.2.1 62 i)
    have hb5 : b5 = nI m := by rw [e62] at b6; exact b6.trans hm2
    subst hb5
    obtain ⟨q6, e9, s5⟩ := T_back (τ := τ) (q := q5) (fun i hi => by rw [b7.2.2.1, b4.2.2.1]; exact h63 i hi) (fun j hj => by rw [b7.2.2.1, b4.2.2.1]; exact hhi j hj) ((ty.trans b4.tx).trans b7.tx) h.2.2.2.2.2.2.1
    have eA := C_isAhead (x := nI k) (a := nI 0) (b := nI 60) hI
    rw [ahead_nI hn (by omega) (by omega) (by omega), decide_eq_true (show 0 < vC v ∧ k ≤ 60 ∧ n + k ≤ 999 by omega)] at eA
    have eB : Bc_X0_straight_14 g X (nI k) c' = if nI m = nI 0 then some (.inr (.inr (nI k, c3))) else xbd (f_c_X5_passes g (X + 103) c3) fun r11 τ11 => some (.inl (nI k + nI 1, τ11)) := by
      unfold Bc_X0_straight_14
      simp only [nl_0, nl_1, nl_60, h.1.1, eA, xbd_some, h.2.1.2, Option.bind_some, ht.2.2.1.1.1, e6, reduceIte, show ¬ b32 true = nI 0 by decide]
      rfl
    have eT : Bt_straight_15 (nI k) q = some (.inr (nI k, q4)) := by
      unfold Bt_straight_15
      rw [e7]
      simp only [nl_0, nl_60, xbd_some, nI_leI (show 60 < 2147483648 by omega) (show k < 2147483648 by omega), show 60 ≤ k by omega, reduceIte]
      split <;> rfl
    have eT2 : (itr (fun s_ : Int32 × TS => Bt_straight_15 s_.1 s_.2) (f' + 1) (nI k, q)) = some (nI k, q4) := itr_inr eT
    rw [eT2, Option.bind_some]
    unfold Jt_straight_50 Jt_straight_62
    simp only [e8, xbd_some, e9, Option.bind_some, nl_0, nl_1, reduceIte, show ¬ nI 1 = nI 0 by decide, nI_eq (show m < 2147483648 by omega) (show 0 < 2147483648 by omega)]
    by_cases hm0 : m = 0
    · subst hm0
      rw [if_pos rfl] at eB
      have eC2 : (itr (fun s_ : Int32 × CC => Bc_X0_straight_14 g X s_.1 s_.2) (f + 2) (nI k, c')) = some (.inr (nI k, c3)) := itr_inr eB
      rw [eC2, if_pos rfl]
      exact OK2_some ⟨rfl, hz.trans b2.cz, s5, ht4.2.2.2.1⟩
    · rw [if_neg (by rw [nI_eq (by omega) (by omega)]; exact hm0)] at eB
      obtain ⟨⟨p, c5⟩, q7, e10, -, t5, t6, -⟩ := I_pass ht4 (by omega)
      rw [e10, xbd_some, nI_add] at eB
      have hz5 := (hz.trans b2.cz).trans t6.cz
      have hI5 : IV g c5 τ X V v lo hi := h.cz hz5 (TX.refl _ _ τ) t5.2.2.2.1
      have eA5 := C_isAhead (x := nI (k + 1)) (a := nI 0) (b := nI 60) hI5
      rw [ahead_nI hn (by omega) (by omega) (by omega), decide_eq_false (show ¬ (0 < vC v ∧ k + 1 ≤ 60 ∧ n + (k + 1) ≤ 999) by omega)] at eA5
      have eB5 : Bc_X0_straight_14 g X (nI (k + 1)) c5 = some (.inr (.inl c5)) := by
        unfold Bc_X0_straight_14
        simp only [nl_0, nl_1, nl_60, h.1.1, eA5, xbd_some, reduceIte, show b32 false = nI 0 by decide]
      have eC2 : (itr (fun s_ : Int32 × CC => Bc_X0_straight_14 g X s_.1 s_.2) (f + 2) (nI k, c')) = some (.inl c5) := (itr_inl eB).trans (itr_inr eB5)
      rw [eC2, if_neg hm0]
      exact OK2_some ⟨rfl, hz5, s5, t5.2.2.2.1⟩
  | succ d ih =>
    intro k hk hnk c' q f f' hf hf' ht hz ty h63 hhi
    have hb := h.1.2.2.2.2.2.1
    have hb1 := hb.1
    obtain ⟨f, rfl⟩ : ∃ m, f = m + 2 := ⟨f - 2, by omega⟩
    obtain ⟨f', rfl⟩ : ∃ m, f' = m + 1 := ⟨f' - 1, by omega⟩
    have hI : IV g c' τ X V v lo hi := h.cz hz (TX.refl _ _ τ) ht.2.2.2.1
    obtain ⟨⟨b, c3⟩, e6, b1, b2⟩ := C_bends ht.1 ht.2.2.1
    obtain ⟨⟨b', q4⟩, e7, b3, b4⟩ := T_bendMany ht.2.2.2.2.1 hb
    obtain ⟨m, hm, hm2⟩ := bendsN_b (v := v) (w := tA q 62) (a := 0) (vC v)
    have hbb : b = nI m := b1.trans hm2
    have hbb' : b' = nI m := b3.trans hm2
    subst hbb hbb'
    have ht4 := ht.cn b2 b4
    have e62 : tA q4 62 = tA q 62 := funext (fun i => b4.2.2.1 62 i)
    have eA := C_isAhead (x := nI k) (a := nI 0) (b := nI 60) hI
    rw [ahead_nI hn (by omega) (by omega) (by omega), decide_eq_true (show 0 < vC v ∧ k ≤ 60 ∧ n + k ≤ 999 by omega)] at eA
    have eB : Bc_X0_straight_14 g X (nI k) c' = if nI m = nI 0 then some (.inr (.inr (nI k, c3))) else xbd (f_c_X5_passes g (X + 103) c3) fun r11 τ11 => some (.inl (nI k + nI 1, τ11)) := by
      unfold Bc_X0_straight_14
      simp only [nl_0, nl_1, nl_60, h.1.1, eA, xbd_some, h.2.1.2, Option.bind_some, ht.2.2.1.1.1, e6, reduceIte, show ¬ b32 true = nI 0 by decide]
      rfl
    have eT : Bt_straight_15 (nI k) q = if nI m ≤ nI 0 then some (.inr (nI k, q4)) else if nI 999 ≤ nI (n + k) then some (.inr (nI k, q4)) else (f_t_seasonGoes q4).bind fun τ3 => some (.inl (nI k + nI 1, τ3)) := by
      unfold Bt_straight_15
      rw [e7]
      simp only [nl_0, nl_1, nl_60, nl_999, xbd_some, nI_leI (show 60 < 2147483648 by omega) (show k < 2147483648 by omega), show ¬ 60 ≤ k by omega, reduceIte, show xin (nI 0) 303 = true by decide, show (nI 0).toNatClampNeg = 0 by decide, ht4.2.2.2.2.2.2.2]
    have fin : ∀ q4', tA q4' 62 = tA q 62 → TX fY aY τ q4' → (∀ i, i < 182 → tA q4' 63 i = tA τ 62 i) → TV q4' v → OK (Jt_straight_50 (nI k) q4') (fun r => r.1 = (if m = 0 then nI k else -1) ∧ TX fZ aZ τ r.2) := by
      intro q4' a1 a2 a3 a4
      obtain ⟨⟨b5, q5⟩, e8, b6, b7⟩ := T_bendMany a4 hb
      have hb5 : b5 = nI m := by rw [a1] at b6; exact b6.trans hm2
      subst hb5
      obtain ⟨q6, e9, s5⟩ := T_back (τ := τ) (q := q5) (fun i hi => by rw [b7.2.2.1]; exact a3 i hi) (fun j hj => by rw [b7.2.2.1, a1]; exact hhi j hj) (a2.trans b7.tx) h.2.2.2.2.2.2.1
      unfold Jt_straight_50 Jt_straight_62
      simp only [e8, xbd_some, e9, Option.bind_some, nl_0, nl_1, reduceIte, show ¬ nI 1 = nI 0 by decide, nI_eq (show m < 2147483648 by omega) (show 0 < 2147483648 by omega)]
      by_cases hm0 : m = 0
      · rw [if_pos hm0, if_pos hm0]; exact OK_some ⟨rfl, s5⟩
      · rw [if_neg hm0, if_neg hm0]; exact OK_some ⟨rfl, s5⟩
    obtain ⟨⟨rr, q6⟩, e9, s4, s5⟩ := fin q4 e62 (ty.trans b4.tx) (fun i hi => by rw [b4.2.2.1]; exact h63 i hi) ht4.2.2.2.2.1
    by_cases hm0 : m = 0
    · subst hm0
      rw [if_pos rfl] at eB
      rw [if_pos (by decide)] at eT
      have eC2 : (itr (fun s_ : Int32 × CC => Bc_X0_straight_14 g X s_.1 s_.2) (f + 2) (nI k, c')) = some (.inr (nI k, c3)) := itr_inr eB
      have eT2 : (itr (fun s_ : Int32 × TS => Bt_straight_15 s_.1 s_.2) (f' + 1) (nI k, q)) = some (nI k, q4) := itr_inr eT
      rw [eC2, eT2, Option.bind_some, Option.bind_some, e9]
      exact OK2_some ⟨by rw [if_pos rfl] at s4; exact s4.symm, hz.trans b2.cz, s5, ht4.2.2.2.1⟩
    · rw [if_neg (by rw [nI_eq (by omega) (by omega)]; exact hm0)] at eB
      rw [if_neg (by rw [nI_leI (by omega) (by omega)]; omega)] at eT
      obtain ⟨⟨p, c5⟩, q7, e10, e11, t5, t6, t7, t8, -⟩ := I_pass ht4 (by omega)
      rw [e10, xbd_some, nI_add] at eB
      have hz5 := (hz.trans b2.cz).trans t6.cz
      by_cases h9 : 999 ≤ n + k
      · rw [if_pos (by rw [nI_leI (by omega) (by omega)]; exact h9)] at eT
        have hI5 : IV g c5 τ X V v lo hi := h.cz hz5 (TX.refl _ _ τ) t5.2.2.2.1
        have eA5 := C_isAhead (x := nI (k + 1)) (a := nI 0) (b := nI 60) hI5
        rw [ahead_nI hn (by omega) (by omega) (by omega), decide_eq_false (show ¬ (0 < vC v ∧ k + 1 ≤ 60 ∧ n + (k + 1) ≤ 999) by omega)] at eA5
        have eB5 : Bc_X0_straight_14 g X (nI (k + 1)) c5 = some (.inr (.inl c5)) := by
          unfold Bc_X0_straight_14
          simp only [nl_0, nl_1, nl_60, h.1.1, eA5, xbd_some, reduceIte, show b32 false = nI 0 by decide]
        have eC2 : (itr (fun s_ : Int32 × CC => Bc_X0_straight_14 g X s_.1 s_.2) (f + 2) (nI k, c')) = some (.inl c5) := (itr_inl eB).trans (itr_inr eB5)
        have eT2 : (itr (fun s_ : Int32 × TS => Bt_straight_15 s_.1 s_.2) (f' + 1) (nI k, q)) = some (nI k, q4) := itr_inr eT
        rw [eC2, eT2, Option.bind_some, Option.bind_some, e9]
        exact OK2_some ⟨by rw [if_neg hm0] at s4; exact s4.symm, hz5, s5, t5.2.2.2.1⟩
      · rw [if_neg (by rw [nI_leI (by omega) (by omega)]; exact h9), e11, Option.bind_some, nI_add] at eT
        have eC2 : (itr (fun s_ : Int32 × CC => Bc_X0_straight_14 g X s_.1 s_.2) (f + 2) (nI k, c')) = itr (fun s_ : Int32 × CC => Bc_X0_straight_14 g X s_.1 s_.2) (f + 1) (nI (k + 1), c5) := itr_inl eB
        have eT2 : (itr (fun s_ : Int32 × TS => Bt_straight_15 s_.1 s_.2) (f' + 1) (nI k, q)) = itr (fun s_ : Int32 × TS => Bt_straight_15 s_.1 s_.2) f' (nI (k + 1), q7) := itr_inl eT
        rw [eC2, eT2]
        refine ih (k + 1) (by omega) (by omega) c5 q7 (f + 1) f' (by omega) (by omega) t5 hz5 ((ty.trans b4.tx).trans t7.sy) (fun i hi => ?_) (fun j hj => ?_)
        · rw [t7.2.2.1 63 i rfl, b4.2.2.1]; exact h63 i hi
        · rw [t8 j hj, b4.2.2.1]; exact hhi j hj
theorem I_straight (h : IV g c τ X V v lo hi) : OK2 (f_c_X0_straight g X c) (f_t_straight τ) (RZ X c τ) := by
  obtain ⟨n, hn, hw⟩ := h.2.2.2.2.2.2.2
  obtain ⟨⟨r, c1⟩, q, e1, e2, p1, p2, p3, p4, p5, -, p7, -⟩ := I_aside h
  have p1 : r = X + 103 := p1
  subst p1
  have ht := p2 n hw
  unfold f_c_X0_straight f_t_straight
  simp only [h.1.1, h.2.1.1, h.2.1.2, Option.bind_some, ht.2.2.1.1.1, e1, xbd_some, reduceIte, nl_0, h.2.2.2.2.2.1.1.1, b32_0, decide_eq_false_iff_not]
  by_cases hv : 0 < vC v
  · rw [if_neg (fun e => e hv), e2, Option.bind_some]
    exact I_straightL h hv hw 60 0 (by omega) (by omega) c1 q 4096 4096 (by omega) (by omega) ht p3.cz p4 p7 (fun j _ => by rw [p5])
  · rw [if_pos hv]
    have hI1 : IV g c1 τ X V v lo hi := h.cz p3.cz (TX.refl _ _ τ) ht.2.2.2.1
    have eA := C_isAhead (x := nI 0) (a := nI 0) (b := nI 60) hI1
    rw [ahead_nI hw (by omega) (by omega) (by omega), decide_eq_false (show ¬ (0 < vC v ∧ 0 ≤ 60 ∧ n + 0 ≤ 999) by omega)] at eA
    have eB : Bc_X0_straight_14 g X (nI 0) c1 = some (.inr (.inl c1)) := by
      unfold Bc_X0_straight_14
      simp only [nl_0, nl_1, nl_60, h.1.1, eA, xbd_some, reduceIte, show b32 false = nI 0 by decide]
    have eC2 : (itr (fun s_ : Int32 × CC => Bc_X0_straight_14 g X s_.1 s_.2) 4096 (nI 0, c1)) = some (.inl c1) := itr_inr (n := 4095) eB
    rw [eC2]
    exact OK2_some ⟨rfl, p3.cz, TX.refl _ _ τ, ht.2.2.2.1⟩
end IK
