/-! PLAIN LAW: the twin's seasons -/
set_option maxRecDepth 100000
section TS8
variable {τ : TS} {v : VD}
theorem T_moves (h : TV τ v) (hb : VB v) (hr : WR v (tA τ 62)) : OK (itr (fun s_ : Int32 × TS => Bt_seasonGoes_2 s_.1 s_.2) 4096 (0, τ)) (fun τ' => tA τ' 62 = moveN v (tA τ 62) (vC v) ∧ TX no in62 τ τ') := by
  have h1 := hb.1
  refine itr_for (fun k s => ∃ τ', s = (nI k, τ') ∧ tA τ' 62 = moveN v (tA τ 62) k ∧ TX no in62 τ τ') _ 0 (vC v) ?_ ?_ (by omega) (by omega) ⟨τ, rfl, rfl, TX.refl _ _ τ⟩
  · rintro k s - hk ⟨τ', rfl, w1, hn⟩
    have hT : TV τ' v := h.tx hn ⟨rfl, rfl⟩ ⟨rfl, rfl, rfl, rfl, rfl, rfl⟩
    show OK (Bt_seasonGoes_2 (nI k) τ') _
    unfold Bt_seasonGoes_2
    rw [T_columnMany, xbd_some, hT.1.2.1, if_neg (by rw [nI_leI (by omega) (by omega)]; omega)]
    refine OK_bind (T_columnMoves hT hb hk (by rw [w1]; exact moveN_WR hb hr k)) (fun τ2 h2 => ?_)
    refine ⟨_, rfl, Or.inl ⟨_, rfl, τ2, by rw [nl_1, nI_add], ?_, hn.trans h2.2⟩⟩
    rw [h2.1, w1]
    rfl
  · rintro s ⟨τ', rfl, w1, hn⟩
    have hT : TV τ' v := h.tx hn ⟨rfl, rfl⟩ ⟨rfl, rfl, rfl, rfl, rfl, rfl⟩
    show OK (Bt_seasonGoes_2 (nI (vC v)) τ') _
    unfold Bt_seasonGoes_2
    rw [T_columnMany, xbd_some, hT.1.2.1, if_pos (by rw [nI_leI (by omega) (by omega)]; omega)]
    exact ⟨_, rfl, _, rfl, w1, hn⟩
theorem T_evers (h : TV τ v) (hb : VB v) (hr : WR v (tA τ 62)) : OK (itr (fun s_ : Int32 × TS => Bt_seasonGoes_23 s_.1 s_.2) 4096 (0, τ)) (fun τ' => tA τ' 62 = everN (tA τ 62) (vC v) ∧ TX no in62 τ τ') := by
  have h1 := hb.1
  have h2 := hb.2.1
  refine itr_for (fun k s => ∃ τ', s = (nI k, τ') ∧ tA τ' 62 = everN (tA τ 62) k ∧ TX no in62 τ τ') _ 0 (vC v) ?_ ?_ (by omega) (by omega) ⟨τ, rfl, rfl, TX.refl _ _ τ⟩
  · rintro k s - hk ⟨τ', rfl, w1, hn⟩
    have hT : TV τ' v := h.tx hn ⟨rfl, rfl⟩ ⟨rfl, rfl, rfl, rfl, rfl, rfl⟩
    obtain ⟨r, hr1, hr2⟩ : ∃ r, r < vW v ∧ tA τ' 62 (2 + k) = nI r := by rw [w1]; exact everN_WR hb hr k k hk
    show OK (Bt_seasonGoes_23 (nI k) τ') _
    unfold Bt_seasonGoes_23 Jt_seasonGoes_66
    rw [T_columnMany, xbd_some, hT.1.2.1, if_neg (by rw [nI_leI (by omega) (by omega)]; omega), T_rowOf (by omega), xbd_some, hr2]
    have hN : everN (tA τ 62) (k + 1) = everS (tA τ' 62) k := by rw [w1]; rfl
    have e9 : (tA τ' 62 (2 + k)).toNatClampNeg = r := by rw [hr2]; exact nI_clamp (by omega)
    simp (discharger := omega) only [nl_0, nl_1, nl_2, nl_3, nl_4, nl_5, nl_6, nl_7, nl_8, nl_9, nl_10, nl_12, nl_15, nl_16, nl_20, nl_25, nl_26, nl_27, nl_28, nl_30, nl_31, nl_32, nl_40, nl_48, nl_60, nl_64, nl_80, nl_92, nl_99, nl_100, nl_117, nl_119, nl_160, nl_172, nl_179, nl_182, nl_183, nl_191, nl_248, nl_251, nl_255, nl_256, nl_300, nl_302, nl_303, nl_384, nl_640, nl_999, nl_1600, nl_1700, nl_3200, nl_6060, nl_65536, nl_999999, nI_add, pk_mul, xin_nI, nI_clamp, nI_leI, nI_ltI, nI_eq, reduceIte, Bool.true_eq_false, Bool.false_eq_true, b32_0, b32_1, xbd_some, Option.bind_some]
    by_cases h9 : nI 99 ≤ tA τ' 62 (92 + 8 * k + r)
    · rw [if_pos h9]
      refine ⟨_, rfl, Or.inl ⟨_, rfl, τ', rfl, ?_, hn⟩⟩
      rw [hN]; unfold everS; rw [e9, if_pos h9]
    · rw [if_neg h9]
      refine ⟨_, rfl, Or.inl ⟨_, rfl, _, rfl, ?_, hn.sA rfl⟩⟩
      rw [hN, tA_upd]; unfold everS; rw [e9, if_neg h9]
  · rintro s ⟨τ', rfl, w1, hn⟩
    have hT : TV τ' v := h.tx hn ⟨rfl, rfl⟩ ⟨rfl, rfl, rfl, rfl, rfl, rfl⟩
    show OK (Bt_seasonGoes_23 (nI (vC v)) τ') _
    unfold Bt_seasonGoes_23
    rw [T_columnMany, xbd_some, hT.1.2.1, if_pos (by rw [nI_leI (by omega) (by omega)]; omega)]
    exact ⟨_, rfl, _, rfl, w1, hn⟩
theorem T_bps (h : TV τ v) (hb : VB v) : OK (itr (fun s_ : Int32 × Int32 × Int32 × TS => Bt_seasonGoes_78 s_.1 s_.2.1 s_.2.2.1 s_.2.2.2) 4096 (0, 0, 0, τ)) (fun o => tA o.2.2 62 = (bpN v (tA τ 62, tA τ 72, nI 0, nI 0) (vC v)).1 ∧ tA o.2.2 72 = (bpN v (tA τ 62, tA τ 72, nI 0, nI 0) (vC v)).2.1 ∧ o.1 = (bpN v (tA τ 62, tA τ 72, nI 0, nI 0) (vC v)).2.2.1 ∧ o.2.1 = (bpN v (tA τ 62, tA τ 72, nI 0, nI 0) (vC v)).2.2.2 ∧ TX no in72 τ o.2.2) := by
  have h1 := hb.1
  refine itr_for (fun k s => ∃ τ', s = ((bpN v (tA τ 62, tA τ 72, nI 0, nI 0) k).2.2.1, (bpN v (tA τ 62, tA τ 72, nI 0, nI 0) k).2.2.2, nI k, τ') ∧ tA τ' 62 = (bpN v (tA τ 62, tA τ 72, nI 0, nI 0) k).1 ∧ tA τ' 72 = (bpN v (tA τ 62, tA τ 72, nI 0, nI 0) k).2.1 ∧ TX no in72 τ τ') _ 0 (vC v) ?_ ?_ (by omega) (by omega) ⟨τ, rfl, rfl, rfl, TX.refl _ _ τ⟩
  · rintro k s - hk ⟨τ', rfl, w1, w2, hn⟩
    have hT : TV τ' v := h.tx hn ⟨rfl, rfl⟩ ⟨rfl, rfl, rfl, rfl, rfl, rfl⟩
    have hN : bpN v (tA τ 62, tA τ 72, nI 0, nI 0) (k + 1) = bpS v k (bpN v (tA τ 62, tA τ 72, nI 0, nI 0) k) := rfl
    generalize bpN v (tA τ 62, tA τ 72, nI 0, nI 0) (k + 1) = S' at *
    generalize bpN v (tA τ 62, tA τ 72, nI 0, nI 0) k = S at *
    show OK (Bt_seasonGoes_78 S.2.2.1 S.2.2.2 (nI k) τ') _
    unfold Bt_seasonGoes_78 Jt_seasonGoes_105
    rw [T_columnMany, xbd_some, hT.1.2.1, if_neg (by rw [nI_leI (by omega) (by omega)]; omega)]
    refine OK_bd (T_isBend hT hb hk) (fun q τ2 hq => ?_)
    have hq1 : q = _ := hq.1
    have e62 : tA τ2 62 = tA τ' 62 := by funext i; exact hq.2.2.2.1 62 i
    have e72 : tA τ2 72 = tA τ' 72 := by funext i; exact hq.2.2.2.1 72 i
    rw [hq1, nl_0, nl_1]
    simp only [b32_0]
    unfold bpS at hN
    rw [w1]
    cases h9 : bendS v S.1 k with
    | false =>
      rw [h9] at hN
      simp only [Bool.false_eq_true, reduceIte] at hN
      subst hN
      simp only [reduceIte, nI_add]
      exact ⟨_, rfl, Or.inl ⟨_, rfl, τ2, rfl, by rw [e62, w1], by rw [e72, w2], hn.trans hq.2.tx⟩⟩
    | true =>
      rw [h9] at hN
      simp only [reduceIte] at hN
      simp only [Bool.true_eq_false, reduceIte, nI_add]
      refine OK_bd (T_bendPaid (hT.tn hq.2) hb) (fun p τ3 hp => ?_)
      obtain ⟨p1, p2, p3, p4⟩ := hp
      rw [e62, e72, w1, w2] at p1 p2 p3
      have p3' : p = _ := p3
      subst hN
      exact ⟨_, rfl, Or.inl ⟨_, rfl, τ3, by rw [p3'], p1, p2, (hn.trans hq.2.tx).trans p4⟩⟩
  · rintro s ⟨τ', rfl, w1, w2, hn⟩
    have hT : TV τ' v := h.tx hn ⟨rfl, rfl⟩ ⟨rfl, rfl, rfl, rfl, rfl, rfl⟩
    show OK (Bt_seasonGoes_78 (bpN v (tA τ 62, tA τ 72, nI 0, nI 0) (vC v)).2.2.1 (bpN v (tA τ 62, tA τ 72, nI 0, nI 0) (vC v)).2.2.2 (nI (vC v)) τ') _
    unfold Bt_seasonGoes_78
    rw [T_columnMany, xbd_some, hT.1.2.1, if_pos (by rw [nI_leI (by omega) (by omega)]; omega)]
    exact ⟨_, rfl, _, rfl, w1, w2, rfl, rfl, hn⟩
theorem T_seasonGoes {K : Nat} (h : TV τ v) (hb : VB v) (hr : WR v (tA τ 62)) (hK : K ≤ 40) (hw : tA τ 62 182 = nI K) : OK (f_t_seasonGoes τ) (fun τ' => tA τ' 62 = seasonW v (decide (¬ tI τ 70 = nI 0)) (tA τ 62) (tA τ 72) ∧ tA τ' 72 = (seasonP v (tA τ 62) (tA τ 72)).2.1 ∧ tI τ' 71 = tI τ 71 + (seasonP v (tA τ 62) (tA τ 72)).2.2.2 ∧ TX in71 in72 τ τ') := by
  have h1 := hb.1
  unfold f_t_seasonGoes
  refine OK_bind (T_moves h hb hr) (fun τ1 q1 => ?_)
  have hT1 : TV τ1 v := h.tx q1.2 ⟨rfl, rfl⟩ ⟨rfl, rfl, rfl, rfl, rfl, rfl⟩
  refine OK_bind (T_evers hT1 hb (by rw [q1.1]; exact moveN_WR hb hr _)) (fun τ2 q2 => ?_)
  have hT2 : TV τ2 v := hT1.tx q2.2 ⟨rfl, rfl⟩ ⟨rfl, rfl, rfl, rfl, rfl, rfl⟩
  refine OK_bind (T_bps hT2 hb) (fun o q3 => ?_)
  obtain ⟨b, p, τ3⟩ := o
  have hn12 : TX in71 in72 τ τ2 := (q1.2.trans q2.2).mono (fun k _ => rfl) (fun k hk => by unfold in72 at hk; unfold in62; simp at hk ⊢; exact hk.1)
  have e72 : tA τ2 72 = tA τ 72 := by funext i; rw [q2.2.2.2.1 72 i rfl, q1.2.2.2.1 72 i rfl]
  rw [e72, q2.1, q1.1] at q3
  have q3' : tA τ3 62 = (seasonP v (tA τ 62) (tA τ 72)).1 ∧ tA τ3 72 = (seasonP v (tA τ 62) (tA τ 72)).2.1 ∧ b = (seasonP v (tA τ 62) (tA τ 72)).2.2.1 ∧ p = (seasonP v (tA τ 62) (tA τ 72)).2.2.2 ∧ TX no in72 τ2 τ3 := q3
  clear q3
  have h182 : (seasonP v (tA τ 62) (tA τ 72)).1 182 = nI K := by
    unfold seasonP
    rw [bpN_out hb (by omega)]
    show everN (moveN v (tA τ 62) (vC v)) (vC v) 182 = nI K
    have e : ∀ k, k ≤ vC v → everN (moveN v (tA τ 62) (vC v)) k 182 = nI K := by
      intro k
      induction k with
      | zero => intro _; show moveN v (tA τ 62) (vC v) 182 = nI K; rw [moveN_out (by omega) _ h1]; exact hw
      | succ k ih =>
        intro hk
        show everS (everN (moveN v (tA τ 62) (vC v)) k) k 182 = nI K
        obtain ⟨r, hr1, hr2⟩ := everN_WR hb (moveN_WR hb hr (vC v)) k k (by omega)
        have := hb.2.1
        rw [everS_out (by rw [hr2, nI_clamp (by omega)]; omega)]
        exact ih (by omega)
    exact e _ (Nat.le_refl _)
  generalize hS : seasonP v (tA τ 62) (tA τ 72) = S at *
  obtain ⟨w3, G3, b3, p3⟩ := S
  obtain ⟨r1, r2, r3, r4, r5⟩ := q3'
  subst r3; subst r4
  have hn3 : TX in71 in72 τ τ3 := hn12.trans (r5.mono (fun k _ => rfl) (fun k hk => hk))
  unfold seasonW
  rw [hS]
  simp only at r1 r2 h182 ⊢
  simp (discharger := omega) only [nl_0, nl_1, nl_2, nl_3, nl_4, nl_5, nl_6, nl_7, nl_8, nl_9, nl_10, nl_12, nl_15, nl_16, nl_20, nl_25, nl_26, nl_27, nl_28, nl_30, nl_31, nl_32, nl_40, nl_48, nl_60, nl_64, nl_80, nl_92, nl_99, nl_100, nl_117, nl_119, nl_160, nl_172, nl_179, nl_182, nl_183, nl_191, nl_248, nl_251, nl_255, nl_256, nl_300, nl_302, nl_303, nl_384, nl_640, nl_999, nl_1600, nl_1700, nl_3200, nl_6060, nl_65536, nl_999999, nI_add, pk_mul, xin_nI, nI_clamp, nI_leI, nI_ltI, nI_eq, reduceIte, Bool.true_eq_false, Bool.false_eq_true, b32_0, b32_1, xbd_some, Option.bind_some]
  have fin : ∀ s0, s0 = (if w3 1 + p ≤ nI 999999 then w3 1 + p else nI 999999) → OK (Jt_seasonGoes_144 b p s0 (nI 1) τ3) (fun τ' => tA τ' 62 = upd (if decide (¬ tI τ 70 = nI 0) = true then fundS w3 p else keptS (fundS w3 p) b p) 0 ((if decide (¬ tI τ 70 = nI 0) = true then fundS w3 p else keptS (fundS w3 p) b p) 0 + nI 1) ∧ tA τ' 72 = G3 ∧ tI τ' 71 = tI τ 71 + p ∧ TX in71 in72 τ τ') := by
    intro s0 hs0
    unfold Jt_seasonGoes_144
    simp (discharger := omega) only [nl_0, nl_1, nl_2, nl_3, nl_4, nl_5, nl_6, nl_7, nl_8, nl_9, nl_10, nl_12, nl_15, nl_16, nl_20, nl_25, nl_26, nl_27, nl_28, nl_30, nl_31, nl_32, nl_40, nl_48, nl_60, nl_64, nl_80, nl_92, nl_99, nl_100, nl_117, nl_119, nl_160, nl_172, nl_179, nl_182, nl_183, nl_191, nl_248, nl_251, nl_255, nl_256, nl_300, nl_302, nl_303, nl_384, nl_640, nl_999, nl_1600, nl_1700, nl_3200, nl_6060, nl_65536, nl_999999, nI_add, pk_mul, xin_nI, nI_clamp, nI_leI, nI_ltI, nI_eq, reduceIte, Bool.true_eq_false, Bool.false_eq_true, b32_0, b32_1, xbd_some, Option.bind_some, tI_sA]
    have e1 : tA (sI (sA τ3 62 1 s0) 71 (tI τ3 71 + p)) 62 = fundS w3 p := by
      show tA (sA τ3 62 1 s0) 62 = _
      rw [tA_upd, r1, hs0]
      rfl
    have e70 : tI (sI (sA τ3 62 1 s0) 71 (tI τ3 71 + p)) 70 = tI τ 70 := by
      show tI τ3 70 = tI τ 70
      exact hn3.1 70 rfl rfl
    refine OK_bind (T_isKept (τ := sI (sA τ3 62 1 s0) 71 (tI τ3 71 + p)) (b := b) (p := p) hK (by rw [e1]; unfold fundS; rw [pk_un (by decide)]; exact h182)) (fun τ4 q4 => ?_)
    rw [e70, e1] at q4
    have hx : TX in71 in72 τ τ4 := ((hn3.sA (k := 62) rfl).sI (k := 71) (Or.inl rfl)).trans (q4.2.mono (fun k _ => rfl) (fun k hk => by unfold in72 at hk; unfold in62; simp at hk ⊢; exact hk.1))
    have e4 : tA τ4 62 = if decide (¬ tI τ 70 = nI 0) = true then fundS w3 p else keptS (fundS w3 p) b p := by
      rw [q4.1]
      by_cases h0 : tI τ 70 = nI 0 <;> simp [h0]
    refine ⟨_, rfl, ?_, ?_, ?_, hx.sA rfl⟩
    · rw [tA_upd, e4]
    · rw [tA_updn (by decide)]
      funext i
      rw [q4.2.2.2.1 72 i rfl, ← r2]
      exact congrFun (tA_updn (by decide)) i
    · rw [tI_sA, q4.2.1 71 rfl rfl]
      show tI τ3 71 + p = tI τ 71 + p
      rw [r5.1 71 rfl rfl, q2.2.1 71 rfl rfl, q1.2.1 71 rfl rfl]
  rw [r1]
  by_cases h9 : w3 1 + p ≤ nI 999999
  · rw [if_pos h9]
    exact fin _ (by rw [if_pos h9])
  · rw [if_neg h9]
    exact fin _ (by rw [if_neg h9])
end TS8
