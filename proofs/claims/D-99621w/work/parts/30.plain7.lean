/-! PLAIN LAW: the twin's season, whole -/
set_option maxRecDepth 100000
def payL (v : VD) (c : Int32) (k : Nat) (s : (Nat → Int32) × (Nat → Int32) × Int32) : (Nat → Int32) × (Nat → Int32) × Int32 :=
  if ofS v k c = true then (upd s.1 (172 + 2 * k + 1) (s.1 (172 + 2 * k + 1) - offS v s.1 k), upd s.2.1 k (s.2.1 k + (vL v (5 * k + 3) - offS v s.1 k)), s.2.2 + offS v s.1 k) else s
def payLN (v : VD) (c : Int32) (s : (Nat → Int32) × (Nat → Int32) × Int32) : Nat → (Nat → Int32) × (Nat → Int32) × Int32
  | 0 => s
  | k + 1 => payL v c k (payLN v c s k)
/-- a column's bend is paid: numbers, gains, bends, paid -/
def bpS (v : VD) (c : Nat) (s : (Nat → Int32) × (Nat → Int32) × Int32 × Int32) : (Nat → Int32) × (Nat → Int32) × Int32 × Int32 :=
  if bendS v s.1 c = true then ((payLN v (nI c) (s.1, s.2.1, nI 0) (vN v)).1, (payLN v (nI c) (s.1, s.2.1, nI 0) (vN v)).2.1, s.2.2.1 + nI 1, s.2.2.2 + (payLN v (nI c) (s.1, s.2.1, nI 0) (vN v)).2.2) else s
def bpN (v : VD) (s : (Nat → Int32) × (Nat → Int32) × Int32 × Int32) : Nat → (Nat → Int32) × (Nat → Int32) × Int32 × Int32
  | 0 => s
  | k + 1 => bpS v k (bpN v s k)
def moveN (v : VD) (w : Nat → Int32) : Nat → Nat → Int32
  | 0 => w
  | k + 1 => moveS v (moveN v w k) k
def everS (w : Nat → Int32) (c : Nat) : Nat → Int32 := if nI 99 ≤ w (92 + 8 * c + (w (2 + c)).toNatClampNeg) then w else upd w (92 + 8 * c + (w (2 + c)).toNatClampNeg) (w (92 + 8 * c + (w (2 + c)).toNatClampNeg) + nI 1)
def everN (w : Nat → Int32) : Nat → Nat → Int32
  | 0 => w
  | k + 1 => everS (everN w k) k
def fundS (w : Nat → Int32) (p : Int32) : Nat → Int32 := upd w 1 (if w 1 + p ≤ nI 999999 then w 1 + p else nI 999999)
def shiftK (w : Nat → Int32) (n : Nat) : Nat → Int32 := fun k => if 183 ≤ k ∧ k < n then w (k + 3) else w k
def keptW (w : Nat → Int32) : Nat → Int32 := if w 182 = nI 40 then shiftK w 300 else upd w 182 (w 182 + nI 1)
def keptS (w : Nat → Int32) (b p : Int32) : Nat → Int32 := upd (upd (upd (keptW w) (180 + 3 * (keptW w 182).toNatClampNeg) (keptW w 0)) (181 + 3 * (keptW w 182).toNatClampNeg) b) (182 + 3 * (keptW w 182).toNatClampNeg) p
/-- before a season ends: numbers, gains, bends, paid -/
def seasonP (v : VD) (w G : Nat → Int32) : (Nat → Int32) × (Nat → Int32) × Int32 × Int32 := bpN v (everN (moveN v w (vC v)) (vC v), G, nI 0, nI 0) (vC v)
def seasonW (v : VD) (th : Bool) (w G : Nat → Int32) : Nat → Int32 :=
  upd (if th = true then fundS (seasonP v w G).1 (seasonP v w G).2.2.2 else keptS (fundS (seasonP v w G).1 (seasonP v w G).2.2.2) (seasonP v w G).2.2.1 (seasonP v w G).2.2.2) 0 ((if th = true then fundS (seasonP v w G).1 (seasonP v w G).2.2.2 else keptS (fundS (seasonP v w G).1 (seasonP v w G).2.2.2) (seasonP v w G).2.2.1 (seasonP v w G).2.2.2) 0 + nI 1)
section TS7
variable {τ : TS} {v : VD}
theorem T_bendPaid {c : Nat} (h : TV τ v) (hb : VB v) : OK (f_t_bendPaid (nI c) τ) (fun o => tA o.2 62 = (payLN v (nI c) (tA τ 62, tA τ 72, nI 0) (vN v)).1 ∧ tA o.2 72 = (payLN v (nI c) (tA τ 62, tA τ 72, nI 0) (vN v)).2.1 ∧ o.1 = (payLN v (nI c) (tA τ 62, tA τ 72, nI 0) (vN v)).2.2 ∧ TX no in72 τ o.2) := by
  have h1 := hb.2.2.2.1
  unfold f_t_bendPaid
  refine OK_bind (P := fun o => tA o.2 62 = (payLN v (nI c) (tA τ 62, tA τ 72, nI 0) (vN v)).1 ∧ tA o.2 72 = (payLN v (nI c) (tA τ 62, tA τ 72, nI 0) (vN v)).2.1 ∧ o.1 = (payLN v (nI c) (tA τ 62, tA τ 72, nI 0) (vN v)).2.2 ∧ TX no in72 τ o.2) ?_ (fun o ho => ⟨_, rfl, ho⟩)
  refine itr_for (fun k s => ∃ τ', s = ((payLN v (nI c) (tA τ 62, tA τ 72, nI 0) k).2.2, nI k, τ') ∧ tA τ' 62 = (payLN v (nI c) (tA τ 62, tA τ 72, nI 0) k).1 ∧ tA τ' 72 = (payLN v (nI c) (tA τ 62, tA τ 72, nI 0) k).2.1 ∧ TX no in72 τ τ') _ 0 (vN v) ?_ ?_ (by omega) (by omega) ⟨τ, rfl, rfl, rfl, TX.refl _ _ τ⟩
  · rintro k s - hk ⟨τ', rfl, w1, w2, hn⟩
    have hT : TV τ' v := h.tx hn ⟨rfl, rfl⟩ ⟨rfl, rfl, rfl, rfl, rfl, rfl⟩
    show OK (Bt_bendPaid_4 (nI c) (payLN v (nI c) (tA τ 62, tA τ 72, nI 0) k).2.2 (nI k) τ') _
    unfold Bt_bendPaid_4 Jt_bendPaid_78 f_t_lordMany
    rw [xbd_some, hT.1.2.2.2.2.1, if_neg (by rw [nI_leI (by omega) (by omega)]; omega), T_isOf' hT.1 hb hk, xbd_some]
    have hN : payLN v (nI c) (tA τ 62, tA τ 72, nI 0) (k + 1) = payL v (nI c) k (payLN v (nI c) (tA τ 62, tA τ 72, nI 0) k) := rfl
    generalize payLN v (nI c) (tA τ 62, tA τ 72, nI 0) (k + 1) = S' at *
    generalize payLN v (nI c) (tA τ 62, tA τ 72, nI 0) k = S at *
    simp only [nl_0, b32_0]
    cases h9 : ofS v k (nI c) with
    | false =>
      simp only [reduceIte, nl_1, nI_add]
      unfold payL at hN
      rw [h9] at hN
      simp only [Bool.false_eq_true, reduceIte] at hN
      subst hN
      exact ⟨_, rfl, Or.inl ⟨_, rfl, τ', rfl, w1, w2, hn⟩⟩
    | true =>
      simp only [Bool.true_eq_false, reduceIte]
      rw [T_offerOf hT.1 hb hk, xbd_some]
      have e49 : tA τ' 49 (28 + 5 * k) = vL v (5 * k + 3) := by rw [← hT.1.2.2.2.2.2.1 (5 * k + 3) (by omega)]; congr 1; omega
      simp (discharger := omega) only [nl_0, nl_1, nl_2, nl_3, nl_4, nl_5, nl_6, nl_7, nl_8, nl_9, nl_10, nl_12, nl_15, nl_16, nl_20, nl_25, nl_26, nl_27, nl_28, nl_30, nl_31, nl_32, nl_40, nl_48, nl_60, nl_64, nl_80, nl_92, nl_99, nl_100, nl_117, nl_119, nl_160, nl_172, nl_179, nl_182, nl_183, nl_191, nl_248, nl_251, nl_255, nl_256, nl_300, nl_302, nl_303, nl_384, nl_640, nl_999, nl_1600, nl_1700, nl_3200, nl_6060, nl_65536, nl_999999, nI_add, pk_mul, xin_nI, nI_clamp, nI_leI, nI_ltI, nI_eq, reduceIte, Bool.true_eq_false, Bool.false_eq_true, b32_0, b32_1, xbd_some, Option.bind_some, tA_updn (show (72 : Nat) ≠ 62 by decide), tA_updn (show (49 : Nat) ≠ 62 by decide), e49]
      unfold payL at hN
      rw [h9] at hN
      simp only [reduceIte] at hN
      subst hN
      refine ⟨_, rfl, Or.inl ⟨_, rfl, _, by rw [w1], ?_, ?_, (hn.sA rfl).sA rfl⟩⟩
      · rw [tA_updn (by decide), tA_upd, w1]
      · rw [tA_upd, tA_updn (by decide), w2]
  · rintro s ⟨τ', rfl, w1, w2, hn⟩
    have hT : TV τ' v := h.tx hn ⟨rfl, rfl⟩ ⟨rfl, rfl, rfl, rfl, rfl, rfl⟩
    show OK (Bt_bendPaid_4 (nI c) (payLN v (nI c) (tA τ 62, tA τ 72, nI 0) (vN v)).2.2 (nI (vN v)) τ') _
    unfold Bt_bendPaid_4 f_t_lordMany
    rw [xbd_some, hT.1.2.2.2.2.1, if_pos (by rw [nI_leI (by omega) (by omega)]; omega)]
    exact ⟨_, rfl, _, rfl, w1, w2, rfl, hn⟩
theorem T_isKept {b p : Int32} {K : Nat} (hK : K ≤ 40) (hw : tA τ 62 182 = nI K) : OK (f_t_isKept b p τ) (fun τ' => tA τ' 62 = (if tI τ 70 = nI 0 then keptS (tA τ 62) b p else tA τ 62) ∧ TX no in62 τ τ') := by
  unfold f_t_isKept
  by_cases h0 : tI τ 70 = nI 0
  · rw [if_pos h0, if_pos (show tI τ 70 = 0 from h0)]
    have fin : ∀ τ', tA τ' 62 = keptW (tA τ 62) → TX no in62 τ τ' → ∀ n, n ≤ 40 → 1 ≤ n → keptW (tA τ 62) 182 = nI n → OK (Jt_isKept_67 b p τ') (fun τ' => tA τ' 62 = keptS (tA τ 62) b p ∧ TX no in62 τ τ') := by
      intro τ' e1 hn n h1 h2 h3
      have e2 : tA τ' 62 182 = nI n := by rw [e1]; exact h3
      unfold Jt_isKept_67 keptS
      have a1 : nI (183 + 3 * n) - nI 3 = nI (180 + 3 * n) := by rw [pk_sub (by omega)]; congr 1; omega
      simp (discharger := omega) only [nl_0, nl_1, nl_2, nl_3, nl_4, nl_5, nl_6, nl_7, nl_8, nl_9, nl_10, nl_12, nl_15, nl_16, nl_20, nl_25, nl_26, nl_27, nl_28, nl_30, nl_31, nl_32, nl_40, nl_48, nl_60, nl_64, nl_80, nl_92, nl_99, nl_100, nl_117, nl_119, nl_160, nl_172, nl_179, nl_182, nl_183, nl_191, nl_248, nl_251, nl_255, nl_256, nl_300, nl_302, nl_303, nl_384, nl_640, nl_999, nl_1600, nl_1700, nl_3200, nl_6060, nl_65536, nl_999999, nI_add, pk_mul, xin_nI, nI_clamp, nI_leI, nI_ltI, nI_eq, reduceIte, Bool.true_eq_false, Bool.false_eq_true, b32_0, b32_1, xbd_some, Option.bind_some, e2, a1, h3]
      refine ⟨_, rfl, ?_, ((hn.sA rfl).sA rfl).sA rfl⟩
      rw [tA_upd, tA_upd, tA_upd, e1, show 180 + 3 * n + 1 = 181 + 3 * n by omega, show 180 + 3 * n + 2 = 182 + 3 * n by omega]
    simp (discharger := omega) only [nl_0, nl_1, nl_2, nl_3, nl_4, nl_5, nl_6, nl_7, nl_8, nl_9, nl_10, nl_12, nl_15, nl_16, nl_20, nl_25, nl_26, nl_27, nl_28, nl_30, nl_31, nl_32, nl_40, nl_48, nl_60, nl_64, nl_80, nl_92, nl_99, nl_100, nl_117, nl_119, nl_160, nl_172, nl_179, nl_182, nl_183, nl_191, nl_248, nl_251, nl_255, nl_256, nl_300, nl_302, nl_303, nl_384, nl_640, nl_999, nl_1600, nl_1700, nl_3200, nl_6060, nl_65536, nl_999999, nI_add, pk_mul, xin_nI, nI_clamp, nI_leI, nI_ltI, nI_eq, reduceIte, Bool.true_eq_false, Bool.false_eq_true, b32_0, b32_1, xbd_some, Option.bind_some]
    by_cases h9 : tA τ 62 182 = nI 40
    · rw [if_pos h9]
      refine OK_bind (P := fun τ' => tA τ' 62 = shiftK (tA τ 62) 300 ∧ TX no in62 τ τ') ?_ (fun τ' hτ => fin τ' ?_ hτ.2 40 (by omega) (by omega) ?_)
      · refine itr_for (fun k s => ∃ τ', s = (nI k, τ') ∧ tA τ' 62 = shiftK (tA τ 62) k ∧ TX no in62 τ τ') _ 183 300 ?_ ?_ (by omega) (by omega) ⟨τ, rfl, ?_, TX.refl _ _ τ⟩
        · rintro k s hk1 hk2 ⟨τ', rfl, w1, hn⟩
          show OK (Bt_isKept_25 b p (nI k) τ') _
          unfold Bt_isKept_25
          have hlt : ¬ 300 ≤ k := by omega
          simp (discharger := omega) only [nl_0, nl_1, nl_2, nl_3, nl_4, nl_5, nl_6, nl_7, nl_8, nl_9, nl_10, nl_12, nl_15, nl_16, nl_20, nl_25, nl_26, nl_27, nl_28, nl_30, nl_31, nl_32, nl_40, nl_48, nl_60, nl_64, nl_80, nl_92, nl_99, nl_100, nl_117, nl_119, nl_160, nl_172, nl_179, nl_182, nl_183, nl_191, nl_248, nl_251, nl_255, nl_256, nl_300, nl_302, nl_303, nl_384, nl_640, nl_999, nl_1600, nl_1700, nl_3200, nl_6060, nl_65536, nl_999999, nI_add, pk_mul, xin_nI, nI_clamp, nI_leI, nI_ltI, nI_eq, reduceIte, Bool.true_eq_false, Bool.false_eq_true, b32_0, b32_1, xbd_some, Option.bind_some, hlt]
          refine ⟨_, rfl, Or.inl ⟨_, rfl, _, rfl, ?_, hn.sA rfl⟩⟩
          rw [tA_upd, w1]
          funext j
          unfold shiftK upd
          by_cases e : j = k
          · subst e
            have h1 : ¬ (183 ≤ j + 3 ∧ j + 3 < j) := by omega
            have h2 : 183 ≤ j ∧ j < j + 1 := by omega
            simp only [h1, h2, reduceIte, and_self]
          · simp only [e, reduceIte]
            by_cases h3 : 183 ≤ j ∧ j < k
            · have h4 : 183 ≤ j ∧ j < k + 1 := by omega
              simp only [h3, h4, reduceIte, and_self]
            · have h4 : ¬ (183 ≤ j ∧ j < k + 1) := by omega
              simp only [h3, h4, reduceIte]
        · rintro s ⟨τ', rfl, w1, hn⟩
          show OK (Bt_isKept_25 b p (nI 300) τ') _
          unfold Bt_isKept_25
          simp (discharger := omega) only [nl_0, nl_1, nl_2, nl_3, nl_4, nl_5, nl_6, nl_7, nl_8, nl_9, nl_10, nl_12, nl_15, nl_16, nl_20, nl_25, nl_26, nl_27, nl_28, nl_30, nl_31, nl_32, nl_40, nl_48, nl_60, nl_64, nl_80, nl_92, nl_99, nl_100, nl_117, nl_119, nl_160, nl_172, nl_179, nl_182, nl_183, nl_191, nl_248, nl_251, nl_255, nl_256, nl_300, nl_302, nl_303, nl_384, nl_640, nl_999, nl_1600, nl_1700, nl_3200, nl_6060, nl_65536, nl_999999, nI_add, pk_mul, xin_nI, nI_clamp, nI_leI, nI_ltI, nI_eq, reduceIte, Bool.true_eq_false, Bool.false_eq_true, b32_0, b32_1, xbd_some, Option.bind_some, Nat.le_refl]
          exact ⟨_, rfl, _, rfl, w1, hn⟩
        · funext j
          unfold shiftK
          have h1 : ¬ (183 ≤ j ∧ j < 183) := by omega
          simp only [h1, reduceIte]
      · unfold keptW; rw [if_pos h9]; exact hτ.1
      · unfold keptW; rw [if_pos h9]; unfold shiftK; simp only [show ¬ (183 ≤ 182 ∧ 182 < 300) by omega, reduceIte]; exact h9
    · rw [if_neg h9]
      have hK2 : K < 40 := by
        rcases Nat.lt_or_ge K 40 with q | q
        · exact q
        · exact absurd (by rw [hw, show K = 40 by omega]) h9
      refine fin _ ?_ ((TX.refl _ _ τ).sA rfl) (K + 1) (by omega) (by omega) ?_
      · rw [tA_upd]; unfold keptW; rw [if_neg h9]
      · unfold keptW; rw [if_neg h9, pk_us, hw, nI_add]
  · rw [if_neg h0, if_neg (show ¬ tI τ 70 = 0 from h0)]
    exact ⟨_, rfl, rfl, TX.refl _ _ τ⟩
end TS7
theorem moveN_WR {v : VD} {w : Nat → Int32} (hb : VB v) (h : WR v w) : ∀ k, WR v (moveN v w k)
  | 0 => h
  | k + 1 => moveS_WR hb (moveN_WR hb h k)
theorem moveN_out {v : VD} {w : Nat → Int32} {j : Nat} (hj : ¬ (2 ≤ j ∧ j < 12)) : ∀ k, k ≤ 10 → moveN v w k j = w j
  | 0, _ => rfl
  | k + 1, h => by
    show moveS v (moveN v w k) k j = w j
    rw [moveS_out (by omega)]
    exact moveN_out hj k (by omega)
theorem everS_out {w : Nat → Int32} {c j : Nat} (hj : j ≠ 92 + 8 * c + (w (2 + c)).toNatClampNeg) : everS w c j = w j := by
  unfold everS
  split
  · rfl
  · exact pk_un hj
theorem everN_out {w : Nat → Int32} {j : Nat} (hj : j < 92) : ∀ k, everN w k j = w j
  | 0 => rfl
  | k + 1 => by
    show everS (everN w k) k j = w j
    rw [everS_out (by omega)]
    exact everN_out hj k
theorem everN_WR {v : VD} {w : Nat → Int32} (hb : VB v) (h : WR v w) (k : Nat) : WR v (everN w k) := by
  intro c hc
  have := hb.1
  obtain ⟨r, hr, e⟩ := h c hc
  exact ⟨r, hr, by rw [everN_out (by omega)]; exact e⟩
theorem payLN_out {v : VD} {c : Int32} {s : (Nat → Int32) × (Nat → Int32) × Int32} {j : Nat} (hj : j < 172 ∨ 182 ≤ j) : ∀ k, k ≤ 5 → (payLN v c s k).1 j = s.1 j
  | 0, _ => rfl
  | k + 1, h => by
    show (payL v c k (payLN v c s k)).1 j = s.1 j
    rw [← payLN_out (v := v) (c := c) (s := s) hj k (by omega)]
    unfold payL
    split
    · exact pk_un (by omega)
    · rfl
theorem bpN_out {v : VD} (hb : VB v) {s : (Nat → Int32) × (Nat → Int32) × Int32 × Int32} {j : Nat} (hj : j < 172 ∨ 182 ≤ j) : ∀ k, (bpN v s k).1 j = s.1 j
  | 0 => rfl
  | k + 1 => by
    show (bpS v k (bpN v s k)).1 j = s.1 j
    rw [← bpN_out hb (s := s) hj k]
    unfold bpS
    split
    · exact payLN_out (s := ((bpN v s k).1, (bpN v s k).2.1, nI 0)) hj (vN v) hb.2.2.2.1
    · rfl
