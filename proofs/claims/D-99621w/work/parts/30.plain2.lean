/-! PLAIN LAW: what is meant (valley, state as one row of numbers), the twin answers so: columns, turns, pays -/
set_option maxRecDepth 100000
theorem itr_det {α β : Type} {B : α → Option (α ⊕ β)} (S : Nat → α) {a n : Nat} {r : β} (hstep : ∀ k, a ≤ k → k < n → B (S k) = some (.inl (S (k + 1)))) (hend : B (S n) = some (.inr r)) {fuel : Nat} (hf : n - a < fuel) (han : a ≤ n) : itr B fuel (S a) = some r := by
  obtain ⟨v, e, h⟩ := itr_for (B := B) (fun k s => s = S k) (fun q => q = r) a n (fun k s h1 h2 h => ⟨_, by rw [h]; exact hstep k h1 h2, Or.inl ⟨_, rfl, rfl⟩⟩) (fun s h => ⟨_, by rw [h]; exact hend, _, rfl, rfl⟩) hf han rfl
  rw [e, h]
/-- columns, rows, reach, lords; lords' numbers, soils; what it eats, bends; spate -/
abbrev VD : Type := Nat × Nat × Nat × Nat × (Nat → Int32) × (Nat → Int32) × Option ((Nat → Int64) → Int64) × Option ((Nat → Int64) → Bool) × Int32
def vC (v : VD) : Nat := v.1
def vW (v : VD) : Nat := v.2.1
def vX (v : VD) : Nat := v.2.2.1
def vN (v : VD) : Nat := v.2.2.2.1
def vL (v : VD) (k : Nat) : Int32 := v.2.2.2.2.1 k
def vS (v : VD) (k : Nat) : Int32 := v.2.2.2.2.2.1 k
def vF (v : VD) : Option ((Nat → Int64) → Int64) := v.2.2.2.2.2.2.1
def vB (v : VD) : Option ((Nat → Int64) → Bool) := v.2.2.2.2.2.2.2.1
def vP (v : VD) : Int32 := v.2.2.2.2.2.2.2.2
def VB (v : VD) : Prop := vC v ≤ 10 ∧ vW v ≤ 8 ∧ vX v ≤ 7 ∧ vN v ≤ 5 ∧ (0 < vC v → 3 ≤ vC v ∧ 2 ≤ vW v ∧ 1 ≤ vX v) ∧ (vC v = 0 → vW v = 0 ∧ vN v = 0) ∧
  (∀ k, k < vN v → ∃ a b p j z : Nat, vL v (5 * k) = nI a ∧ vL v (5 * k + 1) = nI b ∧ a ≤ b ∧ b < vC v ∧ vL v (5 * k + 2) = nI p ∧ p < 100 ∧ vL v (5 * k + 3) = nI j ∧ j < 100 ∧ vL v (5 * k + 4) = nI z ∧ z < 1000)
/-- fields that are written in passing -/
def noisy (k : Nat) : Bool := k == 61 || k == 64 || k == 65 || k == 66 || k == 67 || k == 68 || k == 127
def TN (τ τ' : TS) : Prop := (∀ k, noisy k = false → tI τ' k = tI τ k) ∧ (∀ k, tL τ' k = tL τ k) ∧ (∀ k i, tA τ' k i = tA τ k i) ∧ ∀ k i, k ≠ 126 → tM τ' k i = tM τ k i
theorem TN.refl (τ : TS) : TN τ τ := ⟨fun _ _ => rfl, fun _ => rfl, fun _ _ => rfl, fun _ _ _ => rfl⟩
theorem TN.trans {τ τ' τ'' : TS} (h : TN τ τ') (h' : TN τ' τ'') : TN τ τ'' := ⟨fun k hk => (h'.1 k hk).trans (h.1 k hk), fun k => (h'.2.1 k).trans (h.2.1 k), fun k i => (h'.2.2.1 k i).trans (h.2.2.1 k i), fun k i hk => (h'.2.2.2 k i hk).trans (h.2.2.2 k i hk)⟩
theorem TN.sI {τ τ' : TS} {k : Nat} {v : Int32} (h : TN τ τ') (hk : noisy k = true) : TN τ (sI τ' k v) := ⟨fun j hj => by rw [tI_sI, if_neg (fun e => by rw [e, hk] at hj; cases hj)]; exact h.1 j hj, h.2.1, h.2.2.1, h.2.2.2⟩
theorem TN.sM {τ τ' : TS} {i : Nat} {v : Int64} (h : TN τ τ') : TN τ (sM τ' 126 i v) := ⟨h.1, h.2.1, h.2.2.1, fun j z hj => by rw [tM_sM, if_neg (fun e => hj e.1)]; exact h.2.2.2 j z hj⟩
/-- codes that stand: from where to where -/
def CodeT (τ : TS) (v : VD) (CE : TS → ((Nat → Int64) → Int64) → Prop) (CB : TS → ((Nat → Int64) → Bool) → Prop) : Prop :=
  (match vF v with | none => tA τ 55 2 = -1 | some F => ¬ tA τ 55 2 = -1 ∧ CE τ F) ∧ (match vB v with | none => tA τ 55 3 = -1 | some F => ¬ tA τ 55 3 = -1 ∧ CB τ F)
def TV0 (τ : TS) (v : VD) : Prop := tI τ 60 = b32 (decide (0 < vC v)) ∧ tA τ 45 3 = nI (vC v) ∧ tA τ 45 4 = nI (vW v) ∧ tA τ 45 5 = nI (vX v) ∧ tI τ 47 = nI (vN v) ∧ (∀ k, k < 25 → tA τ 49 (25 + k) = vL v k) ∧ ∀ k, k < 80 → tA τ 50 (80 + k) = vS v k
theorem TV0.tn {τ τ' : TS} {v : VD} (h : TV0 τ v) (n : TN τ τ') : TV0 τ' v := by
  obtain ⟨h1, h2, h3, h4, h5, h6, h7⟩ := h
  exact ⟨by rw [n.1 _ rfl]; exact h1, by rw [n.2.2.1]; exact h2, by rw [n.2.2.1]; exact h3, by rw [n.2.2.1]; exact h4, by rw [n.1 _ rfl]; exact h5, fun k hk => by rw [n.2.2.1]; exact h6 k hk, fun k hk => by rw [n.2.2.1]; exact h7 k hk⟩
def beforeS (w : Nat → Int32) (c : Nat) : Int32 := w (2 + (c - 1))
def behindS (v : VD) (w : Nat → Int32) (c : Nat) : Int32 := w (2 + (if c + 1 = vC v then c else c + 1))
def abs32 (n : Int32) : Int32 := if nI 0 ≤ n then n else -n
def turnB (v : VD) (c : Nat) (b r h : Int32) : Int32 := if 0 < c ∧ c + 1 < vC v then abs32 ((b + h) - nI 2 * r) else nI 0
def turnS (v : VD) (w : Nat → Int32) (c : Nat) : Int32 := turnB v c (beforeS w c) (w (2 + c)) (behindS v w c)
def offS (v : VD) (w : Nat → Int32) (k : Nat) : Int32 := if w (172 + 2 * k) = nI 1 ∧ vL v (5 * k + 2) ≤ w (172 + 2 * k + 1) then vL v (5 * k + 2) else nI 0
def ofS (v : VD) (k : Nat) (x : Int32) : Bool := decide (vL v (5 * k) ≤ x) && decide (x ≤ vL v (5 * k + 1))
def payN (v : VD) (w : Nat → Int32) (x : Int32) : Nat → Int32
  | 0 => nI 0
  | k + 1 => if ofS v k x = true then payN v w x k + offS v w k else payN v w x k
def payS (v : VD) (w : Nat → Int32) (x : Int32) : Int32 := payN v w x (vN v)
section TW
variable {τ : TS} {v : VD}
theorem T_isColumn {c : Int32} (h : TV0 τ v) (hb : VB v) : f_t_isColumn c.toInt64 τ = some (b32 (decide (nI 0 ≤ c) && decide (c < nI (vC v))), τ) := by
  unfold f_t_isColumn Jt_isColumn_26
  rw [T_columnMany, h.1, h.2.1]
  have hc := hb.1
  by_cases h0 : 0 < vC v
  · have e1 : nI (vC v) - nI 1 = nI (vC v - 1) := nI_m1 h0
    have e2 : ((0 : Int64)) = (nI 0).toInt64 := rfl
    simp only [nl_0, nl_1, nl_2, nl_3, nl_4, nl_5, nl_6, nl_7, nl_8, nl_9, nl_10, nl_12, nl_15, nl_16, nl_20, nl_25, nl_26, nl_27, nl_28, nl_30, nl_31, nl_32, nl_40, nl_48, nl_60, nl_64, nl_80, nl_92, nl_99, nl_100, nl_117, nl_119, nl_160, nl_172, nl_179, nl_182, nl_183, nl_191, nl_248, nl_251, nl_255, nl_256, nl_300, nl_302, nl_303, nl_384, nl_640, nl_999, nl_1600, nl_1700, nl_3200, nl_6060, nl_65536, nl_999999, nI_add, pk_mul, xin_nI, nI_clamp, nI_leI, nI_ltI, nI_eq, reduceIte, Bool.true_eq_false, Bool.false_eq_true, b32_0, b32_1, xbd_some, Option.bind_some, h0, decide_true, Bool.true_eq_false, e1, e2, T_isIn32]
    have e3 : (c ≤ nI (vC v - 1)) ↔ (c < nI (vC v)) := by
      rw [i32_le, i32_lt, nI_toInt (by omega), nI_toInt (by omega)]; omega
    simp only [e3]
    cases h9 : (decide (nI 0 ≤ c) && decide (c < nI (vC v))) <;> simp [b32]
  · have hz : vC v = 0 := by omega
    have e3 : ¬ (nI 0 ≤ c ∧ c < nI 0) := by rw [i32_le, i32_lt]; omega
    simp only [nl_0, nl_1, nl_2, nl_3, nl_4, nl_5, nl_6, nl_7, nl_8, nl_9, nl_10, nl_12, nl_15, nl_16, nl_20, nl_25, nl_26, nl_27, nl_28, nl_30, nl_31, nl_32, nl_40, nl_48, nl_60, nl_64, nl_80, nl_92, nl_99, nl_100, nl_117, nl_119, nl_160, nl_172, nl_179, nl_182, nl_183, nl_191, nl_248, nl_251, nl_255, nl_256, nl_300, nl_302, nl_303, nl_384, nl_640, nl_999, nl_1600, nl_1700, nl_3200, nl_6060, nl_65536, nl_999999, nI_add, pk_mul, xin_nI, nI_clamp, nI_leI, nI_ltI, nI_eq, reduceIte, Bool.true_eq_false, Bool.false_eq_true, b32_0, b32_1, xbd_some, Option.bind_some, hz, Nat.lt_irrefl, decide_false]
    rw [show (decide (nI 0 ≤ c) && decide (c < nI 0)) = false by simpa using e3]
    rfl
theorem T_isCell {c r : Int32} (h : TV0 τ v) (hb : VB v) : f_t_isCell c r τ = some (b32 (decide (nI 0 ≤ c) && decide (c < nI (vC v)) && (decide (nI 0 ≤ r) && decide (r < nI (vW v)))), τ) := by
  unfold f_t_isCell Jt_isCell_29
  rw [T_isColumn h hb]
  simp only [nl_0, nl_1, nl_2, nl_3, nl_4, nl_5, nl_6, nl_7, nl_8, nl_9, nl_10, nl_12, nl_15, nl_16, nl_20, nl_25, nl_26, nl_27, nl_28, nl_30, nl_31, nl_32, nl_40, nl_48, nl_60, nl_64, nl_80, nl_92, nl_99, nl_100, nl_117, nl_119, nl_160, nl_172, nl_179, nl_182, nl_183, nl_191, nl_248, nl_251, nl_255, nl_256, nl_300, nl_302, nl_303, nl_384, nl_640, nl_999, nl_1600, nl_1700, nl_3200, nl_6060, nl_65536, nl_999999, nI_add, pk_mul, xin_nI, nI_clamp, nI_leI, nI_ltI, nI_eq, reduceIte, Bool.true_eq_false, Bool.false_eq_true, b32_0, b32_1, xbd_some, Option.bind_some, T_rowsMany, h.2.2.1]
  cases h9 : (decide (nI 0 ≤ c) && decide (c < nI (vC v))) with
  | false => simp [b32]
  | true =>
    have hc : 0 < vC v := by
      simp only [Bool.and_eq_true, decide_eq_true_eq, i32_le, i32_lt] at h9
      have h1 := hb.1
      rw [nI_toInt (by omega), nI_toInt (by omega)] at h9
      omega
    have hw := hb.2.1
    have hw2 := (hb.2.2.2.2.1 hc).2.1
    have e1 : nI (vW v) - nI 1 = nI (vW v - 1) := nI_m1 (by omega)
    have e2 : ((0 : Int64)) = (nI 0).toInt64 := rfl
    simp only [e1, e2, T_isIn32, nl_0, nl_1, nl_2, nl_3, nl_4, nl_5, nl_6, nl_7, nl_8, nl_9, nl_10, nl_12, nl_15, nl_16, nl_20, nl_25, nl_26, nl_27, nl_28, nl_30, nl_31, nl_32, nl_40, nl_48, nl_60, nl_64, nl_80, nl_92, nl_99, nl_100, nl_117, nl_119, nl_160, nl_172, nl_179, nl_182, nl_183, nl_191, nl_248, nl_251, nl_255, nl_256, nl_300, nl_302, nl_303, nl_384, nl_640, nl_999, nl_1600, nl_1700, nl_3200, nl_6060, nl_65536, nl_999999, nI_add, pk_mul, xin_nI, nI_clamp, nI_leI, nI_ltI, nI_eq, reduceIte, Bool.true_eq_false, Bool.false_eq_true, b32_0, b32_1, xbd_some, Option.bind_some, Bool.true_and, Bool.true_eq_false]
    have e3 : (r ≤ nI (vW v - 1)) ↔ (r < nI (vW v)) := by
      rw [i32_le, i32_lt, nI_toInt (by omega), nI_toInt (by omega)]; omega
    simp only [e3]
    cases h8 : (decide (nI 0 ≤ r) && decide (r < nI (vW v))) <;> simp [b32]
theorem T_isLord {k : Int32} (h : TV0 τ v) (hb : VB v) : f_t_isLord k τ = some (b32 (decide (nI 0 ≤ k) && decide (k < nI (vN v))), τ) := by
  unfold f_t_isLord f_t_lordMany
  have hn := hb.2.2.2.1
  have e2 : ((0 : Int64)) = (nI 0).toInt64 := rfl
  simp only [nl_0, nl_1, nl_2, nl_3, nl_4, nl_5, nl_6, nl_7, nl_8, nl_9, nl_10, nl_12, nl_15, nl_16, nl_20, nl_25, nl_26, nl_27, nl_28, nl_30, nl_31, nl_32, nl_40, nl_48, nl_60, nl_64, nl_80, nl_92, nl_99, nl_100, nl_117, nl_119, nl_160, nl_172, nl_179, nl_182, nl_183, nl_191, nl_248, nl_251, nl_255, nl_256, nl_300, nl_302, nl_303, nl_384, nl_640, nl_999, nl_1600, nl_1700, nl_3200, nl_6060, nl_65536, nl_999999, nI_add, pk_mul, xin_nI, nI_clamp, nI_leI, nI_ltI, nI_eq, reduceIte, Bool.true_eq_false, Bool.false_eq_true, b32_0, b32_1, xbd_some, Option.bind_some, h.2.2.2.2.1, e2, T_isIn32, b32_and]
  have e3 : (k ≤ nI (vN v) - nI 1) ↔ (k < nI (vN v)) := by
    rw [i32_le, i32_lt, nI_toInt (by omega), i32_sub (by rw [nI_toInt (by omega), nI_toInt (by omega)]; omega) (by rw [nI_toInt (by omega), nI_toInt (by omega)]; omega), nI_toInt (by omega), nI_toInt (by omega)]; omega
  simp only [e3]
theorem T_isInner {c : Nat} (h : TV0 τ v) (hb : VB v) (hc : c < vC v) : f_t_isInner (nI c) τ = some (b32 (decide (0 < c ∧ c + 1 < vC v)), τ) := by
  unfold f_t_isInner Jt_isInner_18
  have h1 := hb.1
  have e1 : nI (vC v) - nI 1 = nI (vC v - 1) := nI_m1 (by omega)
  simp (discharger := omega) only [nl_0, nl_1, nl_2, nl_3, nl_4, nl_5, nl_6, nl_7, nl_8, nl_9, nl_10, nl_12, nl_15, nl_16, nl_20, nl_25, nl_26, nl_27, nl_28, nl_30, nl_31, nl_32, nl_40, nl_48, nl_60, nl_64, nl_80, nl_92, nl_99, nl_100, nl_117, nl_119, nl_160, nl_172, nl_179, nl_182, nl_183, nl_191, nl_248, nl_251, nl_255, nl_256, nl_300, nl_302, nl_303, nl_384, nl_640, nl_999, nl_1600, nl_1700, nl_3200, nl_6060, nl_65536, nl_999999, nI_add, pk_mul, xin_nI, nI_clamp, nI_leI, nI_ltI, nI_eq, reduceIte, Bool.true_eq_false, Bool.false_eq_true, b32_0, b32_1, xbd_some, Option.bind_some, T_columnMany, h.2.1, e1]
  by_cases h0 : c ≤ 0
  · have : ¬ (0 < c ∧ c + 1 < vC v) := by omega
    simp only [h0, this, reduceIte, decide_false]; rfl
  · by_cases h2 : vC v - 1 ≤ c
    · have : ¬ (0 < c ∧ c + 1 < vC v) := by omega
      simp only [h0, h2, this, reduceIte, decide_false]; rfl
    · have : (0 < c ∧ c + 1 < vC v) := by omega
      simp only [h0, h2, this, reduceIte, decide_true]; rfl
theorem T_beforeOf {c : Nat} (hc : c < 300) : f_t_beforeOf (nI c) τ = some (beforeS (tA τ 62) c, τ) := by
  unfold f_t_beforeOf beforeS
  by_cases h0 : c = 0
  · subst h0
    simp (discharger := omega) only [nl_0, nl_1, nl_2, nl_3, nl_4, nl_5, nl_6, nl_7, nl_8, nl_9, nl_10, nl_12, nl_15, nl_16, nl_20, nl_25, nl_26, nl_27, nl_28, nl_30, nl_31, nl_32, nl_40, nl_48, nl_60, nl_64, nl_80, nl_92, nl_99, nl_100, nl_117, nl_119, nl_160, nl_172, nl_179, nl_182, nl_183, nl_191, nl_248, nl_251, nl_255, nl_256, nl_300, nl_302, nl_303, nl_384, nl_640, nl_999, nl_1600, nl_1700, nl_3200, nl_6060, nl_65536, nl_999999, nI_add, pk_mul, xin_nI, nI_clamp, nI_leI, nI_ltI, nI_eq, reduceIte, Bool.true_eq_false, Bool.false_eq_true, b32_0, b32_1, xbd_some, Option.bind_some, T_rowOf]
  · have e1 : nI c - nI 1 = nI (c - 1) := nI_m1 (by omega)
    simp (discharger := omega) only [nl_0, nl_1, nl_2, nl_3, nl_4, nl_5, nl_6, nl_7, nl_8, nl_9, nl_10, nl_12, nl_15, nl_16, nl_20, nl_25, nl_26, nl_27, nl_28, nl_30, nl_31, nl_32, nl_40, nl_48, nl_60, nl_64, nl_80, nl_92, nl_99, nl_100, nl_117, nl_119, nl_160, nl_172, nl_179, nl_182, nl_183, nl_191, nl_248, nl_251, nl_255, nl_256, nl_300, nl_302, nl_303, nl_384, nl_640, nl_999, nl_1600, nl_1700, nl_3200, nl_6060, nl_65536, nl_999999, nI_add, pk_mul, xin_nI, nI_clamp, nI_leI, nI_ltI, nI_eq, reduceIte, Bool.true_eq_false, Bool.false_eq_true, b32_0, b32_1, xbd_some, Option.bind_some, h0, e1, T_rowOf]
theorem T_behindOf {c : Nat} (h : TV0 τ v) (hb : VB v) (hc : c < vC v) : f_t_behindOf (nI c) τ = some (behindS v (tA τ 62) c, τ) := by
  unfold f_t_behindOf behindS
  have h1 := hb.1
  have e1 : nI (vC v) - nI 1 = nI (vC v - 1) := nI_m1 (by omega)
  simp (discharger := omega) only [nl_0, nl_1, nl_2, nl_3, nl_4, nl_5, nl_6, nl_7, nl_8, nl_9, nl_10, nl_12, nl_15, nl_16, nl_20, nl_25, nl_26, nl_27, nl_28, nl_30, nl_31, nl_32, nl_40, nl_48, nl_60, nl_64, nl_80, nl_92, nl_99, nl_100, nl_117, nl_119, nl_160, nl_172, nl_179, nl_182, nl_183, nl_191, nl_248, nl_251, nl_255, nl_256, nl_300, nl_302, nl_303, nl_384, nl_640, nl_999, nl_1600, nl_1700, nl_3200, nl_6060, nl_65536, nl_999999, nI_add, pk_mul, xin_nI, nI_clamp, nI_leI, nI_ltI, nI_eq, reduceIte, Bool.true_eq_false, Bool.false_eq_true, b32_0, b32_1, xbd_some, Option.bind_some, T_columnMany, h.2.1, e1, T_rowOf]
  by_cases h2 : c = vC v - 1
  · have : c + 1 = vC v := by omega
    simp only [h2.symm, this, reduceIte]
  · have : ¬ c + 1 = vC v := by omega
    simp only [h2, this, reduceIte]
theorem T_turnBy {c : Nat} {b r s : Int32} (h : TV0 τ v) (hb : VB v) (hc : c < vC v) : f_t_turnBy (nI c) b r s τ = some (turnB v c b r s, τ) := by
  unfold f_t_turnBy turnB abs32
  rw [T_isInner h hb hc]
  simp only [nl_0, nl_1, nl_2, nl_3, nl_4, nl_5, nl_6, nl_7, nl_8, nl_9, nl_10, nl_12, nl_15, nl_16, nl_20, nl_25, nl_26, nl_27, nl_28, nl_30, nl_31, nl_32, nl_40, nl_48, nl_60, nl_64, nl_80, nl_92, nl_99, nl_100, nl_117, nl_119, nl_160, nl_172, nl_179, nl_182, nl_183, nl_191, nl_248, nl_251, nl_255, nl_256, nl_300, nl_302, nl_303, nl_384, nl_640, nl_999, nl_1600, nl_1700, nl_3200, nl_6060, nl_65536, nl_999999, nI_add, pk_mul, xin_nI, nI_clamp, nI_leI, nI_ltI, nI_eq, reduceIte, Bool.true_eq_false, Bool.false_eq_true, b32_0, b32_1, xbd_some, Option.bind_some]
  by_cases h0 : (0 < c ∧ c + 1 < vC v)
  · simp only [h0, decide_true, Bool.true_eq_false, reduceIte, and_self]
    by_cases h3 : nI 0 ≤ b + s - nI 2 * r <;> simp only [h3, reduceIte]
  · simp only [h0, decide_false, reduceIte]
theorem T_turnOf {c : Nat} (h : TV0 τ v) (hb : VB v) (hc : c < vC v) : f_t_turnOf (nI c) τ = some (turnS v (tA τ 62) c, τ) := by
  unfold f_t_turnOf turnS
  have h1 := hb.1
  rw [T_beforeOf (by omega)]
  simp only [xbd_some]
  rw [T_rowOf (by omega)]
  simp only [xbd_some]
  rw [T_behindOf h hb hc]
  simp only [xbd_some]
  rw [T_turnBy h hb hc]
  rfl
theorem T_offerOf {k : Nat} (h : TV0 τ v) (hb : VB v) (hk : k < vN v) : f_t_offerOf (nI k) τ = some (offS v (tA τ 62) k, τ) := by
  unfold f_t_offerOf offS Jt_offerOf_33
  have h1 := hb.2.2.2.1
  have e1 : tA τ 49 (27 + 5 * k) = vL v (5 * k + 2) := by rw [← h.2.2.2.2.2.1 (5 * k + 2) (by omega)]; congr 1; omega
  simp (discharger := omega) only [nl_0, nl_1, nl_2, nl_3, nl_4, nl_5, nl_6, nl_7, nl_8, nl_9, nl_10, nl_12, nl_15, nl_16, nl_20, nl_25, nl_26, nl_27, nl_28, nl_30, nl_31, nl_32, nl_40, nl_48, nl_60, nl_64, nl_80, nl_92, nl_99, nl_100, nl_117, nl_119, nl_160, nl_172, nl_179, nl_182, nl_183, nl_191, nl_248, nl_251, nl_255, nl_256, nl_300, nl_302, nl_303, nl_384, nl_640, nl_999, nl_1600, nl_1700, nl_3200, nl_6060, nl_65536, nl_999999, nI_add, pk_mul, xin_nI, nI_clamp, nI_leI, nI_ltI, nI_eq, reduceIte, Bool.true_eq_false, Bool.false_eq_true, b32_0, b32_1, xbd_some, Option.bind_some, T_doesOffer, T_purseOf, e1]
  by_cases h2 : tA τ 62 (172 + 2 * k) = nI 1
  · by_cases h3 : tA τ 62 (172 + 2 * k + 1) < vL v (5 * k + 2)
    · have h4 : ¬ vL v (5 * k + 2) ≤ tA τ 62 (172 + 2 * k + 1) := by rw [i32_le]; rw [i32_lt] at h3; omega
      simp only [h2, h3, h4, decide_true, Bool.true_eq_false, reduceIte, and_false]
    · have h4 : vL v (5 * k + 2) ≤ tA τ 62 (172 + 2 * k + 1) := by rw [i32_le]; rw [i32_lt] at h3; omega
      simp only [h2, h3, h4, decide_true, Bool.true_eq_false, reduceIte, and_self]
  · simp only [h2, decide_false, reduceIte, false_and]
theorem T_isOf' {k : Nat} {x : Int32} (h : TV0 τ v) (hb : VB v) (hk : k < vN v) : f_t_isOf (nI k) x τ = some (b32 (ofS v k x), τ) := by
  have h1 := hb.2.2.2.1
  rw [T_isOf (by omega)]
  unfold ofS
  rw [show tA τ 49 (25 + 5 * k) = vL v (5 * k) from h.2.2.2.2.2.1 (5 * k) (by omega), show tA τ 49 (26 + 5 * k) = vL v (5 * k + 1) by rw [← h.2.2.2.2.2.1 (5 * k + 1) (by omega)]; congr 1; omega]
theorem T_payOf {x : Int32} (h : TV0 τ v) (hb : VB v) : f_t_payOf x τ = some (payS v (tA τ 62) x, τ) := by
  have h1 := hb.2.2.2.1
  unfold f_t_payOf
  refine (bind_of (v := (payS v (tA τ 62) x, τ)) (itr_det (fun k => (payN v (tA τ 62) x k, nI k, τ)) (a := 0) (n := vN v) (fun k _ hk => ?_) ?_ (by omega) (by omega))).trans rfl
  · show Bt_payOf_4 x (payN v (tA τ 62) x k) (nI k) τ = _
    unfold Bt_payOf_4 f_t_lordMany Jt_payOf_29
    rw [xbd_some, h.2.2.2.2.1]
    have h2 : ¬ vN v ≤ k := by omega
    simp (discharger := omega) only [nl_0, nl_1, nl_2, nl_3, nl_4, nl_5, nl_6, nl_7, nl_8, nl_9, nl_10, nl_12, nl_15, nl_16, nl_20, nl_25, nl_26, nl_27, nl_28, nl_30, nl_31, nl_32, nl_40, nl_48, nl_60, nl_64, nl_80, nl_92, nl_99, nl_100, nl_117, nl_119, nl_160, nl_172, nl_179, nl_182, nl_183, nl_191, nl_248, nl_251, nl_255, nl_256, nl_300, nl_302, nl_303, nl_384, nl_640, nl_999, nl_1600, nl_1700, nl_3200, nl_6060, nl_65536, nl_999999, nI_add, pk_mul, xin_nI, nI_clamp, nI_leI, nI_ltI, nI_eq, reduceIte, Bool.true_eq_false, Bool.false_eq_true, b32_0, b32_1, xbd_some, Option.bind_some, h2]
    rw [T_isOf' h hb hk, xbd_some, T_offerOf h hb hk, xbd_some]
    cases h3 : ofS v k x <;> simp only [nl_0, nl_1, nl_2, nl_3, nl_4, nl_5, nl_6, nl_7, nl_8, nl_9, nl_10, nl_12, nl_15, nl_16, nl_20, nl_25, nl_26, nl_27, nl_28, nl_30, nl_31, nl_32, nl_40, nl_48, nl_60, nl_64, nl_80, nl_92, nl_99, nl_100, nl_117, nl_119, nl_160, nl_172, nl_179, nl_182, nl_183, nl_191, nl_248, nl_251, nl_255, nl_256, nl_300, nl_302, nl_303, nl_384, nl_640, nl_999, nl_1600, nl_1700, nl_3200, nl_6060, nl_65536, nl_999999, nI_add, pk_mul, xin_nI, nI_clamp, nI_leI, nI_ltI, nI_eq, reduceIte, Bool.true_eq_false, Bool.false_eq_true, b32_0, b32_1, xbd_some, Option.bind_some, payN, h3, Bool.false_eq_true]
  · show Bt_payOf_4 x (payN v (tA τ 62) x (vN v)) (nI (vN v)) τ = _
    unfold Bt_payOf_4 f_t_lordMany
    rw [xbd_some, h.2.2.2.2.1]
    simp (discharger := omega) only [nl_0, nl_1, nl_2, nl_3, nl_4, nl_5, nl_6, nl_7, nl_8, nl_9, nl_10, nl_12, nl_15, nl_16, nl_20, nl_25, nl_26, nl_27, nl_28, nl_30, nl_31, nl_32, nl_40, nl_48, nl_60, nl_64, nl_80, nl_92, nl_99, nl_100, nl_117, nl_119, nl_160, nl_172, nl_179, nl_182, nl_183, nl_191, nl_248, nl_251, nl_255, nl_256, nl_300, nl_302, nl_303, nl_384, nl_640, nl_999, nl_1600, nl_1700, nl_3200, nl_6060, nl_65536, nl_999999, nI_add, pk_mul, xin_nI, nI_clamp, nI_leI, nI_ltI, nI_eq, reduceIte, Bool.true_eq_false, Bool.false_eq_true, b32_0, b32_1, xbd_some, Option.bind_some, Nat.le_refl]
    rfl
end TW
