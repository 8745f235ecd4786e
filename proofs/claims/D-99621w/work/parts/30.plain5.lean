/-! PLAIN LAW: the twin eats, bends -/
set_option maxRecDepth 100000
def CE (τ : TS) (F : (Nat → Int64) → Int64) : Prop := ∃ cs, CodesAt τ 0 cs ∧ SemV okE cs F
def CB (τ : TS) (F : (Nat → Int64) → Bool) : Prop := ∃ cs, CodesAt τ 1 cs ∧ SemV okB cs (fun e => if F e = true then 1 else 0)
def TV (τ : TS) (v : VD) : Prop := TV0 τ v ∧ CodeT τ v CE CB
theorem CodesAt.tn {τ τ' : TS} {wh : Nat} {cs : List Nat} (h : CodesAt τ wh cs) (n : ∀ k i, k = 55 ∨ k = 56 ∨ k = 57 → tA τ' k i = tA τ k i) : CodesAt τ' wh cs := by
  obtain ⟨a, h1, h2, h3, h4⟩ := h
  exact ⟨a, by rw [n _ _ (Or.inl rfl)]; exact h1, by rw [n _ _ (Or.inr (Or.inl rfl))]; exact h2, h3, fun i hi => by rw [n _ _ (Or.inr (Or.inr rfl))]; exact h4 i hi⟩
theorem TV.of {τ τ' : TS} {v : VD} (h : TV τ v) (n1 : tI τ' 60 = tI τ 60) (n2 : tI τ' 47 = tI τ 47) (n : ∀ k i, k = 45 ∨ k = 49 ∨ k = 50 ∨ k = 55 ∨ k = 56 ∨ k = 57 → tA τ' k i = tA τ k i) : TV τ' v := by
  obtain ⟨⟨h1, h2, h3, h4, h5, h6, h7⟩, h8, h9⟩ := h
  refine ⟨⟨by rw [n1]; exact h1, by rw [n _ _ (by omega)]; exact h2, by rw [n _ _ (by omega)]; exact h3, by rw [n _ _ (by omega)]; exact h4, by rw [n2]; exact h5, fun k hk => by rw [n _ _ (by omega)]; exact h6 k hk, fun k hk => by rw [n _ _ (by omega)]; exact h7 k hk⟩, ?_, ?_⟩
  · cases hv : vF v with
    | none => rw [hv] at h8; simp only at h8 ⊢; rw [n _ _ (by omega)]; exact h8
    | some F =>
      rw [hv] at h8
      simp only at h8 ⊢
      obtain ⟨q1, cs, q2, q3⟩ := h8
      exact ⟨by rw [n _ _ (by omega)]; exact q1, cs, q2.tn (fun k i hk => n k i (by omega)), q3⟩
  · cases hv : vB v with
    | none => rw [hv] at h9; simp only at h9 ⊢; rw [n _ _ (by omega)]; exact h9
    | some F =>
      rw [hv] at h9
      simp only at h9 ⊢
      obtain ⟨q1, cs, q2, q3⟩ := h9
      exact ⟨by rw [n _ _ (by omega)]; exact q1, cs, q2.tn (fun k i hk => n k i (by omega)), q3⟩
theorem TV.tn {τ τ' : TS} {v : VD} (h : TV τ v) (n : TN τ τ') : TV τ' v := h.of (n.1 _ rfl) (n.1 _ rfl) (fun k i _ => n.2.2.1 k i)
def envE (v : VD) (w : Nat → Int32) (c r : Nat) (k : Nat) : Int64 := if k = 0 then (nI c).toInt64 else if k = 1 then (nI r).toInt64 else if k = 2 then (turnS v w c).toInt64 else if k = 3 then (w 0).toInt64 else if k = 4 then (vS v (8 * c + r)).toInt64 else if k = 5 then (w (12 + (8 * c + r))).toInt64 else if k = 6 then (payS v w (nI c)).toInt64 else (w (92 + (8 * c + r))).toInt64
def envB (c : Nat) (b r h t sn : Int32) (k : Nat) : Int64 := if k = 0 then (nI c).toInt64 else if k = 1 then r.toInt64 else if k = 2 then t.toInt64 else if k = 3 then sn.toInt64 else if k = 8 then b.toInt64 else h.toInt64
def eatsS (v : VD) (w : Nat → Int32) (c r : Nat) : Int64 := match vF v with
  | none => (((payS v w (nI c) + turnS v w c) - vS v (8 * c + r)) - w (12 + (8 * c + r))).toInt64
  | some F => F (envE v w c r)
def bendB (v : VD) (sn : Int32) (c : Nat) (b r h : Int32) : Bool := match vB v with
  | none => decide (nI 0 < turnB v c b r h)
  | some F => F (envB c b r h (turnB v c b r h) sn)
def bendS (v : VD) (w : Nat → Int32) (c : Nat) : Bool := bendB v (w 0) c (beforeS w c) (w (2 + c)) (behindS v w c)
section TE
variable {τ : TS} {v : VD}
theorem okE2 : ∀ k, okE k = true → k < 14 ∨ (40 ≤ k ∧ k < 60) ∨ (1000 ≤ k ∧ k < 11000) := by
  intro k h
  simp only [okE, Bool.or_eq_true, Bool.and_eq_true, decide_eq_true_eq] at h
  omega
theorem okB2 : ∀ k, okB k = true → k < 14 ∨ (40 ≤ k ∧ k < 60) ∨ (1000 ≤ k ∧ k < 11000) := by
  intro k h
  simp only [okB, Bool.or_eq_true, Bool.and_eq_true, decide_eq_true_eq, beq_iff_eq] at h
  omega
theorem T_partE {τ' : TS} {c r : Nat} (h : TV0 τ' v) (hb : VB v) (hc : c < vC v) (hr : r < vW v) (h64 : tI τ' 64 = nI c) (h65 : tI τ' 65 = nI r) (h66 : tI τ' 66 = turnS v (tA τ' 62) c) {k : Nat} (hk : k < 8) : f_t_qPartOf (nI k) (nI 0) τ' = some (envE v (tA τ' 62) c r k, τ') := by
  have h1 := hb.1
  have h2 := hb.2.1
  have e4 : tA τ' 50 (80 + 8 * c + r) = vS v (8 * c + r) := by rw [← h.2.2.2.2.2.2 (8 * c + r) (by omega)]; congr 1; omega
  unfold f_t_qPartOf envE
  rcases (by omega : k = 0 ∨ k = 1 ∨ k = 2 ∨ k = 3 ∨ k = 4 ∨ k = 5 ∨ k = 6 ∨ k = 7) with h | h | h | h | h | h | h | h <;> subst h
  · rw [h64]; rfl
  · rw [h65]; rfl
  · rw [h66]; rfl
  · rfl
  · simp (discharger := omega) only [nl_0, nl_1, nl_2, nl_3, nl_4, nl_5, nl_6, nl_7, nl_8, nl_9, nl_10, nl_12, nl_15, nl_16, nl_20, nl_25, nl_26, nl_27, nl_28, nl_30, nl_31, nl_32, nl_40, nl_48, nl_60, nl_64, nl_80, nl_92, nl_99, nl_100, nl_117, nl_119, nl_160, nl_172, nl_179, nl_182, nl_183, nl_191, nl_248, nl_251, nl_255, nl_256, nl_300, nl_302, nl_303, nl_384, nl_640, nl_999, nl_1600, nl_1700, nl_3200, nl_6060, nl_65536, nl_999999, nI_add, pk_mul, xin_nI, nI_clamp, nI_leI, nI_ltI, nI_eq, reduceIte, Bool.true_eq_false, Bool.false_eq_true, b32_0, b32_1, xbd_some, Option.bind_some, h64, h65, e4, Nat.reduceEqDiff]
  · simp (discharger := omega) only [nl_0, nl_1, nl_2, nl_3, nl_4, nl_5, nl_6, nl_7, nl_8, nl_9, nl_10, nl_12, nl_15, nl_16, nl_20, nl_25, nl_26, nl_27, nl_28, nl_30, nl_31, nl_32, nl_40, nl_48, nl_60, nl_64, nl_80, nl_92, nl_99, nl_100, nl_117, nl_119, nl_160, nl_172, nl_179, nl_182, nl_183, nl_191, nl_248, nl_251, nl_255, nl_256, nl_300, nl_302, nl_303, nl_384, nl_640, nl_999, nl_1600, nl_1700, nl_3200, nl_6060, nl_65536, nl_999999, nI_add, pk_mul, xin_nI, nI_clamp, nI_leI, nI_ltI, nI_eq, reduceIte, Bool.true_eq_false, Bool.false_eq_true, b32_0, b32_1, xbd_some, Option.bind_some, h64, h65, T_willowsAt, Nat.reduceEqDiff]
  · have hp := T_payOf (x := nI c) ‹TV0 τ' v› hb
    simp (discharger := omega) only [nl_0, nl_1, nl_2, nl_3, nl_4, nl_5, nl_6, nl_7, nl_8, nl_9, nl_10, nl_12, nl_15, nl_16, nl_20, nl_25, nl_26, nl_27, nl_28, nl_30, nl_31, nl_32, nl_40, nl_48, nl_60, nl_64, nl_80, nl_92, nl_99, nl_100, nl_117, nl_119, nl_160, nl_172, nl_179, nl_182, nl_183, nl_191, nl_248, nl_251, nl_255, nl_256, nl_300, nl_302, nl_303, nl_384, nl_640, nl_999, nl_1600, nl_1700, nl_3200, nl_6060, nl_65536, nl_999999, nI_add, pk_mul, xin_nI, nI_clamp, nI_leI, nI_ltI, nI_eq, reduceIte, Bool.true_eq_false, Bool.false_eq_true, b32_0, b32_1, xbd_some, Option.bind_some, h64, hp, Nat.reduceEqDiff]
  · simp (discharger := omega) only [nl_0, nl_1, nl_2, nl_3, nl_4, nl_5, nl_6, nl_7, nl_8, nl_9, nl_10, nl_12, nl_15, nl_16, nl_20, nl_25, nl_26, nl_27, nl_28, nl_30, nl_31, nl_32, nl_40, nl_48, nl_60, nl_64, nl_80, nl_92, nl_99, nl_100, nl_117, nl_119, nl_160, nl_172, nl_179, nl_182, nl_183, nl_191, nl_248, nl_251, nl_255, nl_256, nl_300, nl_302, nl_303, nl_384, nl_640, nl_999, nl_1600, nl_1700, nl_3200, nl_6060, nl_65536, nl_999999, nI_add, pk_mul, xin_nI, nI_clamp, nI_leI, nI_ltI, nI_eq, reduceIte, Bool.true_eq_false, Bool.false_eq_true, b32_0, b32_1, xbd_some, Option.bind_some, h64, h65, T_everAt, Nat.reduceEqDiff]
theorem T_eatsOf {c r : Nat} (h : TV τ v) (hb : VB v) (hc : c < vC v) (hr : r < vW v) : OK (f_t_eatsOf (nI c) (nI r) τ) (fun o => o.1 = eatsS v (tA τ 62) c r ∧ TN τ o.2) := by
  have h1 := hb.1
  have h2 := hb.2.1
  obtain ⟨h0, hF, -⟩ := h
  have e4 : tA τ 50 (80 + (8 * c + r)) = vS v (8 * c + r) := h0.2.2.2.2.2.2 (8 * c + r) (by omega)
  unfold f_t_eatsOf eatsS
  cases hv : vF v with
  | none =>
    rw [hv] at hF
    simp only at hF
    simp (discharger := omega) only [nl_0, nl_1, nl_2, nl_3, nl_4, nl_5, nl_6, nl_7, nl_8, nl_9, nl_10, nl_12, nl_15, nl_16, nl_20, nl_25, nl_26, nl_27, nl_28, nl_30, nl_31, nl_32, nl_40, nl_48, nl_60, nl_64, nl_80, nl_92, nl_99, nl_100, nl_117, nl_119, nl_160, nl_172, nl_179, nl_182, nl_183, nl_191, nl_248, nl_251, nl_255, nl_256, nl_300, nl_302, nl_303, nl_384, nl_640, nl_999, nl_1600, nl_1700, nl_3200, nl_6060, nl_65536, nl_999999, nI_add, pk_mul, xin_nI, nI_clamp, nI_leI, nI_ltI, nI_eq, reduceIte, Bool.true_eq_false, Bool.false_eq_true, b32_0, b32_1, xbd_some, Option.bind_some, hF, T_payOf h0 hb, T_turnOf h0 hb hc, T_willowsAt, e4]
    exact ⟨_, rfl, rfl, TN.refl τ⟩
  | some F =>
    rw [hv] at hF
    simp only at hF
    obtain ⟨hne, cs, hC, hS1, hS2⟩ := hF
    have hne : ¬ tA τ 55 2 = -nI 1 := hne
    have hT0 : TV0 (sI (sI τ 64 (nI c)) 65 (nI r)) v := h0.tn (((TN.refl τ).sI rfl).sI rfl)
    simp (discharger := omega) only [nl_0, nl_1, nl_2, nl_3, nl_4, nl_5, nl_6, nl_7, nl_8, nl_9, nl_10, nl_12, nl_15, nl_16, nl_20, nl_25, nl_26, nl_27, nl_28, nl_30, nl_31, nl_32, nl_40, nl_48, nl_60, nl_64, nl_80, nl_92, nl_99, nl_100, nl_117, nl_119, nl_160, nl_172, nl_179, nl_182, nl_183, nl_191, nl_248, nl_251, nl_255, nl_256, nl_300, nl_302, nl_303, nl_384, nl_640, nl_999, nl_1600, nl_1700, nl_3200, nl_6060, nl_65536, nl_999999, nI_add, pk_mul, xin_nI, nI_clamp, nI_leI, nI_ltI, nI_eq, reduceIte, Bool.true_eq_false, Bool.false_eq_true, b32_0, b32_1, xbd_some, Option.bind_some, hne]
    rw [T_turnOf hT0 hb hc, xbd_some]
    refine OK_bd (T_codesTell (env := envE v (tA τ 62) c r) (lk := fun _ _ => 0) (q := F (envE v (tA τ 62) c r)) (by decide) (hC.tn (fun k i _ => rfl)) hS1 okE2 (fun τ' hT k k1 k2 hk => ?_) (hS2 _ _ [])) (fun q τ' hq => ⟨_, rfl, hq.1, ?_⟩)
    · have hk8 : k - 40 < 8 := by
        simp only [okE, Bool.or_eq_true, Bool.and_eq_true, decide_eq_true_eq] at hk
        omega
      have e62 : tA τ' 62 = tA τ 62 := by funext i; exact hT.2.2.1 62 i
      have hn : TN τ τ' := (((((TN.refl τ).sI (k := 64) rfl).sI (k := 65) rfl).sI (k := 66) rfl).sI (k := 61) rfl |>.sI (k := 127) rfl).trans hT.tn
      rw [← e62]
      refine T_partE (h0.tn hn) hb hc hr ?_ ?_ ?_ hk8
      · rw [hT.1 64 (by decide)]; rfl
      · rw [hT.1 65 (by decide)]; rfl
      · rw [hT.1 66 (by decide), e62]; rfl
    · exact (((TN.refl τ).sI (k := 64) rfl).sI (k := 65) rfl |>.sI (k := 66) rfl).trans hq.2
theorem T_partB {τ' : TS} {c : Nat} {b r s t : Int32} (h64 : tI τ' 64 = nI c) (h65 : tI τ' 65 = r) (h66 : tI τ' 66 = t) (h67 : tI τ' 67 = b) (h68 : tI τ' 68 = s) {k : Nat} (hk : k < 4 ∨ k = 8 ∨ k = 9) : f_t_qPartOf (nI k) (nI 0) τ' = some (envB c b r s t (tA τ' 62 0) k, τ') := by
  unfold f_t_qPartOf envB
  rcases (by omega : k = 0 ∨ k = 1 ∨ k = 2 ∨ k = 3 ∨ k = 8 ∨ k = 9) with h | h | h | h | h | h <;> subst h
  · rw [h64]; rfl
  · rw [h65]; rfl
  · rw [h66]; rfl
  · rfl
  · rw [h67]; rfl
  · rw [h68]; rfl
theorem T_isBendBy {c : Nat} {b r s : Int32} (h : TV τ v) (hb : VB v) (hc : c < vC v) : OK (f_t_isBendBy (nI c) b r s τ) (fun o => o.1 = b32 (bendB v (tA τ 62 0) c b r s) ∧ TN τ o.2) := by
  have h1 := hb.1
  obtain ⟨h0, -, hF⟩ := h
  unfold f_t_isBendBy bendB
  rw [T_turnBy h0 hb hc, xbd_some]
  cases hv : vB v with
  | none =>
    rw [hv] at hF
    simp only at hF
    simp (discharger := omega) only [nl_0, nl_1, nl_2, nl_3, nl_4, nl_5, nl_6, nl_7, nl_8, nl_9, nl_10, nl_12, nl_15, nl_16, nl_20, nl_25, nl_26, nl_27, nl_28, nl_30, nl_31, nl_32, nl_40, nl_48, nl_60, nl_64, nl_80, nl_92, nl_99, nl_100, nl_117, nl_119, nl_160, nl_172, nl_179, nl_182, nl_183, nl_191, nl_248, nl_251, nl_255, nl_256, nl_300, nl_302, nl_303, nl_384, nl_640, nl_999, nl_1600, nl_1700, nl_3200, nl_6060, nl_65536, nl_999999, nI_add, pk_mul, xin_nI, nI_clamp, nI_leI, nI_ltI, nI_eq, reduceIte, Bool.true_eq_false, Bool.false_eq_true, b32_0, b32_1, xbd_some, Option.bind_some, tA_sI, tI_sI, hF]
    by_cases h9 : turnB v c b r s ≤ nI 0
    · have h8 : ¬ nI 0 < turnB v c b r s := by rw [i32_lt]; rw [i32_le] at h9; omega
      rw [if_pos h9]
      exact ⟨_, rfl, by simp [h8, b32], (TN.refl τ).sI rfl⟩
    · have h8 : nI 0 < turnB v c b r s := by rw [i32_lt]; rw [i32_le] at h9; omega
      rw [if_neg h9]
      exact ⟨_, rfl, by simp [h8, b32], (TN.refl τ).sI rfl⟩
  | some F =>
    rw [hv] at hF
    simp only at hF
    obtain ⟨hne, cs, hC, hS1, hS2⟩ := hF
    have hne : ¬ tA τ 55 3 = -nI 1 := hne
    simp (discharger := omega) only [nl_0, nl_1, nl_2, nl_3, nl_4, nl_5, nl_6, nl_7, nl_8, nl_9, nl_10, nl_12, nl_15, nl_16, nl_20, nl_25, nl_26, nl_27, nl_28, nl_30, nl_31, nl_32, nl_40, nl_48, nl_60, nl_64, nl_80, nl_92, nl_99, nl_100, nl_117, nl_119, nl_160, nl_172, nl_179, nl_182, nl_183, nl_191, nl_248, nl_251, nl_255, nl_256, nl_300, nl_302, nl_303, nl_384, nl_640, nl_999, nl_1600, nl_1700, nl_3200, nl_6060, nl_65536, nl_999999, nI_add, pk_mul, xin_nI, nI_clamp, nI_leI, nI_ltI, nI_eq, reduceIte, Bool.true_eq_false, Bool.false_eq_true, b32_0, b32_1, xbd_some, Option.bind_some, tA_sI, hne]
    refine OK_bd (T_codesTell (env := envB c b r s (turnB v c b r s) (tA τ 62 0)) (lk := fun _ _ => 0) (q := if F (envB c b r s (turnB v c b r s) (tA τ 62 0)) = true then 1 else 0) (by decide) (hC.tn (fun k i _ => rfl)) hS1 okB2 (fun τ' hT k k1 k2 hk => ?_) (hS2 _ _ [])) (fun q τ' hq => ?_)
    · have hk8 : k - 40 < 4 ∨ k - 40 = 8 ∨ k - 40 = 9 := by
        simp only [okB, Bool.or_eq_true, Bool.and_eq_true, decide_eq_true_eq, beq_iff_eq] at hk
        omega
      have e62 : tA τ' 62 0 = tA τ 62 0 := hT.2.2.1 62 0
      rw [← e62]
      refine T_partB ?_ ?_ ?_ ?_ ?_ hk8
      · rw [hT.1 64 (by decide)]; rfl
      · rw [hT.1 65 (by decide)]; rfl
      · rw [hT.1 66 (by decide)]; rfl
      · rw [hT.1 67 (by decide)]; rfl
      · rw [hT.1 68 (by decide)]; rfl
    · have hn : TN τ τ' := (((((TN.refl τ).sI (k := 66) rfl).sI (k := 64) rfl).sI (k := 65) rfl).sI (k := 67) rfl |>.sI (k := 68) rfl).trans hq.2
      have hq1 : q = if F (envB c b r s (turnB v c b r s) (tA τ 62 0)) = true then 1 else 0 := hq.1
      have hc4 := lg_cmp_eq q 1
      rw [nl_0] at hc4
      simp only [hc4]
      cases hf : F (envB c b r s (turnB v c b r s) (tA τ 62 0)) with
      | true =>
        rw [hf] at hq1
        rw [hq1]
        exact ⟨_, rfl, rfl, hn⟩
      | false =>
        rw [hf] at hq1
        rw [hq1]
        exact ⟨_, rfl, rfl, hn⟩
theorem T_isBend {c : Nat} (h : TV τ v) (hb : VB v) (hc : c < vC v) : OK (f_t_isBend (nI c) τ) (fun o => o.1 = b32 (bendS v (tA τ 62) c) ∧ TN τ o.2) := by
  have h1 := hb.1
  unfold f_t_isBend
  rw [T_beforeOf (by omega), xbd_some, T_rowOf (by omega), xbd_some, T_behindOf h.1 hb hc, xbd_some]
  refine OK_bd (T_isBendBy h hb hc) (fun q τ' hq => ⟨_, rfl, ?_, hq.2⟩)
  have hq1 : q = _ := hq.1
  rw [hq1, nl_1, b32_and]
  rfl
/-- how many bends there are in columns below -/
def bendsN (v : VD) (w : Nat → Int32) (a : Nat) : Nat → Int32
  | 0 => nI 0
  | k + 1 => if bendS v w (a + k) = true then bendsN v w a k + nI 1 else bendsN v w a k
theorem T_bendMany (h : TV τ v) (hb : VB v) : OK (f_t_bendMany τ) (fun o => o.1 = bendsN v (tA τ 62) 0 (vC v) ∧ TN τ o.2) := by
  have h1 := hb.1
  unfold f_t_bendMany
  refine OK_bind (P := fun o => o.1 = bendsN v (tA τ 62) 0 (vC v) ∧ TN τ o.2) ?_ (fun o ho => ⟨_, rfl, ho⟩)
  refine itr_for (fun k s => ∃ τ', s = (bendsN v (tA τ 62) 0 k, nI k, τ') ∧ TN τ τ') _ 0 (vC v) ?_ ?_ (by omega) (by omega) ⟨τ, rfl, TN.refl τ⟩
  · rintro k s - hk ⟨τ', rfl, hn⟩
    have e62 : tA τ' 62 = tA τ 62 := by funext i; exact hn.2.2.1 62 i
    show OK (Bt_bendMany_4 (bendsN v (tA τ 62) 0 k) (nI k) τ') _
    unfold Bt_bendMany_4 Jt_bendMany_23
    rw [T_columnMany, xbd_some, (h.tn hn).1.2.1, if_neg (by rw [nI_leI (by omega) (by omega)]; omega)]
    refine OK_bd (T_isBend (h.tn hn) hb hk) (fun q τ2 hq => ?_)
    have hq1 : q = _ := hq.1
    rw [hq1, e62, nl_0, nl_1]
    cases hf : bendS v (tA τ 62) k with
    | true => exact ⟨_, rfl, Or.inl ⟨_, rfl, τ2, by rw [bendsN, Nat.zero_add, hf]; simp [nI_add], hn.trans hq.2⟩⟩
    | false => exact ⟨_, rfl, Or.inl ⟨_, rfl, τ2, by rw [bendsN, Nat.zero_add, hf]; simp [nI_add], hn.trans hq.2⟩⟩
  · rintro s ⟨τ', rfl, hn⟩
    show OK (Bt_bendMany_4 (bendsN v (tA τ 62) 0 (vC v)) (nI (vC v)) τ') _
    unfold Bt_bendMany_4
    rw [T_columnMany, xbd_some, (h.tn hn).1.2.1, if_pos (by rw [nI_leI (by omega) (by omega)]; omega)]
    exact ⟨_, rfl, _, rfl, rfl, hn⟩
end TE
