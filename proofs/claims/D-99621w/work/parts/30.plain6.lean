/-! PLAIN LAW: the twin's season -/
set_option maxRecDepth 100000
/-- alike but for some fields -/
def TX (fi fa : Nat → Bool) (τ τ' : TS) : Prop := (∀ k, fi k = false → noisy k = false → tI τ' k = tI τ k) ∧ (∀ k, tL τ' k = tL τ k) ∧ (∀ k i, fa k = false → tA τ' k i = tA τ k i) ∧ ∀ k i, k ≠ 126 → tM τ' k i = tM τ k i
theorem TX.refl (fi fa : Nat → Bool) (τ : TS) : TX fi fa τ τ := ⟨fun _ _ _ => rfl, fun _ => rfl, fun _ _ _ => rfl, fun _ _ _ => rfl⟩
theorem TX.trans {fi fa : Nat → Bool} {τ τ' τ'' : TS} (h : TX fi fa τ τ') (h' : TX fi fa τ' τ'') : TX fi fa τ τ'' := ⟨fun k h1 h2 => (h'.1 k h1 h2).trans (h.1 k h1 h2), fun k => (h'.2.1 k).trans (h.2.1 k), fun k i h1 => (h'.2.2.1 k i h1).trans (h.2.2.1 k i h1), fun k i hk => (h'.2.2.2 k i hk).trans (h.2.2.2 k i hk)⟩
theorem TN.tx {fi fa : Nat → Bool} {τ τ' : TS} (h : TN τ τ') : TX fi fa τ τ' := ⟨fun k _ hk => h.1 k hk, h.2.1, fun k i _ => h.2.2.1 k i, h.2.2.2⟩
theorem TX.mono {fi fa gi ga : Nat → Bool} {τ τ' : TS} (h : TX fi fa τ τ') (h1 : ∀ k, gi k = false → fi k = false) (h2 : ∀ k, ga k = false → fa k = false) : TX gi ga τ τ' := ⟨fun k a b => h.1 k (h1 k a) b, h.2.1, fun k i a => h.2.2.1 k i (h2 k a), h.2.2.2⟩
theorem TX.sI {fi fa : Nat → Bool} {τ τ' : TS} {k : Nat} {v : Int32} (h : TX fi fa τ τ') (hk : fi k = true ∨ noisy k = true) : TX fi fa τ (sI τ' k v) := ⟨fun j h1 h2 => by rw [tI_sI, if_neg (fun e => by subst e; rcases hk with q | q <;> simp_all)]; exact h.1 j h1 h2, h.2.1, h.2.2.1, h.2.2.2⟩
theorem TX.sA {fi fa : Nat → Bool} {τ τ' : TS} {k i : Nat} {v : Int32} (h : TX fi fa τ τ') (hk : fa k = true) : TX fi fa τ (sA τ' k i v) := ⟨h.1, h.2.1, fun j z h1 => by rw [tA_sA, if_neg (fun e => by rw [e.1, hk] at h1; cases h1)]; exact h.2.2.1 j z h1, h.2.2.2⟩
theorem TV.tx {fi fa : Nat → Bool} {τ τ' : TS} {v : VD} (h : TV τ v) (n : TX fi fa τ τ') (h1 : fi 60 = false ∧ fi 47 = false) (h2 : fa 45 = false ∧ fa 49 = false ∧ fa 50 = false ∧ fa 55 = false ∧ fa 56 = false ∧ fa 57 = false) : TV τ' v :=
  h.of (n.1 _ h1.1 rfl) (n.1 _ h1.2 rfl) (fun k i hk => n.2.2.1 k i (by rcases hk with e | e | e | e | e | e <;> subst e <;> simp [h2]))
theorem tA_upd {τ : TS} {k i : Nat} {x : Int32} : tA (sA τ k i x) k = upd (tA τ k) i x := by
  funext z
  rw [tA_sA]
  unfold upd
  by_cases h : z = i <;> simp [h]
theorem tA_updn {τ : TS} {k i j : Nat} {x : Int32} (h : j ≠ k) : tA (sA τ k i x) j = tA τ j := by
  funext z
  rw [tA_sA, if_neg (fun e => h e.1)]
def in62 (k : Nat) : Bool := k == 62
def in72 (k : Nat) : Bool := k == 62 || k == 72
def in71 (k : Nat) : Bool := k == 71
def no (k : Nat) : Bool := false
def WR (v : VD) (w : Nat → Int32) : Prop := ∀ c, c < vC v → ∃ r, r < vW v ∧ w (2 + c) = nI r
def nearS (v : VD) (w : Nat → Int32) (c : Nat) (x : Int32) : Bool := (decide (c = 0) || (decide (-(nI (vX v)) ≤ beforeS w c - x) && decide (beforeS w c - x ≤ nI (vX v)))) && (decide (c + 1 = vC v) || (decide (-(nI (vX v)) ≤ behindS v w c - x) && decide (behindS v w c - x ≤ nI (vX v))))
def mvS (v : VD) (w : Nat → Int32) (c : Nat) (x : Int32) (b : Int32 × Int64) : Int32 × Int64 :=
  if ((decide (nI 0 ≤ x) && decide (x < nI (vW v))) && nearS v w c x && decide (b.2 < eatsS v w c x.toNatClampNeg)) = true then (x, eatsS v w c x.toNatClampNeg) else b
def mv2 (v : VD) (w : Nat → Int32) (c : Nat) : Int32 × Int64 := mvS v w c (w (2 + c) + nI 1) (mvS v w c (w (2 + c) - nI 1) (-nI 1, 0))
def moveS (v : VD) (w : Nat → Int32) (c : Nat) : Nat → Int32 := if (mv2 v w c).1 = -nI 1 then w else upd w (2 + c) (mv2 v w c).1
section TM
variable {τ : TS} {v : VD}
theorem T_isNear {c : Nat} {x : Int32} (h : TV0 τ v) (hb : VB v) (hc : c < vC v) : f_t_isNear (nI c) x τ = some (b32 (nearS v (tA τ 62) c x), τ) := by
  have h1 := hb.1
  have e1 : nI (vC v) - nI 1 = nI (vC v - 1) := nI_m1 (by omega)
  have hl : (c = vC v - 1) ↔ (c + 1 = vC v) := by omega
  unfold f_t_isNear Jt_isNear_44 Jt_isNear_78 Jt_isNear_82 nearS
  rw [T_beforeOf (by omega), xbd_some, T_behindOf h hb hc, xbd_some]
  simp (discharger := omega) only [nl_0, nl_1, nl_2, nl_3, nl_4, nl_5, nl_6, nl_7, nl_8, nl_9, nl_10, nl_12, nl_15, nl_16, nl_20, nl_25, nl_26, nl_27, nl_28, nl_30, nl_31, nl_32, nl_40, nl_48, nl_60, nl_64, nl_80, nl_92, nl_99, nl_100, nl_117, nl_119, nl_160, nl_172, nl_179, nl_182, nl_183, nl_191, nl_248, nl_251, nl_255, nl_256, nl_300, nl_302, nl_303, nl_384, nl_640, nl_999, nl_1600, nl_1700, nl_3200, nl_6060, nl_65536, nl_999999, nI_add, pk_mul, xin_nI, nI_clamp, nI_leI, nI_ltI, nI_eq, reduceIte, Bool.true_eq_false, Bool.false_eq_true, b32_0, b32_1, xbd_some, Option.bind_some, T_columnMany, h.2.1, h.2.2.2.1, e1, T_isIn32, hl]
  by_cases h0 : c = 0
  · by_cases h9 : c + 1 = vC v
    · simp only [h0, h9, reduceIte, decide_true, Bool.true_or, Bool.true_and]
      subst h0
      simp only [h9, reduceIte, decide_true, Bool.true_or, Bool.true_and]
      rfl
    · simp only [h0, h9, reduceIte, decide_true, decide_false, Bool.true_or, Bool.true_and, Bool.false_or]
      subst h0
      simp only [h9, reduceIte]
      cases h8 : (decide (-(nI (vX v)) ≤ behindS v (tA τ 62) 0 - x) && decide (behindS v (tA τ 62) 0 - x ≤ nI (vX v))) <;> simp [b32]
  · simp only [h0, reduceIte, decide_false, Bool.false_or]
    cases h7 : (decide (-(nI (vX v)) ≤ beforeS (tA τ 62) c - x) && decide (beforeS (tA τ 62) c - x ≤ nI (vX v)))
    · simp [b32]
    · by_cases h9 : c + 1 = vC v
      · simp [h9, b32]
      · simp only [h9, reduceIte, decide_false, Bool.false_or, Bool.true_eq_false, Bool.true_and]
        cases h8 : (decide (-(nI (vX v)) ≤ behindS v (tA τ 62) c - x) && decide (behindS v (tA τ 62) c - x ≤ nI (vX v))) <;> simp [b32]
theorem T_mv {c R : Nat} {x b : Int32} {m : Int64} (h : TV τ v) (hb : VB v) (hc : c < vC v) (hR : tA τ 62 (2 + c) = nI R) (hx : ¬ nI R + nI 1 < x) : OK (Bt_columnMoves_13 (nI c) b m x τ) (fun o => ∃ τ', o = .inl ((mvS v (tA τ 62) c x (b, m)).1, (mvS v (tA τ 62) c x (b, m)).2, x + nI 2, τ') ∧ TN τ τ') := by
  have h1 := hb.1
  have h2 := hb.2.1
  have hw2 := (hb.2.2.2.2.1 (by omega)).2.1
  unfold Bt_columnMoves_13 Jt_columnMoves_80 mvS
  have e1 : nI (vW v) - nI 1 = nI (vW v - 1) := nI_m1 (by omega)
  have e2 : ((0 : Int64)) = (nI 0).toInt64 := rfl
  have e3 : (x ≤ nI (vW v - 1)) ↔ (x < nI (vW v)) := by
    rw [i32_le, i32_lt, nI_toInt (by omega), nI_toInt (by omega)]; omega
  rw [T_rowOf (by omega), xbd_some, hR, nl_1, if_neg hx, T_rowsMany, xbd_some, h.1.2.2.1, e1, e2, T_isIn32, xbd_some]
  simp only [e3, nl_0, b32_0, nl_2]
  cases h9 : (decide (nI 0 ≤ x) && decide (x < nI (vW v))) with
  | false =>
    simp only [reduceIte, Bool.false_and, Bool.false_eq_true]
    exact ⟨_, rfl, τ, rfl, TN.refl τ⟩
  | true =>
    simp only [reduceIte, Bool.true_and, Bool.true_eq_false]
    obtain ⟨r, hr, hxr⟩ : ∃ r, r < vW v ∧ x = nI r := by
      simp only [Bool.and_eq_true, decide_eq_true_eq] at h9
      obtain ⟨r, hr1, hr2⟩ := nI_of (x := x) (by rw [i32_lt]; have := h9.1; rw [i32_le] at this; exact Int.not_lt.mpr this)
      refine ⟨r, ?_, hr2⟩
      have := h9.2
      rw [hr2, nI_ltI hr1 (by omega)] at this
      exact this
    subst hxr
    rw [T_isNear h.1 hb hc, xbd_some]
    simp only [b32_0]
    cases h8 : nearS v (tA τ 62) c (nI r) with
    | false =>
      simp only [reduceIte, Bool.false_and, Bool.false_eq_true]
      exact ⟨_, rfl, τ, rfl, TN.refl τ⟩
    | true =>
      simp only [reduceIte, Bool.true_and, Bool.true_eq_false, nI_clamp (show r < 2 ^ 31 by omega)]
      refine OK_bd (T_eatsOf h hb hc hr) (fun q τ' hq => ?_)
      have hq1 : q = _ := hq.1
      have hg := lg_cmp_gt (eatsS v (tA τ 62) c r) m
      rw [nl_0] at hg
      simp only [hg, hq1]
      by_cases h7 : m < eatsS v (tA τ 62) c r
      · simp only [h7, reduceIte, decide_true]
        exact ⟨_, rfl, τ', rfl, hq.2⟩
      · simp only [h7, reduceIte, decide_false, Bool.false_eq_true]
        exact ⟨_, rfl, τ', rfl, hq.2⟩
theorem T_columnMoves {c : Nat} (h : TV τ v) (hb : VB v) (hc : c < vC v) (hr : WR v (tA τ 62)) : OK (f_t_columnMoves (nI c) τ) (fun τ' => tA τ' 62 = moveS v (tA τ 62) c ∧ TX no in62 τ τ') := by
  have h1 := hb.1
  have h2 := hb.2.1
  obtain ⟨R, hR, hw⟩ := hr c hc
  unfold f_t_columnMoves
  rw [T_rowOf (by omega), xbd_some, hw]
  have a1 : ¬ nI R + nI 1 < nI R - nI 1 := by
    rw [nI_add, i32_lt, nI_toInt (by omega), i32_sub (by rw [nI_toInt (by omega), nI_toInt (by omega)]; omega) (by rw [nI_toInt (by omega), nI_toInt (by omega)]; omega), nI_toInt (by omega), nI_toInt (by omega)]; omega
  have a2 : nI R - nI 1 + nI 2 = nI R + nI 1 := by
    rw [i32_eq, nI_add, i32_add, i32_sub] <;> (try rw [nI_toInt (by omega)]) <;> (try rw [nI_toInt (by omega)]) <;> (try rw [nI_toInt (by omega)]) <;> (try rw [i32_sub]) <;> (try rw [nI_toInt (by omega)]) <;> (try rw [nI_toInt (by omega)]) <;> (try rw [nI_toInt (by omega)]) <;> omega
  obtain ⟨o1, e1, τ1, rfl, n1⟩ := T_mv (b := -nI 1) (m := 0) (x := nI R - nI 1) h hb hc hw a1
  have w1 : tA τ1 62 = tA τ 62 := by funext i; exact n1.2.2.1 62 i
  obtain ⟨o2, e2, τ2, rfl, n2⟩ := T_mv (τ := τ1) (b := (mvS v (tA τ 62) c (nI R - nI 1) (-nI 1, 0)).1) (m := (mvS v (tA τ 62) c (nI R - nI 1) (-nI 1, 0)).2) (x := nI R + nI 1) (h.tn n1) hb hc (by rw [w1]; exact hw) (by rw [i32_lt]; omega)
  rw [w1] at e2
  have w2 : tA τ2 62 = tA τ 62 := by funext i; rw [n2.2.2.1 62 i, w1]
  have e3 : Bt_columnMoves_13 (nI c) (mv2 v (tA τ 62) c).1 (mv2 v (tA τ 62) c).2 (nI R + nI 1 + nI 2) τ2 = some (.inr ((mv2 v (tA τ 62) c).1, τ2)) := by
    unfold Bt_columnMoves_13
    rw [T_rowOf (by omega), xbd_some, w2, hw, nl_1, if_pos]
    rw [nI_add, nI_add, nI_ltI (by omega) (by omega)]
    omega
  have hl : itr (fun s_ : Int32 × Int64 × Int32 × TS => Bt_columnMoves_13 (nI c) s_.1 s_.2.1 s_.2.2.1 s_.2.2.2) 4096 ((-1), 0, nI R - 1, τ) = some ((mv2 v (tA τ 62) c).1, τ2) := by
    rw [itr_inl (n := 4095) (a' := ((mvS v (tA τ 62) c (nI R - nI 1) (-nI 1, 0)).1, (mvS v (tA τ 62) c (nI R - nI 1) (-nI 1, 0)).2, nI R - nI 1 + nI 2, τ1)) e1]
    rw [a2]
    rw [itr_inl (n := 4094) (a' := ((mv2 v (tA τ 62) c).1, (mv2 v (tA τ 62) c).2, nI R + nI 1 + nI 2, τ2)) (by unfold mv2; rw [hw]; exact e2)]
    exact itr_inr (n := 4093) e3
  rw [hl, Option.bind_some]
  unfold moveS
  have nn : TN τ τ2 := n1.trans n2
  by_cases h9 : (mv2 v (tA τ 62) c).1 = -nI 1
  · rw [if_pos h9, if_pos (show ((mv2 v (tA τ 62) c).1, τ2).1 = -1 from h9)]
    exact ⟨_, rfl, w2, nn.tx⟩
  · rw [if_neg h9, if_neg (show ¬ ((mv2 v (tA τ 62) c).1, τ2).1 = -1 from h9)]
    simp (discharger := omega) only [nl_0, nl_1, nl_2, nl_3, nl_4, nl_5, nl_6, nl_7, nl_8, nl_9, nl_10, nl_12, nl_15, nl_16, nl_20, nl_25, nl_26, nl_27, nl_28, nl_30, nl_31, nl_32, nl_40, nl_48, nl_60, nl_64, nl_80, nl_92, nl_99, nl_100, nl_117, nl_119, nl_160, nl_172, nl_179, nl_182, nl_183, nl_191, nl_248, nl_251, nl_255, nl_256, nl_300, nl_302, nl_303, nl_384, nl_640, nl_999, nl_1600, nl_1700, nl_3200, nl_6060, nl_65536, nl_999999, nI_add, pk_mul, xin_nI, nI_clamp, nI_leI, nI_ltI, nI_eq, reduceIte, Bool.true_eq_false, Bool.false_eq_true, b32_0, b32_1, xbd_some, Option.bind_some]
    refine ⟨_, rfl, ?_, nn.tx.sA rfl⟩
    rw [tA_upd, w2]
theorem mvS_row {w : Nat → Int32} {c : Nat} {x : Int32} {b : Int32 × Int64} (hw : vW v ≤ 8) (h : b.1 = -nI 1 ∨ ∃ r, r < vW v ∧ b.1 = nI r) : (mvS v w c x b).1 = -nI 1 ∨ ∃ r, r < vW v ∧ (mvS v w c x b).1 = nI r := by
  unfold mvS
  split
  · rename_i h9
    simp only [Bool.and_eq_true, decide_eq_true_eq] at h9
    obtain ⟨r, hr1, hr2⟩ := nI_of (x := x) (by rw [i32_lt]; have := h9.1.1.1; rw [i32_le] at this; exact Int.not_lt.mpr this)
    refine Or.inr ⟨r, ?_, hr2⟩
    have := h9.1.1.2
    rw [hr2, nI_ltI hr1 (by omega)] at this
    exact this
  · exact h
theorem moveS_WR {w : Nat → Int32} {c : Nat} (hb : VB v) (h : WR v w) : WR v (moveS v w c) := by
  intro c' hc'
  unfold moveS
  split
  · exact h c' hc'
  · rename_i h9
    by_cases e : c' = c
    · subst e
      rcases mvS_row (v := v) (w := w) (c := c') (x := w (2 + c') + nI 1) (b := mvS v w c' (w (2 + c') - nI 1) (-nI 1, 0)) hb.2.1 (mvS_row hb.2.1 (Or.inl rfl)) with q | ⟨r, hr, q⟩
      · exact absurd q h9
      · exact ⟨r, hr, by rw [pk_us]; exact q⟩
    · obtain ⟨r, hr, q⟩ := h c' hc'
      exact ⟨r, hr, by rw [pk_un (by omega)]; exact q⟩
theorem moveS_out {w : Nat → Int32} {c k : Nat} (h : k ≠ 2 + c) : moveS v w c k = w k := by
  unfold moveS
  split
  · rfl
  · exact pk_un h
end TM
