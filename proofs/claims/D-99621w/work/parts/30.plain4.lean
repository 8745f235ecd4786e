/-! PLAIN LAW: the twin's codes tell what they mean -/
set_option maxRecDepth 100000
def CodesAt (τ : TS) (wh : Nat) (cs : List Nat) : Prop := ∃ a, tA τ 55 (2 + wh) = nI a ∧ tA τ 56 (2 + wh) = nI (a + cs.length) ∧ a + cs.length ≤ 1600 ∧ ∀ i, i < cs.length → tA τ 57 (1600 + (a + i)) = nI (cs.getD i 0)
def okE (k : Nat) : Bool := decide (k < 14) || (decide (40 ≤ k) && decide (k < 48)) || (decide (1000 ≤ k) && decide (k < 11000))
def okB (k : Nat) : Bool := decide (k < 14) || (decide (40 ≤ k) && decide (k < 44)) || k == 48 || k == 49 || (decide (1000 ≤ k) && decide (k < 11000))
def SemV (ok : Nat → Bool) (cs : List Nat) (F : (Nat → Int64) → Int64) : Prop := (∀ k ∈ cs, ok k = true) ∧ ∀ env lk p, run env lk cs p = some (F env :: p)
theorem run_take {env : Nat → Int64} {lk : Nat → Int64 → Int64} {cs : List Nat} {q p : List Int64} {j : Nat} (h : run env lk cs [] = some q) (hj : j < cs.length) (hp : run env lk (cs.take j) [] = some p) : ∃ p', run1 env lk (cs.getD j 0) p = some p' ∧ run env lk (cs.take (j + 1)) [] = some p' := by
  have e1 : cs.take (j + 1) = cs.take j ++ [cs.getD j 0] := by
    rw [List.take_succ_eq_append_getElem hj]
    simp [List.getD_eq_getElem?_getD, hj]
  have e2 : run env lk (cs.take (j + 1)) [] = run1 env lk (cs.getD j 0) p := by
    rw [e1, run_append, hp]
    show (run1 env lk (cs.getD j 0) p).bind (run env lk []) = _
    cases run1 env lk (cs.getD j 0) p <;> rfl
  have e3 : run env lk cs [] = (run env lk (cs.take (j + 1)) []).bind (run env lk (cs.drop (j + 1))) := by
    rw [← run_append, List.take_append_drop]
  rw [h, e2] at e3
  cases h9 : run1 env lk (cs.getD j 0) p with
  | none => rw [h9] at e3; cases e3
  | some p' => exact ⟨p', rfl, by rw [e2, h9]⟩
theorem T_codesTell {τ : TS} {wh : Nat} {cs : List Nat} {env : Nat → Int64} {lk : Nat → Int64 → Int64} {q : Int64} {ok : Nat → Bool} (hw : wh < 2) (hC : CodesAt τ wh cs) (hok : ∀ k ∈ cs, ok k = true) (hok2 : ∀ k, ok k = true → k < 14 ∨ (40 ≤ k ∧ k < 60) ∨ (1000 ≤ k ∧ k < 11000))
    (hpart : ∀ τ', TQ (sI (sI τ 61 (nI wh)) 127 (nI 0)) τ' → ∀ k, 40 ≤ k → k < 60 → ok k = true → f_t_qPartOf (nI (k - 40)) (nI 0) τ' = some (env (k - 40), τ')) (hr : run env lk cs [] = some [q]) : OK (f_t_codesTell (nI wh) τ) (fun o => o.1 = q ∧ TN τ o.2) := by
  obtain ⟨a, h1, h2, h3, h4⟩ := hC
  unfold f_t_codesTell
  simp (discharger := omega) only [nl_0, nl_1, nl_2, nl_3, nl_4, nl_5, nl_6, nl_7, nl_8, nl_9, nl_10, nl_12, nl_15, nl_16, nl_20, nl_25, nl_26, nl_27, nl_28, nl_30, nl_31, nl_32, nl_40, nl_48, nl_60, nl_64, nl_80, nl_92, nl_99, nl_100, nl_117, nl_119, nl_160, nl_172, nl_179, nl_182, nl_183, nl_191, nl_248, nl_251, nl_255, nl_256, nl_300, nl_302, nl_303, nl_384, nl_640, nl_999, nl_1600, nl_1700, nl_3200, nl_6060, nl_65536, nl_999999, nI_add, pk_mul, xin_nI, nI_clamp, nI_leI, nI_ltI, nI_eq, reduceIte, Bool.true_eq_false, Bool.false_eq_true, b32_0, b32_1, xbd_some, Option.bind_some, tA_sI, h1]
  refine OK_bind (P := fun τ' => TQ (sI (sI τ 61 (nI wh)) 127 (nI 0)) τ' ∧ Pile τ' [q]) ?_ ?_
  · refine itr_for (fun j s => ∃ τ' p, s = (nI (a + j), τ') ∧ TQ (sI (sI τ 61 (nI wh)) 127 (nI 0)) τ' ∧ Pile τ' p ∧ run env lk (cs.take j) [] = some p ∧ p.length ≤ j) _ 0 cs.length ?_ ?_ (by omega) (by omega) ⟨_, [], rfl, TQ.refl _, Pile.nil (by rw [tI_sI]; simp), rfl, Nat.le_refl _⟩
    · rintro j s - hj ⟨τ', p, rfl, hT, hP, hp, hpl⟩
      obtain ⟨p', hp1, hp2⟩ := run_take hr hj hp
      have hlen := run1_len hp1
      have hk := hok (cs.getD j 0) (by rw [List.getD_eq_getElem?_getD]; simp [hj])
      have hk2 := hok2 _ hk
      generalize hkk : cs.getD j 0 = k at *
      have hc : tA τ' 57 (1600 + (a + j)) = nI k := by rw [hT.2.2.1, tA_sI, tA_sI, h4 j hj, hkk]
      have hend : tA τ' 56 (2 + wh) = nI (a + cs.length) := by rw [hT.2.2.1, tA_sI, tA_sI, h2]
      have hlt : ¬ a + cs.length ≤ a + j := by omega
      show OK (Bt_codesTell_19 (nI wh) (nI (a + j)) τ') _
      unfold Bt_codesTell_19 Jt_codesTell_136
      rw [nl_2, nI_add, xin_nI (by omega) (by omega), nI_clamp (by omega), hend, nl_1600, nI_add, xin_nI (n := 1600 + (a + j)) (by omega) (by omega), nI_clamp (n := 1600 + (a + j)) (by omega), hc]
      have hne : ¬ nI (a + cs.length) ≤ nI (a + j) := by rw [nI_leI (by omega) (by omega)]; exact hlt
      rw [if_pos rfl, if_neg hne, if_pos rfl]
      have fin : ∀ τ'', TQ τ' τ'' → Pile τ'' p' → OK (some (Sum.inl (nI (a + j) + 1, τ'')) : Option ((Int32 × TS) ⊕ TS)) (fun o => (∃ s', o = .inl s' ∧ ∃ τ' p, s' = (nI (a + (j + 1)), τ') ∧ TQ (sI (sI τ 61 (nI wh)) 127 (nI 0)) τ' ∧ Pile τ' p ∧ run env lk (cs.take (j + 1)) [] = some p ∧ p.length ≤ j + 1) ∨ ∃ r, o = .inr r ∧ TQ (sI (sI τ 61 (nI wh)) 127 (nI 0)) r ∧ Pile r [q]) := by
        intro τ'' hT2 hP2
        refine ⟨_, rfl, Or.inl ⟨_, rfl, τ'', p', ?_, hT.trans hT2, hP2, hp2, by omega⟩⟩
        rw [nl_1, nI_add]
        rfl
      unfold run1 at hp1
      by_cases k1 : 1000 ≤ k
      · rw [if_pos k1] at hp1
        cases hp1
        have g1 : ¬ nI k < 1000 := by rw [show (1000 : Int32) = nI 1000 from rfl, nI_ltI (by omega) (by omega)]; omega
        rw [if_neg g1, show nI k - 1000 = nI (k - 1000) from pk_sub k1]
        obtain ⟨τ'', e, hP2, hT2⟩ := T_qPuts (x := (nI (k - 1000)).toInt64) hP (by omega)
        rw [e]
        exact fin τ'' hT2 hP2
      · have g1 : nI k < 1000 := by rw [show (1000 : Int32) = nI 1000 from rfl, nI_ltI (by omega) (by omega)]; omega
        rw [if_neg k1] at hp1
        rw [if_pos g1]
        by_cases k3 : 40 ≤ k
        · have k2 : ¬ 60 ≤ k := by omega
          rw [if_neg k2, if_pos k3] at hp1
          cases hp1
          have g2 : ¬ nI k < 40 := by rw [nl_40, nI_ltI (by omega) (by omega)]; omega
          rw [if_neg g2, show nI k - 40 = nI (k - 40) from pk_sub k3, nl_0, hpart τ' hT k k3 (by omega) hk, xbd_some]
          obtain ⟨τ'', e, hP2, hT2⟩ := T_qPuts (x := env (k - 40)) hP (by omega)
          rw [e]
          exact fin τ'' hT2 hP2
        · have k2 : ¬ 60 ≤ k := by omega
          rw [if_neg k2, if_neg k3] at hp1
          have g2 : nI k < 40 := by rw [nl_40, nI_ltI (by omega) (by omega)]; omega
          rw [if_pos g2]
          by_cases k4 : k = 13
          · rw [if_pos k4] at hp1
            cases hp1
            rw [if_pos (show nI k = 13 by rw [k4]; rfl)]
            obtain ⟨τ'', e, hP2, hT2⟩ := T_qPuts (x := 1) hP (by omega)
            rw [e]
            exact fin τ'' hT2 hP2
          · rw [if_neg k4] at hp1
            rw [if_neg (show ¬ nI k = 13 by rw [show (13 : Int32) = nI 13 from rfl, nI_eq (by omega) (by omega)]; exact k4)]
            by_cases k5 : k = 12
            · rw [if_pos k5] at hp1
              rw [if_pos (show nI k = 12 by rw [k5]; rfl)]
              cases p with
              | nil => cases hp1
              | cons b p0 =>
                cases hp1
                have e127 : tI τ' 127 = nI (p0.length + 1) := hP.1
                simp only [List.length_cons] at hpl
                rw [e127, nl_1, show nI (p0.length + 1) - nI 1 = nI p0.length from pk_sub (by omega), xin_nI (by omega) (by omega), nI_clamp (by omega), if_pos rfl, if_pos rfl, hP.top]
                refine fin _ ((TQ.refl τ').sM) ⟨?_, fun i hi => ?_⟩
                · rw [tI_sM]; exact e127
                · rw [tM_sM]
                  simp only [List.length_cons] at hi ⊢
                  cases i with
                  | zero => simp
                  | succ i =>
                    have h1 : ¬ (p0.length + 1 - 1 - (i + 1) = p0.length) := by omega
                    simp only [h1, and_false, reduceIte]
                    have h2 := hP.2 (i + 1) (by simp only [List.length_cons]; omega)
                    simp only [List.length_cons] at h2
                    rw [h2]
                    simp
            · rw [if_neg k5] at hp1
              rw [if_neg (show ¬ nI k = 12 by rw [nl_12, nI_eq (by omega) (by omega)]; exact k5)]
              match p, hP, hpl, hp1 with
              | [], _, _, hp1 => cases hp1
              | [b], _, _, hp1 => cases hp1
              | b :: a0 :: p0, hP, hpl, hp1 =>
                cases hp1
                simp only [List.length_cons] at hpl
                obtain ⟨τ'', e, hP2, hT2⟩ := T_qJoins (op := k) hP (by omega) (by omega)
                rw [e]
                exact fin τ'' hT2 hP2
    · rintro s ⟨τ', p, rfl, hT, hP, hp, hpl⟩
      rw [List.take_length, hr] at hp
      cases hp
      have hend : tA τ' 56 (2 + wh) = nI (a + cs.length) := by rw [hT.2.2.1, tA_sI, tA_sI, h2]
      show OK (Bt_codesTell_19 (nI wh) (nI (a + cs.length)) τ') _
      unfold Bt_codesTell_19
      rw [nl_2, nI_add, xin_nI (by omega) (by omega), nI_clamp (by omega), hend, if_pos rfl, if_pos (by rw [nI_leI (by omega) (by omega)]; omega)]
      exact ⟨_, rfl, _, rfl, hT, hP⟩
  · rintro τ' ⟨hT, hP⟩
    refine ⟨_, rfl, hP.top, ?_⟩
    have h9 : TN τ (sI (sI τ 61 (nI wh)) 127 (nI 0)) := ((TN.refl τ).sI rfl).sI rfl
    exact h9.trans hT.tn
