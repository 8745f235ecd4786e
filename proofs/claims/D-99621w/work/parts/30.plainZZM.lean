/-! PLAIN LAW: turns of the twin's inner loop -/
set_option maxRecDepth 100000
section ZZM
variable {τ τ' q r : TS} {n a p o bs kx : Nat} {B : Nat → Nat} {W cs : List Nat} {L : List Nat} {x : Int32}
theorem TF.bad {k : Nat} (h : TF τ k p) (hk : 0 < k) (hk2 : k < 100) : tI τ 5 ≠ 0 := by
  rw [h.1]
  show ¬ nI k = nI 0
  rw [nI_eq (by omega) (by omega)]; omega
theorem okW_40 (h : okW B n p = true) : cur B n p ≠ 40 ∧ cur B n p ≤ 256 := by
  unfold okW at h
  simp only [Bool.and_eq_true] at h
  have h := h.1
  constructor
  · intro e
    rw [e] at h
    exact absurd h (by decide)
  · unfold ltB at h
    simp only [Bool.and_eq_true, Bool.or_eq_true, decide_eq_true_eq] at h
    omega
theorem hW_t (h : okW B n p = true) : hW B n p L = decide (wd B n p = L) := by unfold hW; rw [h, Bool.true_and]
theorem look_mm : ∀ j, j < 2 → ∀ t, t < 2 → (lookL.getD j [] == txtL.getD (15 + t) []) = false := by decide
/-- a word that looks up -/
theorem T_A_of {j : Nat} (h : TQs τ n B a o bs W cs) (hw : TW τ) (hk : tI τ 61 = nI 2) (ho : okW B n (sk B n a) = true) (hj : j < 2) (hj2 : lookL.getD j [] = wd B n (sk B n a)) (hl : cs.length + (W.length + 1) ≤ 1680) : ∃ τ1, Bt_qPartTold_2 1 τ = some (.inl (1, τ1)) ∧ TY inQ aQ τ τ1 ∧ (o = 6 → TF τ1 4 (sk B n a)) ∧ (o ≠ 6 → TQs τ1 n B (we B n (sk B n a)) (o + 1) bs (W ++ [60 + j]) cs) := by
  have h' := h.skip
  have hw' : TW (sI τ 2 (nI (sk B n a))) := hw.of (fun x _ i => rfl)
  have hk' : tI (sI τ 2 (nI (sk B n a))) 61 = nI 2 := by rw [tI_sI, if_neg (by omega)]; exact hk
  have hp : sk B n (sk B n a) = sk B n a := sk_i h.1.1.2.2.2.2
  obtain ⟨r, e2, hr⟩ := T_qOf h'.1 hw' hk' (by omega)
  rw [hp, sI_same h'.1.1.2.2.2.1] at e2
  rw [hp] at hr
  have er : r = nI (18 + j) := by
    rcases hr with ⟨j', a1, a2, a3, a4, a5⟩ | ⟨-, hr⟩
    · have : j' = j := by
        rw [← hj2, ← allW_look j' a1, ← allW_look j hj] at a5
        have := allW_inj _ (by omega) _ (by omega) a5
        omega
      rw [a2, this]
    · exact absurd hj2 (hr rfl ho j hj)
  have m0 : hW B n (sk B n a) (txtL.getD 15 []) = false := by
    rw [hW_t ho, ← hj2]
    have := look_mm j hj 0 (by omega)
    simpa using this
  have m1 : hW B n (sk B n a) (txtL.getD 16 []) = false := by
    rw [hW_t ho, ← hj2]
    have := look_mm j hj 1 (by omega)
    simpa using this
  obtain ⟨c1, c2⟩ := okW_40 ho
  have en : (60 + nI (18 + j)) - 18 = nI (60 + j) := by
    show nI 60 + nI (18 + j) - nI 18 = _
    rw [nI_add, pk_sub (by omega)]; congr 1; omega
  unfold Bt_qPartTold_2
  rw [if_neg (by decide), if_pos h.1.2.1, h.1.look.1, xbd_some, e2, xbd_some, if_neg (by show ¬ chI _ = nI 40; rw [ch_ne c2 (by omega)]; exact c1), T_isHere' h'.1 hp hw'.2.2.2.2.2.2.2.1, xbd_some, m0, if_pos (show b32 false = 0 by decide), T_isHere' h'.1 hp hw'.2.2.2.2.2.2.2.2, xbd_some, m1, if_pos (show b32 false = 0 by decide), er, if_neg (by
    have : ∀ j, j < 2 → ¬ nI (18 + j) = -1 := by decide
    exact this j hj), en, h'.1.1.2.2.2.1]
  obtain ⟨q, e3, q1, q2, q3⟩ := T_qOpens (x := 60 + j) (p := sk B n a) h' (by omega) hl
  rw [e3, Option.bind_some, asksW _ _ (by omega)]
  have tx : TY inQ aQ τ q := ((TY.refl inQ aQ τ).sI (Or.inl rfl)).trans q1
  by_cases e : o = 6
  · have hf := (q2 e).1
    rw [T_asksBad (hf.bad (by omega) (by omega)), Option.bind_some]
    exact ⟨_, rfl, tx, fun _ => hf, fun z => absurd e z⟩
  · have hq := q3 e
    obtain ⟨q', e4, r1, r2, -⟩ := hq.asks ((hw.tx tx).2.1 (18 + j) (by omega))
    rw [show 100 + (18 + j) = 100 + (18 + j) from rfl, e4, Option.bind_some]
    refine ⟨_, rfl, tx.trans r1, fun z => absurd z e, fun _ => ?_⟩
    rw [hp] at r2
    exact r2 (by rw [hW_t ho, allW_look j hj, hj2]; simp)
end ZZM
