/-! PLAIN LAW: a part has ended: turns of the twin -/
set_option maxRecDepth 100000
section ZZQ
variable {τ τ' q r : TS} {n a p o bs kx : Nat} {B : Nat → Nat} {W cs : List Nat} {L : List Nat} {x : Int32}
/-- what has a part behind it is told -/
theorem T_E_of {y : Nat} (h : TQs τ n B a (o + 1) bs (W ++ [y]) cs) (hb : bs ≤ W.length) (hy : 60 ≤ y) : ∃ τ1, TQs τ1 n B a o bs W (cs ++ [y]) ∧ TY inQ aQ τ τ1 ∧ ∀ r, LpE x n τ1 a W.length r → LpE x n τ a (W ++ [y]).length r := by
  obtain ⟨q, e, q1, q2⟩ := T_endsL (o := o) hb [y] τ cs (fun z hz => by simp at hz; omega) h
  refine ⟨q, q1, q2, fun r hr e' g f he hg hf => ?_⟩
  have hl : (W ++ [y]).length = W.length + 1 := by simp
  rw [hl] at he
  obtain ⟨e0, rfl⟩ : ∃ e0, e' = e0 + 1 := ⟨e' - 1, by omega⟩
  unfold lpE
  have e1 := e e0
  rw [show [y].length = 1 from rfl] at e1
  rw [e1]
  exact hr e0 g f (by omega) hg hf
/-- nothing more waits for it -/
theorem T_E_end (h : TQs τ n B a o bs W cs) (hb : bs ≤ W.length) (hs : W.length = bs ∨ ∃ W' b, W = W' ++ [b] ∧ b < 60) (hr : LpB x n τ a r) : LpE x n τ a W.length r := by
  intro e g f he hg hf
  obtain ⟨e0, rfl⟩ : ∃ e0, e = e0 + 1 := ⟨e - 1, by omega⟩
  have hw := h.2.2.2.2.2.1
  have body : Bt_qEndsPart_0 τ = some (.inr τ) := by
    unfold Bt_qEndsPart_0
    rcases hs with hs | ⟨W', b, rfl, hb2⟩
    · rw [if_pos h.1.2.1, h.2.2.2.1.1, h.2.2.1.1, if_pos (by rw [nI_leI (by omega) (by omega)]; omega)]
    · obtain ⟨t1, t2, t3, t4⟩ := h.top
      rw [if_pos h.1.2.1, t1, h.2.2.1.1]
      by_cases e9 : W'.length + 1 ≤ bs
      · rw [if_pos (by rw [nI_leI (by omega) (by simp at hb; omega)]; omega)]
      · rw [if_neg (by rw [nI_leI (by omega) (by simp at hb; omega)]; omega), nl_1, nI_m1 (by omega), show W'.length + 1 - 1 = W'.length by omega, if_pos (xin_nI (show W'.length < 1700 by omega) (by omega)), nI_clamp (show W'.length < 2 ^ 31 by omega), t2, nl_60, if_pos (by rw [nI_ltI (by omega) (by omega)]; omega)]
  unfold lpE
  rw [itr_inr (b := τ) body, Option.bind_some, if_pos h.1.2.1]
  exact hr g f hg hf
end ZZQ
