/-! PLAIN LAW: behind a part, a sign: turns of the twin -/
set_option maxRecDepth 100000
section ZZR
variable {τ τ' q r : TS} {n a p o bs kx : Nat} {B : Nat → Nat} {W cs : List Nat} {L : List Nat} {x : Int32}
theorem T_B_skip (h : TQs τ n B a o bs W cs) (hc : cur B n (sk B n a) ≠ 41) {g f : Nat} (hg : 0 < g) : lpB x g f τ = (Jt_qGoesOn_122 (sI τ 2 (nI (sk B n a)))).bind fun rt => lpN x f (if rt.1 = 0 then 0 else 1) rt.2 := by
  obtain ⟨g', rfl⟩ : ∃ g', g = g' + 1 := ⟨g - 1, by omega⟩
  have h' := h.skip
  unfold lpB
  rw [itr_inr (b := sI τ 2 (nI (sk B n a))) (by
    show Bt_qGoesOn_0 τ = _
    unfold Bt_qGoesOn_0
    rw [if_pos h.1.2.1, h.1.look.1, xbd_some, if_neg (by show ¬ chI _ = nI 41; rw [ch_ne (h'.1.cur_le) (by omega)]; exact hc)]), Option.bind_some]
/-- times, by -/
theorem T_B_34 {Q : List Nat} (h : TQs τ n B a o bs (W ++ Q.reverse) cs) (hb : bs ≤ W.length) (hQ : ∀ x ∈ Q, x = 3 ∨ x = 4) (h3 : topIs W 3 = false) (h4 : topIs W 4 = false) (hc : cur B n (sk B n a) = 42 ∨ cur B n (sk B n a) = 47) (hl : (cs ++ Q).length + (W.length + 1) ≤ 1680) : ∃ τ1, TQs τ1 n B (sk B n a + 1) o bs (W ++ [if cur B n (sk B n a) = 42 then 3 else 4]) (cs ++ Q) ∧ TY inQ aQ τ τ1 ∧ ∀ r, LpA x n τ1 (sk B n a + 1) r → LpB x n τ a r := by
  have h' := h.skip
  have hn := h.1.1.2.1
  have hp : sk B n (sk B n a) = sk B n a := sk_i h.1.1.2.2.2.2
  have g1 := (sk_g (B := B) h.1.1.2.2.2.2).1
  have tx0 : TY inQ aQ τ (sI τ 2 (nI (sk B n a))) := (TY.refl inQ aQ τ).sI (Or.inl rfl)
  have c : sk B n a < n ∧ (B (sk B n a) = 42 ∨ B (sk B n a) = 47) ∧ cur B n (sk B n a) = B (sk B n a) := by
    rcases hc with e | e
    · have := cur_lt e (by omega); exact ⟨this.1, Or.inl this.2, by rw [e, this.2]⟩
    · have := cur_lt e (by omega); exact ⟨this.1, Or.inr this.2, by rw [e, this.2]⟩
  have hsg : TQs (sI (sI τ 2 (nI (sk B n a))) 2 (nI (sk B n a + 1))) n B (sk B n a + 1) o bs (W ++ Q.reverse) cs := h'.sign c.1 (by rcases c.2.1 with e | e <;> rw [e] <;> rfl) (by rcases c.2.1 with e | e <;> rw [e] <;> rfl)
  have tx1 : TY inQ aQ τ (sI (sI τ 2 (nI (sk B n a))) 2 (nI (sk B n a + 1))) := tx0.sI (Or.inl rfl)
  have hbB := (hsg.1.1.1 (sk B n a) (by omega))
  have key : ∀ s0, s0 < 100 → ∃ τ1, Jt_qGoesOn_161 (nI s0) (sI (sI τ 2 (nI (sk B n a))) 2 (nI (sk B n a + 1))) = some (1, τ1) ∧ TQs τ1 n B (sk B n a + 1) o bs (W ++ [s0]) (cs ++ Q) ∧ TY inQ aQ τ τ1 := by
    intro s0 hs0
    obtain ⟨q, e, q1, q2⟩ := T_drop34 (x1 := nI s0) hsg hb hQ h3 h4
    obtain ⟨p1, p2, p3⟩ := T_push (x := s0) q1 hs0 hl
    unfold Jt_qGoesOn_161
    rw [e, Option.bind_some, if_pos p1]
    exact ⟨_, rfl, p2, (tx1.trans q2).trans p3⟩
  have j140 : Jt_qGoesOn_140 (sI (sI τ 2 (nI (sk B n a))) 2 (nI (sk B n a + 1))) = Jt_qGoesOn_161 (nI (if cur B n (sk B n a) = 42 then 3 else 4)) (sI (sI τ 2 (nI (sk B n a))) 2 (nI (sk B n a + 1))) := by
    unfold Jt_qGoesOn_140
    rw [hsg.1.1.2.2.2.1, nl_1, nI_m1 (by omega), show sk B n a + 1 - 1 = sk B n a by omega, if_pos (xin_nI (show sk B n a < 1600 by omega) (by omega)), nI_clamp (show sk B n a < 2 ^ 31 by omega), hbB.1, c.2.2]
    by_cases e : B (sk B n a) = 42
    · rw [if_pos (by rw [e]; rfl), if_pos e]; rfl
    · rw [if_neg (by show ¬ _ = nI 42; rw [nI_eq (by omega) (by omega)]; exact e), if_neg e]; rfl
  have j122 : Jt_qGoesOn_122 (sI τ 2 (nI (sk B n a))) = Jt_qGoesOn_140 (sI (sI τ 2 (nI (sk B n a))) 2 (nI (sk B n a + 1))) := by
    unfold Jt_qGoesOn_122
    rw [show (42 : Int32) = nI 42 from rfl, T_takesSign h'.1 (by omega), hp, sI_same h'.1.1.2.2.2.1]
    by_cases e : cur B n (sk B n a) = 42
    · rw [if_pos e, xbd_some, if_neg (by decide)]
    · rw [if_neg e, xbd_some, if_pos rfl, show (47 : Int32) = nI 47 from rfl, T_takesSign h'.1 (by omega), hp, sI_same h'.1.1.2.2.2.1, if_pos (by omega), xbd_some, if_neg (by decide)]
  obtain ⟨τ1, e1, e2, e3⟩ := key (if cur B n (sk B n a) = 42 then 3 else 4) (by split <;> omega)
  refine ⟨τ1, e2, e3, fun r hr g f hg hf => ?_⟩
  obtain ⟨f', rfl⟩ : ∃ f', f = f' + 1 := ⟨f - 1, by omega⟩
  rw [T_B_skip h (by omega) (by omega), j122, j140, e1, Option.bind_some]
  dsimp only
  rw [if_neg (show ¬ (1 : Int32) = 0 by decide), lpN_more e2.1.2.1]
  exact hr 4096 f' (by omega) (by omega)
end ZZR
