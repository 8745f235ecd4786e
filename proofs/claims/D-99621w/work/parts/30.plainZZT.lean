/-! PLAIN LAW: behind a part, brackets: turns of the twin -/
set_option maxRecDepth 100000
section ZZT
variable {τ τ' q r : TS} {n a p o bs kx : Nat} {B : Nat → Nat} {W W0 cs : List Nat} {L : List Nat} {x : Int32}
/-- the code that a bracket leaves -/
def brC (b : Nat) : List Nat := if b = 20 then [] else if b = 23 then [5] else [6]
theorem brS {b : Nat} (hb : bs ≤ W.length) (h1 : 20 ≤ b) (h2 : b ≤ 24) : stopB bs (W ++ [b]) := Or.inr ⟨W, b, rfl, hb, h1, h2⟩
theorem T_br {Q : List Nat} {b : Nat} (h : TQs τ n B a o bs (W ++ [b] ++ Q.reverse) cs) (hb : bs ≤ W.length) (hQ : ∀ x ∈ Q, x < 20) (h1 : 20 ≤ b) (h2 : b ≤ 24) : f_t_qBracket τ = some (nI b, τ) := by
  obtain ⟨y, e, hy⟩ := T_qBracket h (by simp; omega) hQ (brS hb h1 h2)
  rcases hy with ⟨hy, -⟩ | ⟨W', b', e1, -, -, -, e2⟩
  · simp at hy; omega
  · have := List.append_inj' e1 rfl
    have e3 : b = b' := by simpa using this.2
    rw [e, e2, e3]
theorem T_br0 {Q : List Nat} (h : TQs τ n B a o bs (W ++ Q.reverse) cs) (hb : W.length = bs) (hQ : ∀ x ∈ Q, x < 20) : f_t_qBracket τ = some (-1, τ) := by
  obtain ⟨y, e, hy⟩ := T_qBracket h (by omega) hQ (Or.inl hb)
  rcases hy with ⟨-, hy⟩ | ⟨W', b', e1, e4, -, -, e2⟩
  · rw [e, hy]
  · subst e1
    simp at hb; omega
/-- a bracket is closed -/
theorem T_B_close {Q : List Nat} {b : Nat} (h : TQs τ n B a (o + 1) bs (W ++ [b] ++ Q.reverse) cs) (hb : bs ≤ W.length) (hQ : ∀ x ∈ Q, x < 20) (hbb : b = 20 ∨ b = 23 ∨ b = 24) (hc : cur B n (sk B n a) = 41) : ∃ τ1, TQs τ1 n B (sk B n a + 1) o bs W (cs ++ Q ++ brC b) ∧ TY inQ aQ τ τ1 ∧ ∀ r, LpE x n τ1 (sk B n a + 1) W.length r → LpB x n τ a r := by
  have h' := h.skip
  have hn := h.1.1.2.1
  have g1 := (sk_g (B := B) h.1.1.2.2.2.2).1
  have c := cur_lt hc (by omega)
  have tx0 : TY inQ aQ τ (sI τ 2 (nI (sk B n a))) := (TY.refl inQ aQ τ).sI (Or.inl rfl)
  have hsg := h'.sign c.1 (by rw [c.2]; rfl) (by rw [c.2]; rfl)
  have tx1 : TY inQ aQ τ (sI (sI τ 2 (nI (sk B n a))) 2 (nI (sk B n a + 1))) := tx0.sI (Or.inl rfl)
  obtain ⟨q, e3, q1, q2⟩ := T_toBracket hsg (by simp; omega) hQ (brS hb (by omega) (by omega))
  obtain ⟨t1, t2, t3, t4⟩ := q1.top
  obtain ⟨h1, h2, h3, h4, h5, h6, h7⟩ := q1
  have hl : (W ++ [b]).length = W.length + 1 := by simp
  rw [hl] at h6
  have tq : TQs (sI (sI q 123 (nI W.length)) 124 (nI o)) n B (sk B n a + 1) o bs W (cs ++ Q) := ⟨h1.of (fun k hk => by rw [tI_sI, if_neg (by omega), tI_sI, if_neg (by omega)]) (fun i => rfl), ⟨by rw [tI_sI, if_pos rfl], by omega⟩, ⟨by rw [tI_sI, if_neg (by omega), tI_sI, if_neg (by omega)]; exact h3.1, hb⟩, ⟨by rw [tI_sI, if_neg (by omega), tI_sI, if_pos rfl], fun i hi => by rw [tA_sI, tA_sI, h4.2 i (by rw [hl]; omega), getD_app hi]⟩, ⟨by rw [tI_sI, if_neg (by omega), tI_sI, if_neg (by omega)]; exact h5.1, h5.2⟩, by omega, fun y hy => h7 y (by simp [hy])⟩
  have txq : TY inQ aQ τ (sI (sI q 123 (nI W.length)) 124 (nI o)) := ((tx1.trans q2).sI (Or.inl rfl)).sI (Or.inl rfl)
  -- the body of the turn
  have fin : ∃ τ1, Jt_qGoesOn_43 (sI τ 2 (nI (sk B n a))) = Jt_qGoesOn_115 τ1 ∧ TQs τ1 n B (sk B n a + 1) o bs W (cs ++ Q ++ brC b) ∧ TY inQ aQ τ τ1 := by
    have e124 : tI (sI q 123 (nI W.length)) 124 - 1 = nI o := by rw [tI_sI, if_neg (by omega), h2.1, nl_1, nI_m1 (by omega)]; rfl
    have e123 : tI q 123 - 1 = nI W.length := by rw [t1, nl_1, nI_m1 (by omega)]; rfl
    unfold Jt_qGoesOn_43
    rw [h'.1.1.2.2.2.1, show nI (sk B n a) + 1 = nI (sk B n a + 1) by rw [nl_1, nI_add], e3, Option.bind_some]
    simp only [e123, e124]
    have e9 : tI (sI (sI q 123 (nI W.length)) 124 (nI o)) 123 = nI W.length := by rw [tI_sI, if_neg (by omega), tI_sI, if_pos rfl]
    have e8 : tA (sI (sI q 123 (nI W.length)) 124 (nI o)) 122 W.length = nI b := t2
    rw [e9, if_pos (xin_nI (show W.length < 1700 by omega) (by omega)), nI_clamp (show W.length < 2 ^ 31 by omega), e8]
    rcases hbb with rfl | rfl | rfl
    · rw [if_pos (show nI 20 = 20 from rfl)]
      refine ⟨_, rfl, ?_, txq⟩
      have : cs ++ Q ++ brC 20 = cs ++ Q := List.append_nil _
      rw [this]; exact tq
    · rw [if_neg (show ¬ nI 23 = 20 by decide), if_pos (xin_nI (show W.length < 1700 by omega) (by omega)), if_pos (show nI 23 = 23 from rfl)]
      obtain ⟨q', e5, r1, r2⟩ := T_qCode (v := 5) tq (by omega)
      unfold Jt_qGoesOn_112
      rw [show (5 : Int32) = nI 5 from rfl, e5, Option.bind_some]
      exact ⟨q', rfl, r1, txq.trans r2⟩
    · rw [if_neg (show ¬ nI 24 = 20 by decide), if_pos (xin_nI (show W.length < 1700 by omega) (by omega)), if_neg (show ¬ nI 24 = 23 by decide)]
      obtain ⟨q', e5, r1, r2⟩ := T_qCode (v := 6) tq (by omega)
      unfold Jt_qGoesOn_112
      rw [show (6 : Int32) = nI 6 from rfl, e5, Option.bind_some]
      exact ⟨q', rfl, r1, txq.trans r2⟩
  obtain ⟨τ1, e1, f1, f2⟩ := fin
  have hbr : f_t_qBracket (sI τ 2 (nI (sk B n a))) = some (nI b, sI τ 2 (nI (sk B n a))) := T_br h' hb hQ (by omega) (by omega)
  have body : Bt_qGoesOn_0 τ = Jt_qGoesOn_115 τ1 := by
    unfold Bt_qGoesOn_0
    rw [if_pos h.1.2.1, h.1.look.1, xbd_some, hc, if_pos (by decide), hbr, xbd_some, hbr, xbd_some, hbr, xbd_some, e1]
    rcases hbb with rfl | rfl | rfl
    · rw [if_pos (show nI 20 = 20 from rfl)]
    · rw [if_neg (show ¬ nI 23 = 20 by decide), if_pos (show nI 23 = 23 from rfl)]
    · rw [if_neg (show ¬ nI 24 = 20 by decide), if_neg (show ¬ nI 24 = 23 by decide), if_pos (show nI 24 = 24 from rfl)]
  refine ⟨τ1, f1, f2, fun r hr g f hg hf => ?_⟩
  obtain ⟨g', rfl⟩ : ∃ g', g = g' + 1 := ⟨g - 1, by omega⟩
  have z := hr 4096 g' f (by omega) (by omega) (by omega)
  unfold lpE at z
  unfold lpB
  rw [itr_s]
  show (((Bt_qGoesOn_0 τ).bind _).bind _).bind _ = _
  rw [body]
  unfold Jt_qGoesOn_115 f_t_qEndsPart
  cases ei : itr (fun s_ : TS => Bt_qEndsPart_0 s_) 4096 τ1 with
  | none => rw [ei] at z; cases z
  | some t =>
    rw [ei, Option.bind_some] at z
    by_cases e5 : tI t 5 = 0
    · rw [if_pos e5] at z
      exact z
    · rw [if_neg e5] at z; cases z
/-- neither a bracket that closes here -/
theorem T_B_stop {Q : List Nat} (h : TQs τ n B a o bs (W ++ Q.reverse) cs) (hQ : ∀ x ∈ Q, x < 20) (hs : cur B n (sk B n a) ≠ 41 ∨ W.length = bs ∨ ∃ W' t, W = W' ++ [21 + t] ∧ t < 2 ∧ bs ≤ W'.length) {g f : Nat} (hg : 0 < g) : lpB x g f τ = (Jt_qGoesOn_122 (sI τ 2 (nI (sk B n a)))).bind fun rt => lpN x f (if rt.1 = 0 then 0 else 1) rt.2 := by
  by_cases hc : cur B n (sk B n a) = 41
  · have h' := h.skip
    have hbr : ∃ y : Int32, y ≠ 20 ∧ y ≠ 23 ∧ y ≠ 24 ∧ f_t_qBracket (sI τ 2 (nI (sk B n a))) = some (y, sI τ 2 (nI (sk B n a))) := by
      rcases hs with hs | hs | ⟨W', t, rfl, ht, hb⟩
      · exact absurd hc hs
      · exact ⟨-1, by decide, by decide, by decide, T_br0 h' hs hQ⟩
      · have e := T_br h' hb hQ (by omega) (by omega)
        rcases (show t = 0 ∨ t = 1 by omega) with rfl | rfl
        · exact ⟨_, by decide, by decide, by decide, e⟩
        · exact ⟨_, by decide, by decide, by decide, e⟩
    obtain ⟨y, y1, y2, y3, ey⟩ := hbr
    obtain ⟨g', rfl⟩ : ∃ g', g = g' + 1 := ⟨g - 1, by omega⟩
    unfold lpB
    rw [itr_inr (b := sI τ 2 (nI (sk B n a))) (by
      show Bt_qGoesOn_0 τ = _
      unfold Bt_qGoesOn_0
      rw [if_pos h.1.2.1, h.1.look.1, xbd_some, hc, if_pos (by decide), ey, xbd_some, if_neg y1, ey, xbd_some, if_neg y2, ey, xbd_some, if_neg y3]), Option.bind_some]
  · exact T_B_skip h hc hg
/-- no sign stands here -/
def noSg (B : Nat → Nat) (n p : Nat) : Prop := cur B n p ≠ 42 ∧ cur B n p ≠ 47 ∧ cur B n p ≠ 43 ∧ cur B n p ≠ 45
theorem T_122 (h : TQs τ n B a o bs W cs) (hp : sk B n a = a) (hs : noSg B n a) {y : Int32} (hy : f_t_qBracket τ = some (y, τ)) : Jt_qGoesOn_122 τ = if y = 21 then Jt_qGoesOn_326 τ else if y = 22 then Jt_qGoesOn_326 τ else if y = -1 then some (0, τ) else some (0, sI (sI τ 5 1) 6 (nI a)) := by
  have no : ∀ y : Nat, y = 42 ∨ y = 47 ∨ y = 43 ∨ y = 45 → f_t_takesSign (nI y) τ = some (0, τ) := fun y hy => by
    obtain ⟨s1, s2, s3, s4⟩ := hs
    rw [T_takesSign h.1 (by omega), hp, sI_same h.1.1.2.2.2.1, if_neg (by omega)]
  unfold Jt_qGoesOn_122
  rw [show (42 : Int32) = nI 42 from rfl, no 42 (by omega), xbd_some, if_pos rfl, show (47 : Int32) = nI 47 from rfl, no 47 (by omega), xbd_some, if_pos rfl, show (43 : Int32) = nI 43 from rfl, no 43 (by omega), xbd_some, if_pos rfl, show (45 : Int32) = nI 45 from rfl, no 45 (by omega), xbd_some, if_pos rfl, hy, xbd_some, hy, xbd_some, hy, xbd_some, if_pos h.1.2.1, T_fail h.1.2.1, Option.bind_some, h.1.1.2.2.2.1]
/-- the sum ends here -/
theorem T_B_end {Q : List Nat} (h : TQs τ n B a o bs (W ++ Q.reverse) cs) (hQ : ∀ x ∈ Q, x < 20) (hs : noSg B n (sk B n a)) (hb : W.length = bs) : LpB x n τ a (sI τ 2 (nI (sk B n a))) := by
  intro g f hg hf
  have h' := h.skip
  obtain ⟨f', rfl⟩ : ∃ f', f = f' + 1 := ⟨f - 1, by omega⟩
  rw [T_B_stop h hQ (Or.inr (Or.inl hb)) (by omega), T_122 h' (sk_i h.1.1.2.2.2.2) hs (T_br0 h' hb hQ), if_neg (by decide), if_neg (by decide), if_pos rfl, Option.bind_some]
  dsimp only
  rw [if_pos rfl, lpN_end]
/-- a bracket isn't closed -/
theorem T_B_bad {Q : List Nat} {b : Nat} (h : TQs τ n B a o bs (W ++ [b] ++ Q.reverse) cs) (hQ : ∀ x ∈ Q, x < 20) (hs : noSg B n (sk B n a)) (hb : bs ≤ W.length) (hbb : b = 20 ∨ b = 23 ∨ b = 24) (hc : cur B n (sk B n a) ≠ 41) : ∃ r, TF r 1 (sk B n a) ∧ TY inQ aQ τ r ∧ LpB x n τ a r := by
  have h' := h.skip
  refine ⟨sI (sI (sI τ 2 (nI (sk B n a))) 5 1) 6 (nI (sk B n a)), TF.mk (k := 1) (c := cs.length) (by rw [tI_sI, if_neg (by omega)]; exact h.2.2.2.2.1.1) (by have := h.2.2.2.2.2.1; omega), (((TY.refl inQ aQ τ).sI (Or.inl rfl)).sI (Or.inl rfl)).sI (Or.inl rfl), fun g f hg hf => ?_⟩
  obtain ⟨f', rfl⟩ : ∃ f', f = f' + 1 := ⟨f - 1, by omega⟩
  rw [T_B_stop h hQ (Or.inl hc) (by omega), T_122 h' (sk_i h.1.1.2.2.2.2) hs (T_br h' hb hQ (by omega) (by omega))]
  have e : ∀ b, b = 20 ∨ b = 23 ∨ b = 24 → ¬ nI b = 21 ∧ ¬ nI b = 22 ∧ ¬ nI b = -1 := by
    intro b hb
    rcases hb with rfl | rfl | rfl <;> decide
  obtain ⟨e1, e2, e3⟩ := e b hbb
  rw [if_neg e1, if_neg e2, if_neg e3, Option.bind_some]
  dsimp only
  rw [if_pos rfl, lpN_end]
/-- the second part of min or max -/
theorem T_B_next {Q : List Nat} {t : Nat} (h : TQs τ n B a o bs (W ++ [21 + t] ++ Q.reverse) cs) (ht : t < 2) (hQ : ∀ x ∈ Q, x < 20) (hs : noSg B n (sk B n a)) (hb : bs ≤ W.length) : (cur B n (sk B n a) ≠ 44 → ∃ r, TF r 1 (sk B n a) ∧ TY inQ aQ τ r ∧ LpB x n τ a r) ∧ (cur B n (sk B n a) = 44 → ∃ τ1, TQs τ1 n B (sk B n a + 1) o bs (W ++ [23 + t]) (cs ++ Q) ∧ TY inQ aQ τ τ1 ∧ ∀ r, LpA x n τ1 (sk B n a + 1) r → LpB x n τ a r) := by
  have h' := h.skip
  have hn := h.1.1.2.1
  have g1 := (sk_g (B := B) h.1.1.2.2.2.2).1
  have hp : sk B n (sk B n a) = sk B n a := sk_i h.1.1.2.2.2.2
  have tx0 : TY inQ aQ τ (sI τ 2 (nI (sk B n a))) := (TY.refl inQ aQ τ).sI (Or.inl rfl)
  have j : ∀ g f, 0 < g → lpB x g f τ = (Jt_qGoesOn_326 (sI τ 2 (nI (sk B n a)))).bind fun rt => lpN x f (if rt.1 = 0 then 0 else 1) rt.2 := fun g f hg => by
    rw [T_B_stop h hQ (Or.inr (Or.inr ⟨W, t, rfl, ht, hb⟩)) hg, T_122 h' hp hs (T_br h' hb hQ (by omega) (by omega))]
    rcases (show t = 0 ∨ t = 1 by omega) with rfl | rfl
    · rw [if_pos (by decide)]
    · rw [if_neg (by decide), if_pos (by decide)]
  obtain ⟨q, e1, q1, q2, q3⟩ := h'.asksSign (x := 44) (by omega) rfl rfl
  rw [hp] at q2 q3
  constructor
  · intro hc
    have hf := q3 hc
    refine ⟨q, hf, tx0.trans q1, fun g f hg hf' => ?_⟩
    obtain ⟨f', rfl⟩ : ∃ f', f = f' + 1 := ⟨f - 1, by omega⟩
    rw [j g _ (by omega)]
    unfold Jt_qGoesOn_326
    rw [show (44 : Int32) = nI 44 from rfl, e1, Option.bind_some, if_neg (hf.bad (by omega) (by omega)), Option.bind_some]
    dsimp only
    rw [if_pos rfl, lpN_end]
  · intro hc
    have hq := q2 hc
    have c := cur_lt hc (by omega)
    obtain ⟨q', e2, r1, r2⟩ := T_toBracket hq (by simp; omega) hQ (brS hb (by omega) (by omega))
    obtain ⟨t1, t2, t3, t4⟩ := r1.top
    have hl : ∀ y : Nat, (W ++ [y]).length = W.length + 1 := fun y => by simp
    have e3 : Jt_qGoesOn_326 (sI τ 2 (nI (sk B n a))) = some (1, sA q' 122 W.length (nI (23 + t))) := by
      unfold Jt_qGoesOn_326
      rw [show (44 : Int32) = nI 44 from rfl, e1, Option.bind_some, if_pos hq.1.2.1, e2, Option.bind_some, t1, nl_1, nI_m1 (by omega), show W.length + 1 - 1 = W.length by omega, if_pos (xin_nI (show W.length < 1700 by omega) (by omega)), if_pos (xin_nI (show W.length < 1700 by omega) (by omega)), nI_clamp (show W.length < 2 ^ 31 by omega), t2, nl_2, nI_add, show 21 + t + 2 = 23 + t by omega]
    obtain ⟨h1, h2, h3, h4, h5, h6, h7⟩ := r1
    rw [hl] at h6
    refine ⟨sA q' 122 W.length (nI (23 + t)), ⟨h1.of (fun k hk => rfl) (fun i => by rw [tA_sA, if_neg (by omega)]), h2, ⟨h3.1, by rw [hl]; omega⟩, ⟨by rw [tI_sA, h4.1, hl, hl], fun i hi => ?_⟩, ⟨h5.1, fun i hi => by rw [tA_sA, if_neg (by omega)]; exact h5.2 i hi⟩, by rw [hl]; omega, fun y hy => by
      simp only [List.mem_append, List.mem_singleton] at hy
      rcases hy with hy | hy
      · exact h7 y (by simp [hy])
      · omega⟩, ((tx0.trans q1).trans r2).sA rfl, fun r hr g f hg hf => ?_⟩
    · rw [hl] at hi
      rw [tA_sA]
      by_cases ei : i = W.length
      · subst ei; rw [if_pos ⟨rfl, rfl⟩, getD_last]
      · rw [if_neg (fun z => ei z.2), h4.2 i (by rw [hl]; omega), getD_app (by omega), getD_app (by omega)]
    · obtain ⟨f', rfl⟩ : ∃ f', f = f' + 1 := ⟨f - 1, by omega⟩
      rw [j g _ (by omega), e3, Option.bind_some]
      dsimp only
      rw [if_neg (show ¬ (1 : Int32) = 0 by decide), lpN_more (by rw [tI_sA]; exact h1.2.1)]
      exact hr 4096 f' (by omega) (by omega)
end ZZT
