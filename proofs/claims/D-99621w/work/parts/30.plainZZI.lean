/-! PLAIN LAW: the twin drops signs, ends a part -/
set_option maxRecDepth 100000
section ZZI
variable {τ τ' : TS} {n a o bs : Nat} {B : Nat → Nat} {W W0 cs : List Nat}
theorem T_push {x : Nat} (h : TQs τ n B a o bs W cs) (hx : x < 100) (hl : cs.length + (W.length + 1) ≤ 1680) : xin (tI τ 123) 1700 = true ∧ TQs (sI (sA τ 122 (tI τ 123).toNatClampNeg (nI x)) 123 ((tI (sA τ 122 (tI τ 123).toNatClampNeg (nI x)) 123) + 1)) n B a o bs (W ++ [x]) cs ∧ TY inQ aQ τ (sI (sA τ 122 (tI τ 123).toNatClampNeg (nI x)) 123 ((tI (sA τ 122 (tI τ 123).toNatClampNeg (nI x)) 123) + 1)) := by
  obtain ⟨h1, h2, h3, h4, h5, h6, h7⟩ := h
  have hl2 : (W ++ [x]).length = W.length + 1 := by simp
  rw [tI_sA, h4.1, nI_clamp (show W.length < 2 ^ 31 by omega), nl_1, nI_add]
  refine ⟨xin_nI (by omega) (by omega), ⟨h1.of (fun k hk => by rw [tI_sI, if_neg (by omega)]; rfl) (fun i => by rw [tA_sI, tA_sA, if_neg (by omega)]), ⟨by rw [tI_sI, if_neg (by omega)]; exact h2.1, h2.2⟩, ⟨by rw [tI_sI, if_neg (by omega)]; exact h3.1, by rw [hl2]; omega⟩, ⟨by rw [tI_sI, if_pos rfl, hl2], fun i hi => ?_⟩, ⟨by rw [tI_sI, if_neg (by omega)]; exact h5.1, fun i hi => by rw [tA_sI, tA_sA, if_neg (by omega)]; exact h5.2 i hi⟩, by rw [hl2]; omega, fun y hy => by
    simp only [List.mem_append, List.mem_singleton] at hy
    rcases hy with hy | hy
    · exact h7 y hy
    · omega⟩, ((TY.refl _ _ τ).sA rfl).sI (Or.inl rfl)⟩
  rw [hl2] at hi
  rw [tA_sI, tA_sA]
  by_cases ei : i = W.length
  · subst ei; rw [if_pos ⟨rfl, rfl⟩, getD_last]
  · rw [if_neg (fun z => ei z.2), getD_app (by omega)]; exact h4.2 i (by omega)
theorem TQs.qlen {Q : List Nat} (h : TQs τ n B a o bs (W0 ++ Q.reverse) cs) : Q.length ≤ 1680 := by
  have := h.2.2.2.2.2.1
  simp at this
  omega
/-- products and quotients are dropped -/
theorem T_drop34 {Q : List Nat} {x1 : Int32} (h : TQs τ n B a o bs (W0 ++ Q.reverse) cs) (hb : bs ≤ W0.length) (hQ : ∀ x ∈ Q, x = 3 ∨ x = 4) (h3 : topIs W0 3 = false) (h4 : topIs W0 4 = false) : OK (itr (fun s_ : TS => Bt_qGoesOn_162 x1 s_) 4096 τ) (fun q => TQs q n B a o bs W0 (cs ++ Q) ∧ TY inQ aQ τ q) := by
  obtain ⟨q, e, q1, q2⟩ := dropsQ (good := fun x => x = 3 ∨ x = 4) (D := fun s_ => Bt_qGoesOn_162 x1 s_) (fun τ' W x cs' h' hx => by
    obtain ⟨q, e, q1, q2⟩ := T_qDrops h' (by simp; omega)
    have jj : Jt_qGoesOn_178 x1 τ' = some (.inl q) := by unfold Jt_qGoesOn_178; rw [e, Option.bind_some]
    show OK (Bt_qGoesOn_162 x1 τ') _
    unfold Bt_qGoesOn_162
    rw [nl_3, T_qIsOn h' (by omega), xbd_some, topIs_app, nl_4, T_qIsOn h' (by omega), xbd_some, topIs_app, jj]
    rcases hx with rfl | rfl
    · rw [if_neg (show ¬ b32 (decide (3 = 3)) = 0 by decide)]
      exact OK_some ⟨q, rfl, q1, q2⟩
    · rw [if_pos (show b32 (decide (4 = 3)) = 0 by decide), if_neg (show ¬ b32 (decide (4 = 4)) = 0 by decide)]
      exact OK_some ⟨q, rfl, q1, q2⟩) Q τ cs hQ h
  have hlen := h.qlen
  refine ⟨q, ?_, q1, q2⟩
  rw [show 4096 = (4095 - Q.length) + 1 + Q.length by omega, e ((4095 - Q.length) + 1)]
  refine itr_inr ?_
  show Bt_qGoesOn_162 x1 q = _
  unfold Bt_qGoesOn_162
  rw [nl_3, T_qIsOn q1 (by omega), xbd_some, h3, if_pos (show b32 false = 0 by decide), nl_4, T_qIsOn q1 (by omega), xbd_some, h4, if_pos (show b32 false = 0 by decide)]
/-- all four signs are dropped -/
theorem T_drop14 {Q : List Nat} {x1 : Int32} (h : TQs τ n B a o bs (W0 ++ Q.reverse) cs) (hb : bs ≤ W0.length) (hQ : ∀ x ∈ Q, 1 ≤ x ∧ x ≤ 4) (h0 : ∀ x, 1 ≤ x → x ≤ 4 → topIs W0 x = false) : OK (itr (fun s_ : TS => Bt_qGoesOn_247 x1 s_) 4096 τ) (fun q => TQs q n B a o bs W0 (cs ++ Q) ∧ TY inQ aQ τ q) := by
  obtain ⟨q, e, q1, q2⟩ := dropsQ (good := fun x => 1 ≤ x ∧ x ≤ 4) (D := fun s_ => Bt_qGoesOn_247 x1 s_) (fun τ' W x cs' h' hx => by
    obtain ⟨q, e, q1, q2⟩ := T_qDrops h' (by simp; omega)
    have jj : Jt_qGoesOn_279 x1 τ' = some (.inl q) := by unfold Jt_qGoesOn_279; rw [e, Option.bind_some]
    show OK (Bt_qGoesOn_247 x1 τ') _
    unfold Bt_qGoesOn_247
    rw [nl_3, T_qIsOn h' (by omega), xbd_some, topIs_app, nl_4, T_qIsOn h' (by omega), xbd_some, topIs_app, nl_1, T_qIsOn h' (by omega), xbd_some, topIs_app, nl_2, T_qIsOn h' (by omega), xbd_some, topIs_app, jj]
    rcases (show x = 1 ∨ x = 2 ∨ x = 3 ∨ x = 4 by omega) with rfl | rfl | rfl | rfl
    · rw [if_pos (show b32 (decide (1 = 3)) = 0 by decide), if_pos (show b32 (decide (1 = 4)) = 0 by decide), if_neg (show ¬ b32 (decide (1 = 1)) = 0 by decide)]
      exact OK_some ⟨q, rfl, q1, q2⟩
    · rw [if_pos (show b32 (decide (2 = 3)) = 0 by decide), if_pos (show b32 (decide (2 = 4)) = 0 by decide), if_pos (show b32 (decide (2 = 1)) = 0 by decide), if_neg (show ¬ b32 (decide (2 = 2)) = 0 by decide)]
      exact OK_some ⟨q, rfl, q1, q2⟩
    · rw [if_neg (show ¬ b32 (decide (3 = 3)) = 0 by decide)]
      exact OK_some ⟨q, rfl, q1, q2⟩
    · rw [if_pos (show b32 (decide (4 = 3)) = 0 by decide), if_neg (show ¬ b32 (decide (4 = 4)) = 0 by decide)]
      exact OK_some ⟨q, rfl, q1, q2⟩) Q τ cs hQ h
  have hlen := h.qlen
  refine ⟨q, ?_, q1, q2⟩
  rw [show 4096 = (4095 - Q.length) + 1 + Q.length by omega, e ((4095 - Q.length) + 1)]
  refine itr_inr ?_
  show Bt_qGoesOn_247 x1 q = _
  unfold Bt_qGoesOn_247
  rw [nl_3, T_qIsOn q1 (by omega), xbd_some, h0 3 (by omega) (by omega), if_pos (show b32 false = 0 by decide), nl_4, T_qIsOn q1 (by omega), xbd_some, h0 4 (by omega) (by omega), if_pos (show b32 false = 0 by decide), nl_1, T_qIsOn q1 (by omega), xbd_some, h0 1 (by omega) (by omega), if_pos (show b32 false = 0 by decide), nl_2, T_qIsOn q1 (by omega), xbd_some, h0 2 (by omega) (by omega), if_pos (show b32 false = 0 by decide)]
/-- all is dropped down to the base -/
theorem T_dropAll {Q : List Nat} {x1 : Int32} (h : TQs τ n B a o bs (W0 ++ Q.reverse) cs) (hb : bs = W0.length) : OK (itr (fun s_ : TS => Bt_qSums_53 x1 s_) 4096 τ) (fun q => TQs q n B a o bs W0 (cs ++ Q) ∧ TY inQ aQ τ q) := by
  obtain ⟨q, e, q1, q2⟩ := dropsQ (good := fun x => True) (D := fun s_ => Bt_qSums_53 x1 s_) (fun τ' W x cs' h' hx => by
    obtain ⟨q, e, q1, q2⟩ := T_qDrops h' (by simp; omega)
    obtain ⟨t1, t2, t3, t4⟩ := h'.top
    have hl : (W0 ++ W).length = W0.length + W.length := by simp
    rw [hl] at t1 t4
    show OK (Bt_qSums_53 x1 τ') _
    unfold Bt_qSums_53
    rw [if_pos h'.1.2.1, t1, h'.2.2.1.1, if_neg (by rw [nI_leI (by omega) (by omega)]; omega), e, Option.bind_some]
    exact OK_some ⟨q, rfl, q1, q2⟩) Q τ cs (fun _ _ => trivial) h
  have hlen := h.qlen
  have hw := q1.2.2.2.2.2.1
  refine ⟨q, ?_, q1, q2⟩
  rw [show 4096 = (4095 - Q.length) + 1 + Q.length by omega, e ((4095 - Q.length) + 1)]
  refine itr_inr ?_
  show Bt_qSums_53 x1 q = _
  unfold Bt_qSums_53
  rw [if_pos q1.1.2.1, q1.2.2.2.1.1, q1.2.2.1.1, if_pos (by rw [nI_leI (by omega) (by omega)]; omega)]
/-- a part has ended: those with a part behind them are dropped -/
theorem T_endsL (hb : bs ≤ W0.length) : ∀ (Q : List Nat) (τ : TS) (cs : List Nat), (∀ x ∈ Q, 60 ≤ x) → TQs τ n B a (o + Q.length) bs (W0 ++ Q.reverse) cs → ∃ q, (∀ f, itr (fun s_ : TS => Bt_qEndsPart_0 s_) (f + Q.length) τ = itr (fun s_ : TS => Bt_qEndsPart_0 s_) f q) ∧ TQs q n B a o bs W0 (cs ++ Q) ∧ TY inQ aQ τ q
  | [], τ, cs, _, h => ⟨τ, fun _ => rfl, by simpa using h, TY.refl _ _ τ⟩
  | x :: Q, τ, cs, hg, h => by
    have h' : TQs τ n B a (o + Q.length + 1) bs (W0 ++ Q.reverse ++ [x]) cs := by rw [List.reverse_cons, ← List.append_assoc] at h; exact h
    obtain ⟨t1, t2, t3, t4⟩ := h'.top
    have hl : (W0 ++ Q.reverse).length = W0.length + Q.length := by simp
    rw [hl] at t1 t2 t4
    have hx := hg x (by simp)
    have ho := h'.2.1
    have h2 : TQs (sI τ 124 (nI (o + Q.length))) n B a (o + Q.length) bs (W0 ++ Q.reverse ++ [x]) cs := ⟨h'.1.of (fun k hk => by rw [tI_sI, if_neg (by omega)]) (fun _ => rfl), ⟨by rw [tI_sI, if_pos rfl], by omega⟩, ⟨by rw [tI_sI, if_neg (by omega)]; exact h'.2.2.1.1, h'.2.2.1.2⟩, ⟨by rw [tI_sI, if_neg (by omega)]; exact h'.2.2.2.1.1, h'.2.2.2.1.2⟩, ⟨by rw [tI_sI, if_neg (by omega)]; exact h'.2.2.2.2.1.1, h'.2.2.2.2.1.2⟩, h'.2.2.2.2.2⟩
    obtain ⟨q, e, q1, q2⟩ := T_qDrops h2 (by rw [hl]; omega)
    obtain ⟨q', e', r1, r2⟩ := T_endsL hb Q q (cs ++ [x]) (fun y hy => hg y (by simp [hy])) q1
    have body : Bt_qEndsPart_0 τ = some (.inl q) := by
      unfold Bt_qEndsPart_0
      rw [if_pos h'.1.2.1, t1, h'.2.2.1.1, if_neg (by rw [nI_leI (by omega) (by omega)]; omega), nl_1, nI_m1 (by omega), show W0.length + Q.length + 1 - 1 = W0.length + Q.length by omega, if_pos (xin_nI (show W0.length + Q.length < 1700 by omega) (by omega)), nI_clamp (show W0.length + Q.length < 2 ^ 31 by omega), t2, nl_60, if_neg (by rw [nI_ltI (by omega) (by omega)]; omega), ho.1, nI_m1 (by omega), show o + Q.length + 1 - 1 = o + Q.length by omega, e, Option.bind_some]
    refine ⟨q', fun f => ?_, by rw [List.append_assoc] at r1; exact r1, (((TY.refl inQ aQ τ).sI (Or.inl rfl)).trans q2).trans r2⟩
    rw [List.length_cons, ← Nat.add_assoc, itr_inl body]
    exact e' f
theorem T_endsPart {Q : List Nat} (h : TQs τ n B a (o + Q.length) bs (W0 ++ Q.reverse) cs) (hb : bs ≤ W0.length) (hQ : ∀ x ∈ Q, 60 ≤ x) (hs : W0.length = bs ∨ ∃ W b, W0 = W ++ [b] ∧ b < 60) : OK (f_t_qEndsPart τ) (fun q => TQs q n B a o bs W0 (cs ++ Q) ∧ TY inQ aQ τ q) := by
  obtain ⟨q, e, q1, q2⟩ := T_endsL hb Q τ cs hQ h
  have hlen := h.qlen
  have e1 : itr (fun s_ : TS => Bt_qEndsPart_0 s_) 4096 τ = some q := by
    rw [show 4096 = (4095 - Q.length) + 1 + Q.length by omega, e ((4095 - Q.length) + 1)]
    refine itr_inr ?_
    show Bt_qEndsPart_0 q = _
    unfold Bt_qEndsPart_0
    have hw := q1.2.2.2.2.2.1
    rcases hs with hs | ⟨W, b, rfl, hb2⟩
    · rw [if_pos q1.1.2.1, q1.2.2.2.1.1, q1.2.2.1.1, if_pos (by rw [nI_leI (by omega) (by omega)]; omega)]
    · obtain ⟨t1, t2, t3, t4⟩ := q1.top
      rw [if_pos q1.1.2.1, t1, q1.2.2.1.1]
      by_cases e9 : W.length + 1 ≤ bs
      · rw [if_pos (by rw [nI_leI (by omega) (by omega)]; omega)]
      · rw [if_neg (by rw [nI_leI (by omega) (by simp at hb; omega)]; omega), nl_1, nI_m1 (by omega), show W.length + 1 - 1 = W.length by omega, if_pos (xin_nI (show W.length < 1700 by omega) (by omega)), nI_clamp (show W.length < 2 ^ 31 by omega), t2, nl_60, if_pos (by rw [nI_ltI (by omega) (by omega)]; omega)]
  unfold f_t_qEndsPart
  rw [e1, Option.bind_some]
  exact OK_some ⟨q1, q2⟩
end ZZI
