/-! PLAIN LAW: the twin drops what waits -/
set_option maxRecDepth 100000
section ZZH
variable {τ τ' : TS} {n a o bs : Nat} {B : Nat → Nat} {W0 cs : List Nat}
/-- a loop that drops what is good -/
theorem dropsQ {good : Nat → Prop} {D : TS → Option (TS ⊕ TS)} (hD : ∀ τ' W x cs', TQs τ' n B a o bs (W0 ++ W ++ [x]) cs' → good x → OK (D τ') (fun r => ∃ q, r = .inl q ∧ TQs q n B a o bs (W0 ++ W) (cs' ++ [x]) ∧ TY inQ aQ τ' q)) : ∀ (Q : List Nat) (τ : TS) (cs : List Nat), (∀ x ∈ Q, good x) → TQs τ n B a o bs (W0 ++ Q.reverse) cs → ∃ q, (∀ f, itr D (f + Q.length) τ = itr D f q) ∧ TQs q n B a o bs W0 (cs ++ Q) ∧ TY inQ aQ τ q
  | [], τ, cs, _, h => ⟨τ, fun _ => rfl, by simpa using h, TY.refl _ _ τ⟩
  | x :: Q, τ, cs, hg, h => by
    have h' : TQs τ n B a o bs (W0 ++ Q.reverse ++ [x]) cs := by rw [List.reverse_cons, ← List.append_assoc] at h; exact h
    obtain ⟨r, e, q, rfl, q1, q2⟩ := hD τ Q.reverse x cs h' (hg x (by simp))
    obtain ⟨q', e', r1, r2⟩ := dropsQ hD Q q (cs ++ [x]) (fun y hy => hg y (by simp [hy])) q1
    refine ⟨q', fun f => ?_, by rw [List.append_assoc] at r1; exact r1, q2.trans r2⟩
    rw [List.length_cons, ← Nat.add_assoc, itr_inl e]
    exact e' f
theorem T_isBr {x : Nat} (hx : x < 100) : f_t_qIsBracket (nI x) τ = some (b32 (decide (20 ≤ x ∧ x ≤ 24)), τ) := by
  unfold f_t_qIsBracket Jt_qIsBracket_16
  rw [nl_20, show (24 : Int32) = nI 24 from rfl]
  by_cases e1 : x < 20
  · rw [if_pos (by rw [nI_ltI (by omega) (by omega)]; exact e1), decide_eq_false (by omega)]; rfl
  · rw [if_neg (by rw [nI_ltI (by omega) (by omega)]; exact e1)]
    by_cases e2 : 24 < x
    · rw [if_pos (by rw [nI_ltI (by omega) (by omega)]; exact e2), decide_eq_false (by omega)]; rfl
    · rw [if_neg (by rw [nI_ltI (by omega) (by omega)]; exact e2), decide_eq_true (by omega)]; rfl
theorem TQs.top {W : List Nat} {x : Nat} (h : TQs τ n B a o bs (W ++ [x]) cs) : tI τ 123 = nI (W.length + 1) ∧ tA τ 122 W.length = nI x ∧ x < 100 ∧ W.length + 1 ≤ 1680 := by
  have hl : (W ++ [x]).length = W.length + 1 := by simp
  have hx := h.2.2.2.1.2 W.length (by rw [hl]; omega)
  rw [getD_last] at hx
  have := h.2.2.2.2.2.1
  rw [hl] at this
  exact ⟨by rw [h.2.2.2.1.1, hl], hx, h.2.2.2.2.2.2 x (by simp), by omega⟩
/-- it stops at a bracket or at the base -/
def stopB (bs : Nat) (W0 : List Nat) : Prop := W0.length = bs ∨ ∃ W b, W0 = W ++ [b] ∧ bs ≤ W.length ∧ 20 ≤ b ∧ b ≤ 24
theorem T_toBracket {Q : List Nat} (h : TQs τ n B a o bs (W0 ++ Q.reverse) cs) (hb : bs ≤ W0.length) (hQ : ∀ x ∈ Q, x < 20) (hs : stopB bs W0) : OK (f_t_qDropsToBracket τ) (fun q => TQs q n B a o bs W0 (cs ++ Q) ∧ TY inQ aQ τ q) := by
  obtain ⟨q, e, q1, q2⟩ := dropsQ (good := fun x => x < 20) (D := fun s_ => Bt_qDropsToBracket_0 s_) (fun τ' W x cs' h' hx => by
    obtain ⟨t1, t2, t3, t4⟩ := h'.top
    have hl : (W0 ++ W).length = W0.length + W.length := by simp
    rw [hl] at t1 t2 t4
    obtain ⟨q, e, q1, q2⟩ := T_qDrops h' (by rw [hl]; omega)
    show OK (Bt_qDropsToBracket_0 τ') _
    unfold Bt_qDropsToBracket_0
    rw [t1, h'.2.2.1.1, if_neg (by rw [nI_leI (by omega) (by omega)]; omega), nl_1, nI_m1 (by omega), show W0.length + W.length + 1 - 1 = W0.length + W.length by omega, if_pos (xin_nI (show W0.length + W.length < 1700 by omega) (by omega)), nI_clamp (show W0.length + W.length < 2 ^ 31 by omega), t2, T_isBr t3, xbd_some, decide_eq_false (show ¬ (20 ≤ x ∧ x ≤ 24) by omega), if_pos (show b32 false = 0 by decide), e, Option.bind_some]
    exact OK_some ⟨q, rfl, q1, q2⟩) Q τ cs hQ h
  have hlen : Q.length ≤ 1680 := by
    have := h.2.2.2.2.2.1
    simp at this
    omega
  unfold f_t_qDropsToBracket
  have e1 : itr (fun s_ : TS => Bt_qDropsToBracket_0 s_) 4096 τ = some q := by
    rw [show 4096 = (4095 - Q.length) + 1 + Q.length by omega, e ((4095 - Q.length) + 1)]
    refine itr_inr ?_
    show Bt_qDropsToBracket_0 q = _
    unfold Bt_qDropsToBracket_0
    rcases hs with hs | ⟨W, b, rfl, hb1, hb2, hb3⟩
    · have hw := q1.2.2.2.2.2.1
      rw [q1.2.2.2.1.1, q1.2.2.1.1, if_pos (by rw [nI_leI (by omega) (by omega)]; omega)]
    · obtain ⟨t1, t2, t3, t4⟩ := q1.top
      rw [t1, q1.2.2.1.1, if_neg (by rw [nI_leI (by omega) (by omega)]; omega), nl_1, nI_m1 (by omega), show W.length + 1 - 1 = W.length by omega, if_pos (xin_nI (show W.length < 1700 by omega) (by omega)), nI_clamp (show W.length < 2 ^ 31 by omega), t2, T_isBr t3, xbd_some, decide_eq_true (show 20 ≤ b ∧ b ≤ 24 by omega), if_neg (show ¬ b32 true = 0 by decide)]
  rw [e1, Option.bind_some]
  exact OK_some ⟨q1, q2⟩
/-- the bracket that is open last -/
theorem T_qBracket {Q : List Nat} (h : TQs τ n B a o bs (W0 ++ Q.reverse) cs) (hb : bs ≤ W0.length) (hQ : ∀ x ∈ Q, x < 20) (hs : stopB bs W0) : ∃ y : Int32, f_t_qBracket τ = some (y, τ) ∧ ((W0.length = bs ∧ y = -1) ∨ ∃ W b, W0 = W ++ [b] ∧ bs ≤ W.length ∧ 20 ≤ b ∧ b ≤ 24 ∧ y = nI b) := by
  have hl : (W0 ++ Q.reverse).length = W0.length + Q.length := by simp
  have hlen := h.2.2.2.2.2.1
  rw [hl] at hlen
  have get : ∀ i, i < W0.length + Q.length → tA τ 122 i = nI ((W0 ++ Q.reverse).getD i 0) := fun i hi => h.2.2.2.1.2 i (by rw [hl]; exact hi)
  have low : ∀ i, W0.length ≤ i → i < W0.length + Q.length → (W0 ++ Q.reverse).getD i 0 < 20 := fun i h1 h2 => by
    have hm : (W0 ++ Q.reverse).getD i 0 ∈ Q := by
      rw [List.getD_eq_getElem?_getD, List.getElem?_append_right h1, List.getElem?_eq_getElem (by simp; omega)]
      exact List.mem_reverse.mp (List.getElem_mem _)
    exact hQ _ hm
  have h125 := h.2.2.1.1
  have step : ∀ i, W0.length ≤ i → i < W0.length + Q.length → Bt_qBracket_7 (nI i) τ = some (.inl (nI i + (-1), τ)) := fun i h1 h2 => by
    unfold Bt_qBracket_7
    have := low i h1 h2
    rw [h125, if_neg (by rw [nI_ltI (by omega) (by omega)]; omega), if_pos (xin_nI (show i < 1700 by omega) (by omega)), nI_clamp (show i < 2 ^ 31 by omega), get i h2, T_isBr (by omega), xbd_some, decide_eq_false (by omega), if_pos (show b32 false = 0 by decide)]
  have walk : ∀ k, k ≤ Q.length → ∀ f, itr (fun s_ : Int32 × TS => Bt_qBracket_7 s_.1 s_.2) (f + k) (nI (W0.length + k) - nI 1, τ) = itr (fun s_ : Int32 × TS => Bt_qBracket_7 s_.1 s_.2) f (nI W0.length - nI 1, τ) := by
    intro k
    induction k with
    | zero => intro _ f; rfl
    | succ k ih =>
      intro hk f
      rw [nI_m1 (by omega), show W0.length + (k + 1) - 1 = W0.length + k by omega, ← Nat.add_assoc, itr_inl (a' := (_, _)) (step (W0.length + k) (by omega) (by omega)), ← neg_1, ← Int32.sub_eq_add_neg]
      exact ih (by omega) f
  unfold f_t_qBracket
  rw [h.2.2.2.1.1, hl, nl_1, show (4096 : Nat) = (4095 - Q.length) + 1 + Q.length by omega, walk Q.length (Nat.le_refl _)]
  rcases hs with hs | ⟨W, b, rfl, hb1, hb2, hb3⟩
  · have hlt : nI W0.length - nI 1 < nI bs := by
      rw [hs, i32_lt, pk_sub_toInt (by omega) (by omega), nI_toInt (by omega)]; omega
    have e : itr (fun s_ : Int32 × TS => Bt_qBracket_7 s_.1 s_.2) ((4095 - Q.length) + 1) (nI W0.length - nI 1, τ) = some (nI W0.length - nI 1, τ) := by
      refine itr_inr ?_
      show Bt_qBracket_7 (nI W0.length - nI 1) τ = _
      unfold Bt_qBracket_7
      rw [h125, if_pos hlt]
    refine ⟨-1, ?_, Or.inl ⟨hs, rfl⟩⟩
    rw [e, Option.bind_some]
    show Jt_qBracket_33 (nI W0.length - nI 1) τ = _
    unfold Jt_qBracket_33
    rw [h125, if_pos hlt]
  · have hWl : (W ++ [b]).length = W.length + 1 := by simp
    rw [hWl] at hlen get
    have gb : tA τ 122 W.length = nI b := by
      rw [get W.length (by omega), List.getD_eq_getElem?_getD, List.append_assoc, List.getElem?_append_right (Nat.le_refl _), Nat.sub_self]
      rfl
    have hn : ¬ nI W.length < nI bs := by rw [nI_ltI (by omega) (by omega)]; omega
    have e : itr (fun s_ : Int32 × TS => Bt_qBracket_7 s_.1 s_.2) ((4095 - Q.length) + 1) (nI W.length, τ) = some (nI W.length, τ) := by
      refine itr_inr ?_
      show Bt_qBracket_7 (nI W.length) τ = _
      unfold Bt_qBracket_7
      rw [h125, if_neg hn, if_pos (xin_nI (show W.length < 1700 by omega) (by omega)), nI_clamp (show W.length < 2 ^ 31 by omega), gb, T_isBr (by omega), xbd_some, decide_eq_true (by omega), if_neg (show ¬ b32 true = 0 by decide)]
    refine ⟨nI b, ?_, Or.inr ⟨W, b, rfl, hb1, hb2, hb3, rfl⟩⟩
    rw [hWl, nI_m1 (by omega), show W.length + 1 - 1 = W.length by omega, e, Option.bind_some]
    show Jt_qBracket_33 (nI W.length) τ = _
    unfold Jt_qBracket_33
    rw [h125, if_neg hn, if_pos (xin_nI (show W.length < 1700 by omega) (by omega)), nI_clamp (show W.length < 2 ^ 31 by omega), gb]
end ZZH
