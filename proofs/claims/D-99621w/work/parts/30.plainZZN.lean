/-! PLAIN LAW: min and max opened: the twin's -/
set_option maxRecDepth 100000
section ZZN
variable {τ τ' q r : TS} {n a p o bs kx : Nat} {B : Nat → Nat} {W cs : List Nat} {L : List Nat} {x : Int32}
/-- what comes of a place behind min or max -/
def mmR (τ1 : TS) (n : Nat) (B : Nat → Nat) (p o bs : Nat) (W cs : List Nat) (t : Nat) : Prop := (cur B n (sk B n p) ≠ 40 → TF τ1 1 (sk B n p)) ∧ (cur B n (sk B n p) = 40 → o = 6 → TF τ1 4 (sk B n p)) ∧ (cur B n (sk B n p) = 40 → o ≠ 6 → TQs τ1 n B (sk B n p + 1) (o + 1) bs (W ++ [21 + t]) cs)
theorem T_mm101 {x1 x4 : Int32} {t : Nat} (h : TQs τ n B p o bs W cs) (ht : t < 2) (hx : x4 = 0 ↔ t = 1) (hl : cs.length + (W.length + 1) ≤ 1680) : ∃ τ1, Jt_qPartTold_101 x1 x4 τ = some (.inl (x1, τ1)) ∧ TY inQ aQ τ τ1 ∧ mmR τ1 n B p o bs W cs t := by
  have h' := h.skip
  have hn := h.1.1.2.1
  have hq := h'.1.1.2.2.2.2
  have hp : sk B n (sk B n p) = sk B n p := sk_i h.1.1.2.2.2.2
  have tx0 : TY inQ aQ τ (sI τ 2 (nI (sk B n p))) := (TY.refl inQ aQ τ).sI (Or.inl rfl)
  unfold Jt_qPartTold_101 Jt_qPartTold_118 Jt_qPartTold_139 Jt_qPartTold_144
  rw [h.1.look.1, xbd_some]
  by_cases hc : cur B n (sk B n p) = 40
  · rw [if_pos (by rw [hc]; decide), h'.1.1.2.2.2.1, if_neg (by
      intro z
      have z := congrArg Int32.toInt z
      rw [nI_toInt (by omega)] at z
      have : (-1 : Int32).toInt = -1 := by decide
      omega)]
    have key : ∃ τ1, ((f_t_qOpens (nI (21 + t)) (nI (sk B n p)) (sI τ 2 (nI (sk B n p)))).bind fun τ12 => (f_t_asksSign 40 τ12).bind fun τ11 => some (.inl (x1, τ11))) = (some (.inl (x1, τ1)) : Option ((Int32 × TS) ⊕ TS)) ∧ TY inQ aQ τ τ1 ∧ mmR τ1 n B p o bs W cs t := by
      obtain ⟨q, e3, q1, q2, q3⟩ := T_qOpens (x := 21 + t) (p := sk B n p) h' (by omega) hl
      rw [e3, Option.bind_some]
      by_cases e : o = 6
      · have hf := (q2 e).1
        rw [T_asksSignBad (hf.bad (by omega) (by omega)), Option.bind_some]
        exact ⟨_, rfl, tx0.trans q1, fun z => absurd hc z, fun _ _ => hf, fun _ z => absurd e z⟩
      · obtain ⟨q', e4, r1, r2, -⟩ := (q3 e).asksSign (x := 40) (by omega) rfl rfl
        rw [show (40 : Int32) = nI 40 from rfl, e4, Option.bind_some]
        rw [hp] at r2
        exact ⟨_, rfl, (tx0.trans q1).trans r1, fun z => absurd hc z, fun _ z => absurd z e, fun _ _ => r2 hc⟩
    by_cases e : t = 1
    · subst e
      rw [if_pos (hx.mpr rfl)]; exact key
    · have e0 : t = 0 := by omega
      subst e0
      rw [if_neg (fun z => e (hx.mp z))]; exact key
  · rw [if_neg (by show ¬ chI _ = nI 40; rw [ch_ne (h'.1.cur_le) (by omega)]; exact hc), if_pos rfl]
    obtain ⟨q', e4, r1, -, r2⟩ := h'.asksSign (x := 40) (by omega) rfl rfl
    rw [show (40 : Int32) = nI 40 from rfl, e4, Option.bind_some]
    rw [hp] at r2
    exact ⟨_, rfl, tx0.trans r1, fun _ => r2 hc, fun z => absurd z hc, fun z => absurd z hc⟩
theorem mm_ne : (txtL.getD 16 [] == txtL.getD 15 []) = false := by decide
/-- min or max -/
theorem T_A_mm {t : Nat} (h : TQs τ n B a o bs W cs) (hw : TW τ) (hk : tI τ 61 = nI kx) (hk2 : kx ≤ 2) (ho : okW B n (sk B n a) = true) (ht : t < 2) (hj2 : wd B n (sk B n a) = txtL.getD (15 + t) []) (hl : cs.length + (W.length + 1) ≤ 1680) : ∃ τ1, Bt_qPartTold_2 1 τ = some (.inl (1, τ1)) ∧ TY inQ aQ τ τ1 ∧ mmR τ1 n B (we B n (sk B n a)) o bs W cs t := by
  have h' := h.skip
  have hw' : TW (sI τ 2 (nI (sk B n a))) := hw.of (fun x _ i => rfl)
  have hk' : tI (sI τ 2 (nI (sk B n a))) 61 = nI kx := by rw [tI_sI, if_neg (by omega)]; exact hk
  have hp : sk B n (sk B n a) = sk B n a := sk_i h.1.1.2.2.2.2
  obtain ⟨r, e2, -⟩ := T_qOf h'.1 hw' hk' hk2
  rw [hp, sI_same h'.1.1.2.2.2.1] at e2
  obtain ⟨c1, c2⟩ := okW_40 ho
  have tx0 : TY inQ aQ τ (sI τ 2 (nI (sk B n a))) := (TY.refl inQ aQ τ).sI (Or.inl rfl)
  have w8 := hw'.2.2.2.2.2.2.2.1
  have w9 := hw'.2.2.2.2.2.2.2.2
  have hword := h'.word (okW_l ho).1 (okW_l ho).2
  have j78 : ∃ τ1, Jt_qPartTold_78 1 (sI τ 2 (nI (sk B n a))) = some (.inl (1, τ1)) ∧ TY inQ aQ τ τ1 ∧ mmR τ1 n B (we B n (sk B n a)) o bs W cs t := by
    unfold Jt_qPartTold_78
    rw [T_takes h'.1 w8, hp]
    by_cases e : t = 0
    · subst e
      rw [if_pos (by rw [ho, hj2]; simp), xbd_some, if_neg (by decide), sI_same h'.1.1.2.2.2.1]
      obtain ⟨q, e3, q1, q2⟩ := T_mm101 (x1 := 1) (x4 := 1) (t := 0) hword (by omega) (by decide) hl
      exact ⟨q, e3, ((tx0.sI (Or.inl rfl)).sI (Or.inl rfl)).trans q1, q2⟩
    · have e1 : t = 1 := by omega
      subst e1
      rw [if_neg (by
        rw [hj2]
        intro z
        simp only [Bool.and_eq_true, decide_eq_true_eq] at z
        have := mm_ne
        rw [show 15 + 1 = 16 from rfl] at z
        rw [z.2] at this
        simp at this), xbd_some, if_pos rfl, sI_same h'.1.1.2.2.2.1]
      obtain ⟨q, e3, r1, r2, -⟩ := h'.asks w9
      rw [e3, Option.bind_some]
      rw [hp] at r2
      obtain ⟨q', e4, q1, q2⟩ := T_mm101 (x1 := 1) (x4 := 0) (t := 1) (r2 (by rw [hW_t ho, hj2]; simp)) (by omega) (by decide) hl
      exact ⟨q', e4, (tx0.trans r1).trans q1, q2⟩
  unfold Bt_qPartTold_2
  rw [if_neg (by decide), if_pos h.1.2.1, h.1.look.1, xbd_some, e2, xbd_some, if_neg (by show ¬ chI _ = nI 40; rw [ch_ne c2 (by omega)]; exact c1), T_isHere' h'.1 hp w8, xbd_some]
  by_cases e : t = 0
  · subst e
    rw [hW_t ho, hj2, decide_eq_true rfl, if_neg (show ¬ b32 true = 0 by decide)]
    exact j78
  · have e1 : t = 1 := by omega
    subst e1
    have m0 : hW B n (sk B n a) (txtL.getD 15 []) = false := by
      rw [hW_t ho, hj2]
      have := mm_ne
      simpa using this
    rw [m0, if_pos (show b32 false = 0 by decide), T_isHere' h'.1 hp w9, xbd_some, hW_t ho, hj2, decide_eq_true rfl, if_neg (show ¬ b32 true = 0 by decide)]
    exact j78
end ZZN
