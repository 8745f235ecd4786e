/-! PLAIN LAW: behind a fact: turns of the twin -/
set_option maxRecDepth 100000
section ZZX
variable {τ τ' τ1 q r : TS} {n a p o kx : Nat} {B : Nat → Nat} {W W0 cs : List Nat} {L : List Nat}
/-- a square is closed -/
theorem T_TB_close {Q : List Nat} (h : TQs τ n B a (o + 1) 0 (W ++ [25] ++ Q.reverse) cs) (hQ : ∀ x ∈ Q, x < 20) (hc : cur B n (sk B n a) = 93) : ∃ τ1, TQs τ1 n B (sk B n a + 1) o 0 W (cs ++ Q) ∧ TY inQ aQ τ τ1 ∧ ∀ r, LtE n τ1 (sk B n a + 1) W.length r → LtB n τ a r := by
  have h' := h.skip
  have hn := h.1.1.2.1
  have g1 := (sk_g (B := B) h.1.1.2.2.2.2).1
  have c := cur_lt hc (by omega)
  have tx0 : TY inQ aQ τ (sI τ 2 (nI (sk B n a))) := (TY.refl inQ aQ τ).sI (Or.inl rfl)
  have hsg := h'.sign c.1 (by rw [c.2]; rfl) (by rw [c.2]; rfl)
  have tx1 : TY inQ aQ τ (sI (sI τ 2 (nI (sk B n a))) 2 (nI (sk B n a + 1))) := tx0.sI (Or.inl rfl)
  obtain ⟨q, e, q1, q2⟩ := dropsQ (W0 := W ++ [25]) (good := fun x => x < 20) (D := fun s_ => Bt_qGoesOnTest_33 s_) (fun τ' W' x cs' h' hx => by
    obtain ⟨q, e, q1, q2⟩ := T_qDrops h' (by omega)
    show OK (Bt_qGoesOnTest_33 τ') _
    unfold Bt_qGoesOnTest_33
    rw [nl_25, T_qIsOn h' (by omega), xbd_some, topIs_app, decide_eq_false (by omega), if_pos (show b32 false = 0 by decide), e, Option.bind_some]
    exact OK_some ⟨q, rfl, q1, q2⟩) Q _ cs hQ hsg
  have hlen := hsg.qlen
  have e3 : itr (fun s_ : TS => Bt_qGoesOnTest_33 s_) 4096 (sI (sI τ 2 (nI (sk B n a))) 2 (nI (sk B n a + 1))) = some q := by
    rw [show 4096 = (4095 - Q.length) + 1 + Q.length by omega, e ((4095 - Q.length) + 1)]
    refine itr_inr ?_
    show Bt_qGoesOnTest_33 q = _
    unfold Bt_qGoesOnTest_33
    rw [nl_25, T_qIsOn q1 (by omega), xbd_some, topIs_app, if_neg (show ¬ b32 (decide (25 = 25)) = 0 by decide)]
  obtain ⟨t1, t2, t3, t4⟩ := q1.top
  obtain ⟨h1, h2, h3, h4, h5, h6, h7⟩ := q1
  have hl : (W ++ [25]).length = W.length + 1 := by simp
  rw [hl] at h6
  have tq : TQs (sI (sI q 123 (nI W.length)) 124 (nI o)) n B (sk B n a + 1) o 0 W (cs ++ Q) := ⟨h1.of (fun k hk => by rw [tI_sI, if_neg (by omega), tI_sI, if_neg (by omega)]) (fun i => rfl), ⟨by rw [tI_sI, if_pos rfl], by omega⟩, ⟨by rw [tI_sI, if_neg (by omega), tI_sI, if_neg (by omega)]; exact h3.1, by omega⟩, ⟨by rw [tI_sI, if_neg (by omega), tI_sI, if_pos rfl], fun i hi => by rw [tA_sI, tA_sI, h4.2 i (by rw [hl]; omega), getD_app hi]⟩, ⟨by rw [tI_sI, if_neg (by omega), tI_sI, if_neg (by omega)]; exact h5.1, h5.2⟩, by omega, fun y hy => h7 y (by simp [hy])⟩
  have txq : TY inQ aQ τ (sI (sI q 123 (nI W.length)) 124 (nI o)) := ((tx1.trans q2).sI (Or.inl rfl)).sI (Or.inl rfl)
  have e124 : tI (sI q 123 (nI W.length)) 124 - 1 = nI o := by rw [tI_sI, if_neg (by omega), h2.1, nl_1, nI_m1 (by omega)]; rfl
  have e123 : tI q 123 - 1 = nI W.length := by rw [t1, nl_1, nI_m1 (by omega)]; rfl
  have hm : 25 ∈ W ++ [25] ++ Q.reverse := by simp
  have body : Bt_qGoesOnTest_0 τ = (f_t_qDropsNots (sI (sI q 123 (nI W.length)) 124 (nI o))).bind fun τ6 => some (.inl τ6) := by
    unfold Bt_qGoesOnTest_0
    rw [if_pos h.1.2.1, h.1.look.1, xbd_some, hc, if_pos (by decide), T_hasSq h', xbd_some, decide_eq_true hm, if_neg (show ¬ b32 true = 0 by decide), h'.1.1.2.2.2.1, show nI (sk B n a) + 1 = nI (sk B n a + 1) by rw [nl_1, nI_add], e3, Option.bind_some, e123, e124]
  refine ⟨_, tq, txq, fun r hr g f hg hf => ?_⟩
  obtain ⟨g', rfl⟩ : ∃ g', g = g' + 1 := ⟨g - 1, by omega⟩
  have z := hr 4096 g' f (by omega) (by omega) (by omega)
  unfold ltE at z
  unfold ltB'
  rw [itr_s]
  show (((Bt_qGoesOnTest_0 τ).bind _).bind _).bind _ = _
  rw [body]
  unfold f_t_qDropsNots
  cases ei : itr (fun s_ : TS => Bt_qDropsNots_0 s_) 4096 (sI (sI q 123 (nI W.length)) 124 (nI o)) with
  | none => rw [ei] at z; cases z
  | some t =>
    rw [ei, Option.bind_some] at z
    by_cases e5 : tI t 5 = 0
    · rw [if_pos e5] at z
      exact z
    · rw [if_neg e5] at z; cases z
/-- no square closes here -/
theorem T_TB_stop (h : TQs τ n B a o 0 W cs) (hs : cur B n (sk B n a) ≠ 93 ∨ ¬ 25 ∈ W) {g f : Nat} (hg : 0 < g) : ltB' g f τ = (Jt_qGoesOnTest_76 (sI τ 2 (nI (sk B n a)))).bind fun rt => ltN f (if rt.1 = 0 then 0 else 1) rt.2 := by
  have h' := h.skip
  obtain ⟨g', rfl⟩ : ∃ g', g = g' + 1 := ⟨g - 1, by omega⟩
  unfold ltB'
  rw [itr_inr (b := sI τ 2 (nI (sk B n a))) (by
    show Bt_qGoesOnTest_0 τ = _
    unfold Bt_qGoesOnTest_0
    rw [if_pos h.1.2.1, h.1.look.1, xbd_some]
    by_cases hc : cur B n (sk B n a) = 93
    · rw [if_pos (by rw [hc]; decide), T_hasSq h', xbd_some, decide_eq_false (hs.resolve_left (fun z => z hc)), if_pos (show b32 false = 0 by decide)]
    · rw [if_neg (by show ¬ chI _ = nI 93; rw [ch_ne (h'.1.cur_le) (by omega)]; exact hc)]), Option.bind_some]
theorem T_takesH {x : Nat} (h : TQs τ n B a o 0 W cs) (hp : sk B n a = a) (hw : TWd τ x L) : f_t_takes x τ = if hW B n a L = true then some (1, sI (sI τ 2 (nI (we B n a))) 4 (nI (we B n a))) else some (0, τ) := by
  rw [T_takes h.1 hw, hp, sI_same h.1.1.2.2.2.1]; rfl
/-- and -/
theorem T_TB_and {Q : List Nat} (h : TQs τ n B a o 0 (W ++ Q.reverse) cs) (hw : TW τ) (hQ : ∀ x ∈ Q, x = 10) (h0 : topIs W 10 = false) (hh : hW B n (sk B n a) (txtL.getD 19 []) = true) (hl : (cs ++ Q).length + (W.length + 1) ≤ 1680) : ∃ τ1, TQs τ1 n B (we B n (sk B n a)) o 0 (W ++ [10]) (cs ++ Q) ∧ TY inQ aQ τ τ1 ∧ ∀ r, LtA n τ1 (we B n (sk B n a)) r → LtB n τ a r := by
  have h' := h.skip
  have hn := h.1.1.2.1
  have hw' : TW (sI τ 2 (nI (sk B n a))) := hw.of (fun x _ i => rfl)
  have hp : sk B n (sk B n a) = sk B n a := sk_i h.1.1.2.2.2.2
  have g1 := (sk_g (B := B) h.1.1.2.2.2.2).1
  obtain ⟨ho, hwd⟩ := hW_okW hh
  obtain ⟨w1, w2, -⟩ := okW_gt ho
  have c93 := (okW_91 ho).2.1
  have tx0 : TY inQ aQ τ (sI τ 2 (nI (sk B n a))) := (TY.refl inQ aQ τ).sI (Or.inl rfl)
  have hwo := h'.word (okW_l ho).1 (okW_l ho).2
  have tx1 : TY inQ aQ τ (sI (sI (sI τ 2 (nI (sk B n a))) 2 (nI (we B n (sk B n a)))) 4 (nI (we B n (sk B n a)))) := (tx0.sI (Or.inl rfl)).sI (Or.inl rfl)
  obtain ⟨q, e, q1, q2⟩ := dropsQ (W0 := W) (good := fun x => x = 10) (D := fun s_ => Bt_qGoesOnTest_87 s_) (fun τ' W' x cs' h' hx => by
    obtain ⟨q, e, q1, q2⟩ := T_qDrops h' (by omega)
    show OK (Bt_qGoesOnTest_87 τ') _
    unfold Bt_qGoesOnTest_87
    rw [nl_10, T_qIsOn h' (by omega), xbd_some, topIs_app, decide_eq_true hx, if_neg (show ¬ b32 true = 0 by decide), e, Option.bind_some]
    exact OK_some ⟨q, rfl, q1, q2⟩) Q _ cs hQ hwo
  have hlen := hwo.qlen
  have e3 : itr (fun s_ : TS => Bt_qGoesOnTest_87 s_) 4096 (sI (sI (sI τ 2 (nI (sk B n a))) 2 (nI (we B n (sk B n a)))) 4 (nI (we B n (sk B n a)))) = some q := by
    rw [show 4096 = (4095 - Q.length) + 1 + Q.length by omega, e ((4095 - Q.length) + 1)]
    refine itr_inr ?_
    show Bt_qGoesOnTest_87 q = _
    unfold Bt_qGoesOnTest_87
    rw [nl_10, T_qIsOn q1 (by omega), xbd_some, h0, if_pos (show b32 false = 0 by decide)]
  obtain ⟨p1, p2, p3⟩ := T_push (x := 10) q1 (by omega) hl
  refine ⟨_, p2, (tx1.trans q2).trans p3, fun r hr g f hg hf => ?_⟩
  rw [T_TB_stop h (Or.inl c93) (by omega)]
  unfold Jt_qGoesOnTest_76
  rw [T_takesH h' hp hw'.2.2.2.2.1, if_pos hh, xbd_some, if_neg (by decide), e3, Option.bind_some, nl_10, if_pos p1, Option.bind_some]
  dsimp only
  rw [if_neg (show ¬ (1 : Int32) = 0 by decide)]
  exact hr f (by omega)
theorem andor : (txtL.getD 20 [] == txtL.getD 19 []) = false := by decide
/-- or -/
theorem T_TB_or {Q : List Nat} (h : TQs τ n B a o 0 (W ++ Q.reverse) cs) (hw : TW τ) (hQ : ∀ x ∈ Q, x = 10 ∨ x = 11) (h0 : topIs W 10 = false) (h1 : topIs W 11 = false) (hh : hW B n (sk B n a) (txtL.getD 20 []) = true) (hl : (cs ++ Q).length + (W.length + 1) ≤ 1680) : ∃ τ1, TQs τ1 n B (we B n (sk B n a)) o 0 (W ++ [11]) (cs ++ Q) ∧ TY inQ aQ τ τ1 ∧ ∀ r, LtA n τ1 (we B n (sk B n a)) r → LtB n τ a r := by
  have h' := h.skip
  have hn := h.1.1.2.1
  have hw' : TW (sI τ 2 (nI (sk B n a))) := hw.of (fun x _ i => rfl)
  have hp : sk B n (sk B n a) = sk B n a := sk_i h.1.1.2.2.2.2
  have g1 := (sk_g (B := B) h.1.1.2.2.2.2).1
  obtain ⟨ho, hwd⟩ := hW_okW hh
  obtain ⟨w1, w2, -⟩ := okW_gt ho
  have c93 := (okW_91 ho).2.1
  have hna : hW B n (sk B n a) (txtL.getD 19 []) = false := hW_f (fun _ => by rw [hwd]; exact ne_beq andor)
  have tx0 : TY inQ aQ τ (sI τ 2 (nI (sk B n a))) := (TY.refl inQ aQ τ).sI (Or.inl rfl)
  have hwo := h'.word (okW_l ho).1 (okW_l ho).2
  have tx1 : TY inQ aQ τ (sI (sI (sI τ 2 (nI (sk B n a))) 2 (nI (we B n (sk B n a)))) 4 (nI (we B n (sk B n a)))) := (tx0.sI (Or.inl rfl)).sI (Or.inl rfl)
  obtain ⟨q, e, q1, q2⟩ := dropsQ (W0 := W) (good := fun x => x = 10 ∨ x = 11) (D := fun s_ => Bt_qGoesOnTest_137 s_) (fun τ' W' x cs' h' hx => by
    obtain ⟨q, e, q1, q2⟩ := T_qDrops h' (by omega)
    have jj : Jt_qGoesOnTest_155 τ' = some (.inl q) := by unfold Jt_qGoesOnTest_155; rw [e, Option.bind_some]
    show OK (Bt_qGoesOnTest_137 τ') _
    unfold Bt_qGoesOnTest_137
    rw [nl_10, T_qIsOn h' (by omega), xbd_some, topIs_app, show (11 : Int32) = nI 11 from rfl, T_qIsOn h' (by omega), xbd_some, topIs_app, jj]
    rcases hx with rfl | rfl
    · rw [if_neg (show ¬ b32 (decide (10 = 10)) = 0 by decide)]
      exact OK_some ⟨q, rfl, q1, q2⟩
    · rw [if_pos (show b32 (decide (11 = 10)) = 0 by decide), if_neg (show ¬ b32 (decide (11 = 11)) = 0 by decide)]
      exact OK_some ⟨q, rfl, q1, q2⟩) Q _ cs hQ hwo
  have hlen := hwo.qlen
  have e3 : itr (fun s_ : TS => Bt_qGoesOnTest_137 s_) 4096 (sI (sI (sI τ 2 (nI (sk B n a))) 2 (nI (we B n (sk B n a)))) 4 (nI (we B n (sk B n a)))) = some q := by
    rw [show 4096 = (4095 - Q.length) + 1 + Q.length by omega, e ((4095 - Q.length) + 1)]
    refine itr_inr ?_
    show Bt_qGoesOnTest_137 q = _
    unfold Bt_qGoesOnTest_137
    rw [nl_10, T_qIsOn q1 (by omega), xbd_some, h0, if_pos (show b32 false = 0 by decide), show (11 : Int32) = nI 11 from rfl, T_qIsOn q1 (by omega), xbd_some, h1, if_pos (show b32 false = 0 by decide)]
  obtain ⟨p1, p2, p3⟩ := T_push (x := 11) q1 (by omega) hl
  refine ⟨_, p2, (tx1.trans q2).trans p3, fun r hr g f hg hf => ?_⟩
  rw [T_TB_stop h (Or.inl c93) (by omega)]
  unfold Jt_qGoesOnTest_76
  rw [T_takesH h' hp hw'.2.2.2.2.1, if_neg (by rw [hna]; decide), xbd_some, if_pos rfl, T_takesH h' hp hw'.2.2.2.2.2.1, if_pos hh, xbd_some, if_neg (by decide), e3, Option.bind_some, show (11 : Int32) = nI 11 from rfl, if_pos p1, Option.bind_some]
  dsimp only
  rw [if_neg (show ¬ (1 : Int32) = 0 by decide)]
  exact hr f (by omega)
/-- neither and nor or -/
theorem T_TB_76 (h : TQs τ n B a o 0 W cs) (hp : sk B n a = a) (hw : TW τ) (h1 : hW B n a (txtL.getD 19 []) = false) (h2 : hW B n a (txtL.getD 20 []) = false) : Jt_qGoesOnTest_76 τ = if 25 ∈ W then some (0, sI (sI τ 5 (nI 1)) 6 (nI a)) else some (0, τ) := by
  unfold Jt_qGoesOnTest_76
  rw [T_takesH h hp hw.2.2.2.2.1, if_neg (by rw [h1]; decide), xbd_some, if_pos rfl, T_takesH h hp hw.2.2.2.2.2.1, if_neg (by rw [h2]; decide), xbd_some, if_pos rfl, if_pos h.1.2.1, T_hasSq h, xbd_some, T_fail h.1.2.1, Option.bind_some, h.1.1.2.2.2.1]
  by_cases e : 25 ∈ W
  · rw [decide_eq_true e, if_neg (show ¬ b32 true = 0 by decide), if_pos e]; rfl
  · rw [decide_eq_false e, if_pos (show b32 false = 0 by decide), if_neg e]
theorem T_TB_end (h : TQs τ n B a o 0 W cs) (hw : TW τ) (h1 : hW B n (sk B n a) (txtL.getD 19 []) = false) (h2 : hW B n (sk B n a) (txtL.getD 20 []) = false) (h25 : ¬ 25 ∈ W) : LtB n τ a (sI τ 2 (nI (sk B n a))) := by
  intro g f hg hf
  have hw' : TW (sI τ 2 (nI (sk B n a))) := hw.of (fun x _ i => rfl)
  obtain ⟨f', rfl⟩ : ∃ f', f = f' + 1 := ⟨f - 1, by omega⟩
  rw [T_TB_stop h (Or.inr h25) (by omega), T_TB_76 h.skip (sk_i h.1.1.2.2.2.2) hw' h1 h2, if_neg h25, Option.bind_some]
  dsimp only
  rw [if_pos rfl, ltN_end]
theorem T_TB_bad (h : TQs τ n B a o 0 W cs) (hw : TW τ) (hc : cur B n (sk B n a) ≠ 93) (h1 : hW B n (sk B n a) (txtL.getD 19 []) = false) (h2 : hW B n (sk B n a) (txtL.getD 20 []) = false) (h25 : 25 ∈ W) : ∃ r, TF r 1 (sk B n a) ∧ TY inQ aQ τ r ∧ LtB n τ a r := by
  have hw' : TW (sI τ 2 (nI (sk B n a))) := hw.of (fun x _ i => rfl)
  refine ⟨sI (sI (sI τ 2 (nI (sk B n a))) 5 (nI 1)) 6 (nI (sk B n a)), TF.mk (k := 1) (c := cs.length) (by rw [tI_sI, if_neg (by omega)]; exact h.2.2.2.2.1.1) (by have := h.2.2.2.2.2.1; omega), (((TY.refl inQ aQ τ).sI (Or.inl rfl)).sI (Or.inl rfl)).sI (Or.inl rfl), fun g f hg hf => ?_⟩
  obtain ⟨f', rfl⟩ : ∃ f', f = f' + 1 := ⟨f - 1, by omega⟩
  rw [T_TB_stop h (Or.inl hc) (by omega), T_TB_76 h.skip (sk_i h.1.1.2.2.2.2) hw' h1 h2, if_pos h25, Option.bind_some]
  dsimp only
  rw [if_pos rfl, ltN_end]
end ZZX
