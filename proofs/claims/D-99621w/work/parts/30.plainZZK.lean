/-! PLAIN LAW: words and signs asked, what waits kept: the twin's -/
set_option maxRecDepth 100000
theorem bind_id' {T : Type} {o : Option T} : (o.bind fun t => some t) = o := by cases o <;> rfl
theorem asksW (τ : TS) (k : Nat) (hk : k < 20) : f_t_qAsksWord (nI k) τ = f_t_asks (100 + k) τ := by
  have hh : k = 0 ∨ k = 1 ∨ k = 2 ∨ k = 3 ∨ k = 4 ∨ k = 5 ∨ k = 6 ∨ k = 7 ∨ k = 8 ∨ k = 9 ∨ k = 10 ∨ k = 11 ∨ k = 12 ∨ k = 13 ∨ k = 14 ∨ k = 15 ∨ k = 16 ∨ k = 17 ∨ k = 18 ∨ k = 19 := by omega
  unfold f_t_qAsksWord
  rcases hh with rfl | rfl | rfl | rfl | rfl | rfl | rfl | rfl | rfl | rfl | rfl | rfl | rfl | rfl | rfl | rfl | rfl | rfl | rfl | rfl
  · rw [if_pos (show nI 0 = 0 from rfl), bind_id']
  · rw [if_neg (show ¬ nI 1 = 0 by decide), if_pos (show nI 1 = 1 from rfl), bind_id']
  · rw [if_neg (show ¬ nI 2 = 0 by decide), if_neg (show ¬ nI 2 = 1 by decide), if_pos (show nI 2 = 2 from rfl), bind_id']
  · rw [if_neg (show ¬ nI 3 = 0 by decide), if_neg (show ¬ nI 3 = 1 by decide), if_neg (show ¬ nI 3 = 2 by decide), if_pos (show nI 3 = 3 from rfl), bind_id']
  · rw [if_neg (show ¬ nI 4 = 0 by decide), if_neg (show ¬ nI 4 = 1 by decide), if_neg (show ¬ nI 4 = 2 by decide), if_neg (show ¬ nI 4 = 3 by decide), if_pos (show nI 4 = 4 from rfl), bind_id']
  · rw [if_neg (show ¬ nI 5 = 0 by decide), if_neg (show ¬ nI 5 = 1 by decide), if_neg (show ¬ nI 5 = 2 by decide), if_neg (show ¬ nI 5 = 3 by decide), if_neg (show ¬ nI 5 = 4 by decide), if_pos (show nI 5 = 5 from rfl), bind_id']
  · rw [if_neg (show ¬ nI 6 = 0 by decide), if_neg (show ¬ nI 6 = 1 by decide), if_neg (show ¬ nI 6 = 2 by decide), if_neg (show ¬ nI 6 = 3 by decide), if_neg (show ¬ nI 6 = 4 by decide), if_neg (show ¬ nI 6 = 5 by decide), if_pos (show nI 6 = 6 from rfl), bind_id']
  · rw [if_neg (show ¬ nI 7 = 0 by decide), if_neg (show ¬ nI 7 = 1 by decide), if_neg (show ¬ nI 7 = 2 by decide), if_neg (show ¬ nI 7 = 3 by decide), if_neg (show ¬ nI 7 = 4 by decide), if_neg (show ¬ nI 7 = 5 by decide), if_neg (show ¬ nI 7 = 6 by decide), if_pos (show nI 7 = 7 from rfl), bind_id']
  · rw [if_neg (show ¬ nI 8 = 0 by decide), if_neg (show ¬ nI 8 = 1 by decide), if_neg (show ¬ nI 8 = 2 by decide), if_neg (show ¬ nI 8 = 3 by decide), if_neg (show ¬ nI 8 = 4 by decide), if_neg (show ¬ nI 8 = 5 by decide), if_neg (show ¬ nI 8 = 6 by decide), if_neg (show ¬ nI 8 = 7 by decide), if_pos (show nI 8 = 8 from rfl), bind_id']
  · rw [if_neg (show ¬ nI 9 = 0 by decide), if_neg (show ¬ nI 9 = 1 by decide), if_neg (show ¬ nI 9 = 2 by decide), if_neg (show ¬ nI 9 = 3 by decide), if_neg (show ¬ nI 9 = 4 by decide), if_neg (show ¬ nI 9 = 5 by decide), if_neg (show ¬ nI 9 = 6 by decide), if_neg (show ¬ nI 9 = 7 by decide), if_neg (show ¬ nI 9 = 8 by decide), if_pos (show nI 9 = 9 from rfl), bind_id']
  · rw [if_neg (show ¬ nI 10 = 0 by decide), if_neg (show ¬ nI 10 = 1 by decide), if_neg (show ¬ nI 10 = 2 by decide), if_neg (show ¬ nI 10 = 3 by decide), if_neg (show ¬ nI 10 = 4 by decide), if_neg (show ¬ nI 10 = 5 by decide), if_neg (show ¬ nI 10 = 6 by decide), if_neg (show ¬ nI 10 = 7 by decide), if_neg (show ¬ nI 10 = 8 by decide), if_neg (show ¬ nI 10 = 9 by decide), if_pos (show nI 10 = 10 from rfl), bind_id']
  · rw [if_neg (show ¬ nI 11 = 0 by decide), if_neg (show ¬ nI 11 = 1 by decide), if_neg (show ¬ nI 11 = 2 by decide), if_neg (show ¬ nI 11 = 3 by decide), if_neg (show ¬ nI 11 = 4 by decide), if_neg (show ¬ nI 11 = 5 by decide), if_neg (show ¬ nI 11 = 6 by decide), if_neg (show ¬ nI 11 = 7 by decide), if_neg (show ¬ nI 11 = 8 by decide), if_neg (show ¬ nI 11 = 9 by decide), if_neg (show ¬ nI 11 = 10 by decide), if_pos (show nI 11 = 11 from rfl), bind_id']
  · rw [if_neg (show ¬ nI 12 = 0 by decide), if_neg (show ¬ nI 12 = 1 by decide), if_neg (show ¬ nI 12 = 2 by decide), if_neg (show ¬ nI 12 = 3 by decide), if_neg (show ¬ nI 12 = 4 by decide), if_neg (show ¬ nI 12 = 5 by decide), if_neg (show ¬ nI 12 = 6 by decide), if_neg (show ¬ nI 12 = 7 by decide), if_neg (show ¬ nI 12 = 8 by decide), if_neg (show ¬ nI 12 = 9 by decide), if_neg (show ¬ nI 12 = 10 by decide), if_neg (show ¬ nI 12 = 11 by decide), if_pos (show nI 12 = 12 from rfl), bind_id']
  · rw [if_neg (show ¬ nI 13 = 0 by decide), if_neg (show ¬ nI 13 = 1 by decide), if_neg (show ¬ nI 13 = 2 by decide), if_neg (show ¬ nI 13 = 3 by decide), if_neg (show ¬ nI 13 = 4 by decide), if_neg (show ¬ nI 13 = 5 by decide), if_neg (show ¬ nI 13 = 6 by decide), if_neg (show ¬ nI 13 = 7 by decide), if_neg (show ¬ nI 13 = 8 by decide), if_neg (show ¬ nI 13 = 9 by decide), if_neg (show ¬ nI 13 = 10 by decide), if_neg (show ¬ nI 13 = 11 by decide), if_neg (show ¬ nI 13 = 12 by decide), if_pos (show nI 13 = 13 from rfl), bind_id']
  · rw [if_neg (show ¬ nI 14 = 0 by decide), if_neg (show ¬ nI 14 = 1 by decide), if_neg (show ¬ nI 14 = 2 by decide), if_neg (show ¬ nI 14 = 3 by decide), if_neg (show ¬ nI 14 = 4 by decide), if_neg (show ¬ nI 14 = 5 by decide), if_neg (show ¬ nI 14 = 6 by decide), if_neg (show ¬ nI 14 = 7 by decide), if_neg (show ¬ nI 14 = 8 by decide), if_neg (show ¬ nI 14 = 9 by decide), if_neg (show ¬ nI 14 = 10 by decide), if_neg (show ¬ nI 14 = 11 by decide), if_neg (show ¬ nI 14 = 12 by decide), if_neg (show ¬ nI 14 = 13 by decide), if_pos (show nI 14 = 14 from rfl), bind_id']
  · rw [if_neg (show ¬ nI 15 = 0 by decide), if_neg (show ¬ nI 15 = 1 by decide), if_neg (show ¬ nI 15 = 2 by decide), if_neg (show ¬ nI 15 = 3 by decide), if_neg (show ¬ nI 15 = 4 by decide), if_neg (show ¬ nI 15 = 5 by decide), if_neg (show ¬ nI 15 = 6 by decide), if_neg (show ¬ nI 15 = 7 by decide), if_neg (show ¬ nI 15 = 8 by decide), if_neg (show ¬ nI 15 = 9 by decide), if_neg (show ¬ nI 15 = 10 by decide), if_neg (show ¬ nI 15 = 11 by decide), if_neg (show ¬ nI 15 = 12 by decide), if_neg (show ¬ nI 15 = 13 by decide), if_neg (show ¬ nI 15 = 14 by decide), if_pos (show nI 15 = 15 from rfl), bind_id']
  · rw [if_neg (show ¬ nI 16 = 0 by decide), if_neg (show ¬ nI 16 = 1 by decide), if_neg (show ¬ nI 16 = 2 by decide), if_neg (show ¬ nI 16 = 3 by decide), if_neg (show ¬ nI 16 = 4 by decide), if_neg (show ¬ nI 16 = 5 by decide), if_neg (show ¬ nI 16 = 6 by decide), if_neg (show ¬ nI 16 = 7 by decide), if_neg (show ¬ nI 16 = 8 by decide), if_neg (show ¬ nI 16 = 9 by decide), if_neg (show ¬ nI 16 = 10 by decide), if_neg (show ¬ nI 16 = 11 by decide), if_neg (show ¬ nI 16 = 12 by decide), if_neg (show ¬ nI 16 = 13 by decide), if_neg (show ¬ nI 16 = 14 by decide), if_neg (show ¬ nI 16 = 15 by decide), if_pos (show nI 16 = 16 from rfl), bind_id']
  · rw [if_neg (show ¬ nI 17 = 0 by decide), if_neg (show ¬ nI 17 = 1 by decide), if_neg (show ¬ nI 17 = 2 by decide), if_neg (show ¬ nI 17 = 3 by decide), if_neg (show ¬ nI 17 = 4 by decide), if_neg (show ¬ nI 17 = 5 by decide), if_neg (show ¬ nI 17 = 6 by decide), if_neg (show ¬ nI 17 = 7 by decide), if_neg (show ¬ nI 17 = 8 by decide), if_neg (show ¬ nI 17 = 9 by decide), if_neg (show ¬ nI 17 = 10 by decide), if_neg (show ¬ nI 17 = 11 by decide), if_neg (show ¬ nI 17 = 12 by decide), if_neg (show ¬ nI 17 = 13 by decide), if_neg (show ¬ nI 17 = 14 by decide), if_neg (show ¬ nI 17 = 15 by decide), if_neg (show ¬ nI 17 = 16 by decide), if_pos (show nI 17 = 17 from rfl), bind_id']
  · rw [if_neg (show ¬ nI 18 = 0 by decide), if_neg (show ¬ nI 18 = 1 by decide), if_neg (show ¬ nI 18 = 2 by decide), if_neg (show ¬ nI 18 = 3 by decide), if_neg (show ¬ nI 18 = 4 by decide), if_neg (show ¬ nI 18 = 5 by decide), if_neg (show ¬ nI 18 = 6 by decide), if_neg (show ¬ nI 18 = 7 by decide), if_neg (show ¬ nI 18 = 8 by decide), if_neg (show ¬ nI 18 = 9 by decide), if_neg (show ¬ nI 18 = 10 by decide), if_neg (show ¬ nI 18 = 11 by decide), if_neg (show ¬ nI 18 = 12 by decide), if_neg (show ¬ nI 18 = 13 by decide), if_neg (show ¬ nI 18 = 14 by decide), if_neg (show ¬ nI 18 = 15 by decide), if_neg (show ¬ nI 18 = 16 by decide), if_neg (show ¬ nI 18 = 17 by decide), if_pos (show nI 18 = 18 from rfl), bind_id']
  · rw [if_neg (show ¬ nI 19 = 0 by decide), if_neg (show ¬ nI 19 = 1 by decide), if_neg (show ¬ nI 19 = 2 by decide), if_neg (show ¬ nI 19 = 3 by decide), if_neg (show ¬ nI 19 = 4 by decide), if_neg (show ¬ nI 19 = 5 by decide), if_neg (show ¬ nI 19 = 6 by decide), if_neg (show ¬ nI 19 = 7 by decide), if_neg (show ¬ nI 19 = 8 by decide), if_neg (show ¬ nI 19 = 9 by decide), if_neg (show ¬ nI 19 = 10 by decide), if_neg (show ¬ nI 19 = 11 by decide), if_neg (show ¬ nI 19 = 12 by decide), if_neg (show ¬ nI 19 = 13 by decide), if_neg (show ¬ nI 19 = 14 by decide), if_neg (show ¬ nI 19 = 15 by decide), if_neg (show ¬ nI 19 = 16 by decide), if_neg (show ¬ nI 19 = 17 by decide), if_neg (show ¬ nI 19 = 18 by decide), bind_id']
section ZZK
variable {τ τ' : TS} {n a p o bs kx : Nat} {B : Nat → Nat} {W cs : List Nat} {L : List Nat}
theorem T_asks {x : Nat} (h : TPs τ n B a) (hw : TWd τ x L) : f_t_asks x τ = if hW B n (sk B n a) L = true then some (sI (sI (sI τ 2 (nI (sk B n a))) 2 (nI (we B n (sk B n a)))) 4 (nI (we B n (sk B n a)))) else some (sI (sI (sI τ 2 (nI (sk B n a))) 5 (nI 1)) 6 (nI (sk B n a))) := by
  obtain ⟨-, h'⟩ := h.look
  unfold f_t_asks
  rw [if_pos h.2.1, T_takes h hw]
  show xbd (if hW B n (sk B n a) L = true then _ else _) _ = _
  by_cases e : hW B n (sk B n a) L = true
  · rw [if_pos e, if_pos e, xbd_some, if_neg (by decide)]
  · rw [if_neg e, if_neg e, xbd_some, if_pos rfl, T_fail h'.2.1, Option.bind_some, h'.1.2.2.2.1]; rfl
theorem T_asksBad {x : Nat} (h : tI τ 5 ≠ 0) : f_t_asks x τ = some τ := by
  unfold f_t_asks
  rw [if_neg h]
theorem T_asksSign {x : Nat} (h : TPs τ n B a) (hx : x < 256) : f_t_asksSign (nI x) τ = if cur B n (sk B n a) = x then some (sI (sI τ 2 (nI (sk B n a))) 2 (nI (sk B n a + 1))) else some (sI (sI (sI τ 2 (nI (sk B n a))) 5 (nI 1)) 6 (nI (sk B n a))) := by
  obtain ⟨-, h'⟩ := h.look
  unfold f_t_asksSign
  rw [if_pos h.2.1, T_takesSign h hx]
  by_cases e : cur B n (sk B n a) = x
  · rw [if_pos e, if_pos e, xbd_some, if_neg (by decide)]
  · rw [if_neg e, if_neg e, xbd_some, if_pos rfl, T_fail h'.2.1, Option.bind_some, h'.1.2.2.2.1]; rfl
theorem T_asksSignBad {x : Int32} (h : tI τ 5 ≠ 0) : f_t_asksSign x τ = some τ := by
  unfold f_t_asksSign
  rw [if_neg h]
/-- what waits and the codes are kept by the reader -/
theorem TQs.to {a' : Nat} (h : TQs τ n B a o bs W cs) (h' : TPs τ' n B a') (e : ∀ k, k = 121 ∨ k = 123 ∨ k = 124 ∨ k = 125 → tI τ' k = tI τ k) (eA : ∀ k i, k = 120 ∨ k = 122 → tA τ' k i = tA τ k i) : TQs τ' n B a' o bs W cs := by
  obtain ⟨h1, h2, h3, h4, h5, h6, h7⟩ := h
  exact ⟨h', ⟨by rw [e 124 (by omega)]; exact h2.1, h2.2⟩, ⟨by rw [e 125 (by omega)]; exact h3.1, h3.2⟩, ⟨by rw [e 123 (by omega)]; exact h4.1, fun i hi => by rw [eA 122 i (by omega)]; exact h4.2 i hi⟩, ⟨by rw [e 121 (by omega)]; exact h5.1, fun i hi => by rw [eA 120 i (by omega)]; exact h5.2 i hi⟩, h6, h7⟩
theorem TQs.skip (h : TQs τ n B a o bs W cs) : TQs (sI τ 2 (nI (sk B n a))) n B (sk B n a) o bs W cs := h.to h.1.look.2 (fun k hk => by rw [tI_sI, if_neg (by omega)]) (fun k i _ => rfl)
theorem TQs.word (h : TQs τ n B a o bs W cs) (ha : a < n) (hl : ltB (B a) = true) : TQs (sI (sI τ 2 (nI (we B n a))) 4 (nI (we B n a))) n B (we B n a) o bs W cs := h.to (h.1.word ha hl) (fun k hk => by rw [tI_sI, if_neg (by omega), tI_sI, if_neg (by omega)]) (fun k i _ => rfl)
theorem TQs.sign (h : TQs τ n B a o bs W cs) (ha : a < n) (hl : ltB (B a) = false) (hd : dgB (B a) = false) : TQs (sI τ 2 (nI (a + 1))) n B (a + 1) o bs W cs := h.to (h.1.sign ha hl hd) (fun k hk => by rw [tI_sI, if_neg (by omega)]) (fun k i _ => rfl)
/-- a sign stands inside the text -/
theorem cur_lt {x : Nat} (h : cur B n p = x) (hx : x < 256) : p < n ∧ B p = x := by
  unfold cur at h
  by_cases e : p < n
  · rw [if_pos e] at h; exact ⟨e, h⟩
  · rw [if_neg e] at h; omega
/-- a word asked, a sign asked, with what waits -/
theorem TQs.asks {x : Nat} (h : TQs τ n B a o bs W cs) (hw : TWd τ x L) : OK (f_t_asks x τ) (fun q => TY inQ aQ τ q ∧ (hW B n (sk B n a) L = true → TQs q n B (we B n (sk B n a)) o bs W cs) ∧ (hW B n (sk B n a) L = false → TF q 1 (sk B n a))) := by
  rw [T_asks h.1 hw]
  by_cases e : hW B n (sk B n a) L = true
  · rw [if_pos e]
    have e2 : okW B n (sk B n a) = true := by unfold hW at e; simp only [Bool.and_eq_true] at e; exact e.1
    exact OK_some ⟨(((TY.refl _ _ τ).sI (Or.inl rfl)).sI (Or.inl rfl)).sI (Or.inl rfl), fun _ => h.skip.word (okW_l e2).1 (okW_l e2).2, fun z => by rw [e] at z; cases z⟩
  · rw [if_neg e]
    exact OK_some ⟨(((TY.refl _ _ τ).sI (Or.inl rfl)).sI (Or.inl rfl)).sI (Or.inl rfl), fun z => absurd z e, fun _ => TF.mk (c := cs.length) (by rw [tI_sI, if_neg (by omega)]; exact h.2.2.2.2.1.1) (by have := h.2.2.2.2.2.1; omega)⟩
theorem TQs.asksSign {x : Nat} (h : TQs τ n B a o bs W cs) (hx : x < 256) (hl : ltB x = false) (hd : dgB x = false) : OK (f_t_asksSign (nI x) τ) (fun q => TY inQ aQ τ q ∧ (cur B n (sk B n a) = x → TQs q n B (sk B n a + 1) o bs W cs) ∧ (cur B n (sk B n a) ≠ x → TF q 1 (sk B n a))) := by
  rw [T_asksSign h.1 hx]
  by_cases e : cur B n (sk B n a) = x
  · rw [if_pos e]
    have e2 := cur_lt e hx
    exact OK_some ⟨((TY.refl _ _ τ).sI (Or.inl rfl)).sI (Or.inl rfl), fun _ => h.skip.sign e2.1 (by rw [e2.2]; exact hl) (by rw [e2.2]; exact hd), fun z => absurd e z⟩
  · rw [if_neg e]
    exact OK_some ⟨(((TY.refl _ _ τ).sI (Or.inl rfl)).sI (Or.inl rfl)).sI (Or.inl rfl), fun z => absurd z e, fun _ => TF.mk (c := cs.length) (by rw [tI_sI, if_neg (by omega)]; exact h.2.2.2.2.1.1) (by have := h.2.2.2.2.2.1; omega)⟩
end ZZK
