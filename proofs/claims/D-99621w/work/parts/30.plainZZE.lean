/-! PLAIN LAW: a word that must stand, a word that may stand, opens -/
set_option maxRecDepth 100000
/-- the parser's state with its texts -/
def PI (τ : CS) (X n : Nat) (B : Nat → Nat) (a o : Nat) : Prop := PS τ X n B a o ∧ LIT τ.1 τ.2 X
/-- letters of the word that may begin here -/
def wl (B : Nat → Nat) (n q : Nat) : Nat := if okW B n q = true then we B n q - q else 0
section ZZE
variable {X n a o : Nat} {B : Nat → Nat} {τ τ' : CS}
theorem PI.pf (h : PI τ X n B a o) (p : PF X τ τ') {a' o' : Nat} (h' : PS τ' X n B a' o') : PI τ' X n B a' o' := ⟨h', h.2.pf (Nat.le_refl X) (by have := h.1.2.1; omega) p⟩
theorem okW_gt {q : Nat} (h : okW B n q = true) : q < we B n q ∧ we B n q ≤ n ∧ lts (wd B n q) := by
  obtain ⟨h1, h2⟩ := okW_l h
  obtain ⟨g1, g2, g3, g4⟩ := we_g (B := B) (n := n) (a := q) (by omega)
  refine ⟨?_, g2, fun i hi => ?_⟩
  · rw [we_b h1 h2]
    exact (we_g (B := B) (n := n) (a := q + 1) (by omega)).1
  · rw [wd_len] at hi
    rw [wd_get hi]
    exact ltB_b (g4 (q + i) (by omega) (by omega))
theorem PS.at2 {b : Nat} (h : PS τ X n B a o) (hb : b ≤ n) : PS (τ.1, uI τ.2 302 (X + 28) (nI b)) X n B b o := by
  obtain ⟨h1, h2, h3, h4, h5, h6⟩ := h
  exact ⟨h1, h2, h3.to hb, fun i hi hb => by show cA (uI τ.2 302 (X + 28) _) (X + 27) i = _; rw [cA_uI]; exact h4 i hi hb, by show cI (uI τ.2 302 (X + 28) _) 304 (X + 28) = _; rw [cI_uI, if_neg (by omega)]; exact h5, h6⟩
theorem PF.at2 {x : Int32} : PF X τ (τ.1, uI τ.2 302 (X + 28) x) := (PR.refl.u302).pf
theorem C_wordL {i : Nat} (h : PI τ X n B a o) (hi : i < txtL.length) (hc : 3 ≤ grc τ.1) (hs : 2 * n + 4 ≤ grs τ.1) : OK (f_x_X2_word (X + 28) (gA τ.1 0 (100 + i)) τ) (fun r => PF X τ r.2 ∧ grc τ.1 ≤ grc r.2.1 + 3 * wl B n (sk B n a) ∧ grs τ.1 ≤ grs r.2.1 + 6 * wl B n (sk B n a) ∧ (okW B n (sk B n a) = true ∧ wd B n (sk B n a) = txtL.getD i [] → r.1 = .inl () ∧ PI r.2 X n B (we B n (sk B n a)) o) ∧ (¬ (okW B n (sk B n a) = true ∧ wd B n (sk B n a) = txtL.getD i []) → r.1 = .inr (X + 29) ∧ FLT r.2.2 X 1 (sk B n a))) := by
  obtain ⟨⟨rr, τ1⟩, e1, q1, q2, q3⟩ := C_word h.1 hc hs
  have hX := h.1.2.1
  unfold f_x_X2_word
  rw [if_pos h.1.1.2.2.1, e1]
  generalize sk B n a = p at *
  cases hok : okW B n p with
  | false =>
    obtain ⟨r1, r2, r3⟩ := q3 hok
    have r1 : rr = .inr (X + 29) := r1
    subst r1
    have r3 : τ1.1 = τ.1 := r3
    exact OK_some ⟨q1, by show grc τ.1 ≤ grc τ1.1 + _; rw [r3]; omega, by show grs τ.1 ≤ grs τ1.1 + _; rw [r3]; omega, (fun e => by cases e.1), fun _ => ⟨rfl, r2⟩⟩
  | true =>
    obtain ⟨r1, r2, r3, r4, r5, r6, r7, r8⟩ := q2 hok
    obtain ⟨w1, w2, w3⟩ := okW_gt hok
    have r1 : rr = .inl (gz τ.1 + 1) := r1
    subst r1
    have r3 : Str τ1.1 τ1.2 (gz τ.1 + 1) (wd B n p) := r3
    have r5 : cI τ1.2 303 (X + 28) = nI p := r5
    have pi1 : PI τ1 X n B (we B n p) o := h.pf q1 r2
    have ewl : wl B n p = we B n p - p := by unfold wl; rw [if_pos hok]
    have hl1 : grc τ.1 ≤ grc τ1.1 + 3 * wl B n p := by have r7 : grc τ1.1 + 3 = grc τ.1 := r7; omega
    have hl2 : grs τ.1 ≤ grs τ1.1 + 6 * wl B n p := by have r8 : grs τ1.1 + (2 * (we B n p - p) + 4) = grs τ.1 := r8; omega
    obtain ⟨x1, x2⟩ := okWs_g ok_txt hi
    have hlit := (pi1.2.1 i hi).str
    have e0 : gA τ1.1 0 (100 + i) = gA τ.1 0 (100 + i) := (q1.2.1 0 (by omega) (by omega)).2.2.2 _
    rw [e0] at hlit
    show OK (if gK τ1.1 (gz τ.1 + 1) = 19 then (xbd (f_c_J6_equals τ1.1 (gz τ.1 + 1) (gA τ.1 0 (100 + i)) τ1.2) fun r4 τ4 => _) else none) _
    rw [if_pos r3.1, C_equals r3 hlit w3 x1, xbd_some]
    by_cases e : wd B n p = txtL.getD i []
    · rw [decide_eq_true e, if_neg (show ¬ b32 true = 0 by decide)]
      exact OK_some ⟨q1, hl1, hl2, fun _ => ⟨rfl, pi1⟩, fun z => absurd ⟨rfl, e⟩ z⟩
    · rw [decide_eq_false e, if_pos (show b32 false = 0 by decide), if_pos pi1.1.1.2.2.1, r5, C_wrong pi1.1.1, xbd_some, if_pos pi1.1.1.2.2.2.2.1]
      refine OK_some ⟨q1.trans ((PR.refl (X := X)).u29.u29).pf, hl1, hl2, fun z => absurd z.2 e, fun _ => ⟨rfl, FLT.mk⟩⟩
/-- a word that may stand: 1 and behind it, 0 and as it was, or a fault -/
theorem C_passesL {i : Nat} (h : PI τ X n B a o) (hi : i < txtL.length) (hc : 3 ≤ grc τ.1) (hs : 2 * n + 4 ≤ grs τ.1) : OK (f_x_X2_passes (X + 28) (gA τ.1 0 (100 + i)) τ) (fun r => PF X τ r.2 ∧ grc τ.1 ≤ grc r.2.1 + 3 * wl B n (sk B n a) ∧ grs τ.1 ≤ grs r.2.1 + 6 * wl B n (sk B n a) ∧
    (ltB (cur B n (sk B n a)) = true → alB B (sk B n a) = true → r.1 = .inr (X + 29) ∧ FLT r.2.2 X 1 (sk B n a)) ∧
    (okW B n (sk B n a) = true → wd B n (sk B n a) = txtL.getD i [] → r.1 = .inl 1 ∧ PI r.2 X n B (we B n (sk B n a)) o ∧ cI r.2.2 303 (X + 28) = nI (sk B n a)) ∧
    (ltB (cur B n (sk B n a)) = false ∨ (okW B n (sk B n a) = true ∧ wd B n (sk B n a) ≠ txtL.getD i []) → r.1 = .inl 0 ∧ ∃ a', sk B n a' = sk B n a ∧ PI r.2 X n B a' o ∧ a ≤ a')) := by
  have hr := h.1.2.2.1
  have ha := hr.2.2.2.2
  have hX := h.1.2.1
  have hsk := sk_g (B := B) ha
  have hsi := sk_i (B := B) ha
  have hcu := hr.cur_le (p := sk B n a)
  have h1 := h.1.at2 hsk.2.1
  have pi0 : PI (τ.1, uI τ.2 302 (X + 28) (nI (sk B n a))) X n B (sk B n a) o := h.pf PF.at2 h1
  unfold f_x_X2_passes
  rw [if_pos h.1.1.2.2.1, C_here h.1.1 hr, xbd_some, C_isLetter hcu, xbd_some]
  cases hlt : ltB (cur B n (sk B n a)) with
  | false =>
    have hno : okW B n (sk B n a) = false := by unfold okW; rw [hlt]; rfl
    rw [if_pos (show b32 false = 0 by decide)]
    exact OK_some ⟨PF.at2, by show grc τ.1 ≤ grc τ.1 + _; omega, by show grs τ.1 ≤ grs τ.1 + _; omega, (fun e => by cases e), (fun e => by rw [hno] at e; cases e), fun _ => ⟨rfl, _, hsi, pi0, hsk.1⟩⟩
  | true =>
    rw [if_neg (show ¬ b32 true = 0 by decide)]
    obtain ⟨⟨rr, τ1⟩, e1, q1, q2, q3⟩ := C_word h1 hc hs
    rw [hsi] at q2 q3
    rw [e1]
    have q1' : PF X τ τ1 := PF.trans PF.at2 q1
    cases hok : okW B n (sk B n a) with
    | false =>
      obtain ⟨r1, r2, r3⟩ := q3 hok
      have r1 : rr = .inr (X + 29) := r1
      subst r1
      have r3 : τ1.1 = τ.1 := r3
      exact OK_some ⟨q1', by show grc τ.1 ≤ grc τ1.1 + _; rw [r3]; omega, by show grs τ.1 ≤ grs τ1.1 + _; rw [r3]; omega, fun _ _ => ⟨rfl, r2⟩, (fun e => by cases e), fun e => by
        rcases e with e | e
        · cases e
        · cases e.1⟩
    | true =>
      obtain ⟨r1, r2, r3, r4, r5, r6, r7, r8⟩ := q2 hok
      obtain ⟨w1, w2, w3⟩ := okW_gt hok
      have hal : alB B (sk B n a) = false := by
        unfold okW at hok
        simp only [Bool.and_eq_true, Bool.not_eq_true'] at hok
        exact hok.2
      have r1 : rr = .inl (gz τ.1 + 1) := r1
      subst r1
      have r3 : Str τ1.1 τ1.2 (gz τ.1 + 1) (wd B n (sk B n a)) := r3
      have pi1 : PI τ1 X n B (we B n (sk B n a)) o := h.pf q1' r2
      have ewl : wl B n (sk B n a) = we B n (sk B n a) - sk B n a := by unfold wl; rw [if_pos hok]
      have hl1 : grc τ.1 ≤ grc τ1.1 + 3 * wl B n (sk B n a) := by have r7 : grc τ1.1 + 3 = grc τ.1 := r7; omega
      have hl2 : grs τ.1 ≤ grs τ1.1 + 6 * wl B n (sk B n a) := by have r8 : grs τ1.1 + (2 * (we B n (sk B n a) - sk B n a) + 4) = grs τ.1 := r8; omega
      obtain ⟨x1, x2⟩ := okWs_g ok_txt hi
      have hlit := (pi1.2.1 i hi).str
      have e0 : gA τ1.1 0 (100 + i) = gA τ.1 0 (100 + i) := (q1'.2.1 0 (by omega) (by omega)).2.2.2 _
      rw [e0] at hlit
      show OK (if gK τ1.1 (gz τ.1 + 1) = 19 then (xbd (f_c_J6_equals τ1.1 (gz τ.1 + 1) (gA τ.1 0 (100 + i)) τ1.2) fun r6 τ6 => _) else none) _
      rw [if_pos r3.1, C_equals r3 hlit w3 x1, xbd_some]
      by_cases e : wd B n (sk B n a) = txtL.getD i []
      · rw [decide_eq_true e, if_neg (show ¬ b32 true = 0 by decide)]
        exact OK_some ⟨q1', hl1, hl2, (fun _ z => by rw [hal] at z; cases z), fun _ _ => ⟨rfl, pi1, r5⟩, fun z => by
          rcases z with z | z
          · cases z
          · exact absurd e z.2⟩
      · rw [decide_eq_false e, if_pos (show b32 false = 0 by decide), if_pos pi1.1.1.2.2.1, hr.2.2.2.1]
        have pi2 : PI (τ1.1, uI τ1.2 302 (X + 28) (nI a)) X n B a o := pi1.pf PF.at2 (pi1.1.at2 ha)
        exact OK_some ⟨q1'.trans PF.at2, hl1, hl2, (fun _ z => by rw [hal] at z; cases z), (fun _ z => absurd z e), fun _ => ⟨rfl, a, rfl, pi2, Nat.le_refl _⟩⟩
/-- opens -/
theorem C_opens {p : Nat} (h : PI τ X n B a o) : OK (f_x_X2_opens (X + 28) (nI p) τ) (fun r => PF X τ r.2 ∧ r.2.1 = τ.1 ∧ (o = 6 → r.1 = .inr (X + 29) ∧ FLT r.2.2 X 4 p) ∧ (o ≠ 6 → r.1 = .inl () ∧ PI r.2 X n B a (o + 1) ∧ cI r.2.2 303 (X + 28) = cI τ.2 303 (X + 28))) := by
  obtain ⟨h1, h2, h3, h4, h5, h6⟩ := h.1
  unfold f_x_X2_opens
  rw [if_pos h1.2.2.1, h5]
  by_cases e : o = 6
  · rw [if_pos (by rw [e]; rfl), C_wrong h1, xbd_some, if_pos h1.2.2.2.2.1]
    exact OK_some ⟨((PR.refl (X := X)).u29.u29).pf, rfl, fun _ => ⟨rfl, FLT.mk (k := 4)⟩, fun z => absurd e z⟩
  · rw [if_neg (by show ¬ nI o = nI 6; rw [nI_eq (by omega) (by omega)]; exact e), nl_1, nI_add]
    have pf : PF X τ (τ.1, uI τ.2 304 (X + 28) (nI (o + 1))) := ((PR.refl (X := X)).u304).pf
    refine OK_some ⟨pf, rfl, fun z => absurd z e, fun _ => ⟨rfl, h.pf pf ⟨h1, h2, ⟨h3.1.of ((Eq1.refl τ.2 _).uI (by omega)), h3.2.1, ?_, ?_, h3.2.2.2.2⟩, fun i hi hb => by show cA (uI τ.2 304 (X + 28) _) (X + 27) i = _; rw [cA_uI]; exact h4 i hi hb, ?_, by omega⟩, ?_⟩⟩
    · show cI (uI τ.2 304 (X + 28) _) 301 (X + 28) = _
      rw [cI_uI, if_neg (by omega)]; exact h3.2.2.1
    · show cI (uI τ.2 304 (X + 28) _) 302 (X + 28) = _
      rw [cI_uI, if_neg (by omega)]; exact h3.2.2.2.1
    · show cI (uI τ.2 304 (X + 28) _) 304 (X + 28) = _
      rw [cI_uI, if_pos ⟨rfl, rfl⟩]
    · show cI (uI τ.2 304 (X + 28) _) 303 (X + 28) = _
      rw [cI_uI, if_neg (by omega)]
end ZZE
