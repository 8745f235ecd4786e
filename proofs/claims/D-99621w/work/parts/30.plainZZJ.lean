/-! PLAIN LAW: which word is here: the twin's -/
set_option maxRecDepth 100000
def allW : List (List Nat) := askL ++ lookL
/-- the twin's words -/
def TW (τ : TS) : Prop := (∀ i, i < 33 → TWd τ (11 + i) (ownL.getD i [])) ∧ (∀ i, i < 20 → TWd τ (100 + i) (allW.getD i [])) ∧ (∀ i, i < 6 → TWd τ (88 + i) (toldL.getD i [])) ∧ TWd τ 94 (txtL.getD 17 []) ∧ TWd τ 95 (txtL.getD 19 []) ∧ TWd τ 96 (txtL.getD 20 []) ∧ TWd τ 97 (txtL.getD 18 []) ∧ TWd τ 98 (txtL.getD 15 []) ∧ TWd τ 99 (txtL.getD 16 [])
theorem TWd.of {τ τ' : TS} {x : Nat} {L : List Nat} (h : TWd τ x L) (e : ∀ i, tA τ' x i = tA τ x i) : TWd τ' x L := ⟨h.1, h.2.1, h.2.2.1, fun i hi => by rw [e]; exact h.2.2.2 i hi⟩
def isWf (k : Nat) : Bool := (decide (11 ≤ k) && decide (k < 44)) || (decide (88 ≤ k) && decide (k < 120))
theorem TW.of {τ τ' : TS} (h : TW τ) (e : ∀ x, isWf x = true → ∀ i, tA τ' x i = tA τ x i) : TW τ' := by
  obtain ⟨h1, h2, h3, h4, h5, h6, h7, h8, h9⟩ := h
  exact ⟨fun i hi => (h1 i hi).of (e _ (by unfold isWf; simp; omega)), fun i hi => (h2 i hi).of (e _ (by unfold isWf; simp; omega)), fun i hi => (h3 i hi).of (e _ (by unfold isWf; simp; omega)), h4.of (e _ rfl), h5.of (e _ rfl), h6.of (e _ rfl), h7.of (e _ rfl), h8.of (e _ rfl), h9.of (e _ rfl)⟩
/-- a word stands here -/
def hW (B : Nat → Nat) (n p : Nat) (L : List Nat) : Bool := okW B n p && decide (wd B n p = L)
/-- the first of the words from k on -/
def fstW (P : Nat → Bool) : Nat → Nat → Int32
  | 0, _ => -1
  | d + 1, k => if P k = true then nI k else fstW P d (k + 1)
theorem fstW_g {P : Nat → Bool} : ∀ d k, (∃ j, k ≤ j ∧ j < k + d ∧ P j = true ∧ (∀ i, k ≤ i → i < j → P i = false) ∧ fstW P d k = nI j) ∨ ((∀ i, k ≤ i → i < k + d → P i = false) ∧ fstW P d k = -1)
  | 0, k => Or.inr ⟨fun i h1 h2 => by omega, rfl⟩
  | d + 1, k => by
    by_cases h : P k = true
    · refine Or.inl ⟨k, Nat.le_refl _, by omega, h, fun i h1 h2 => by omega, ?_⟩
      show (if P k = true then nI k else _) = _
      rw [if_pos h]
    · have h : P k = false := by simpa using h
      have e : fstW P (d + 1) k = fstW P d (k + 1) := by
        show (if P k = true then nI k else _) = _
        rw [if_neg (by rw [h]; decide)]
      rw [e]
      have ext : ∀ i m, k ≤ i → (∀ i, k + 1 ≤ i → i < m → P i = false) → i < m → P i = false := fun i m h1 h2 h3 => by
        by_cases ei : i = k
        · rw [ei]; exact h
        · exact h2 i (by omega) h3
      rcases fstW_g (P := P) d (k + 1) with ⟨j, a, b, c, f, g⟩ | ⟨a, b⟩
      · exact Or.inl ⟨j, by omega, by omega, c, fun i h1 h2 => ext i j h1 f h2, g⟩
      · exact Or.inr ⟨fun i h1 h2 => ext i (k + 1 + d) h1 a (by omega), b⟩
section ZZJ
variable {τ τ' : TS} {n a p o bs kx : Nat} {B : Nat → Nat} {W cs : List Nat} {L : List Nat}
theorem T_isHere' {x : Nat} (h : TPs τ n B p) (hp : sk B n p = p) (hw : TWd τ x L) : f_t_isHere x τ = some (b32 (hW B n p L), τ) := by
  rw [T_isHere h hw, hp, sI_same h.1.2.2.2.1]; rfl
theorem here_if {x : Nat} {b : Bool} {A : TS → Option (Int32 × TS)} {v : Int32} (e : f_t_isHere x τ = some (b32 b, τ)) : (xbd (f_t_isHere x τ) fun r t => if r = 0 then A t else some (v, t)) = if b = true then some (v, τ) else A τ := by
  rw [e, xbd_some]
  cases b
  · rw [if_pos (show b32 false = 0 by decide), if_neg (by decide)]
  · rw [if_neg (show ¬ b32 true = 0 by decide), if_pos rfl]
/-- which words count -/
def wP (B : Nat → Nat) (n kx p k : Nat) : Bool := hW B n p (allW.getD k []) && (decide (kx < 2) || !(k == 1 || k == 2))
theorem fst_s {P : Nat → Bool} {d k : Nat} : fstW P (d + 1) k = if P k = true then nI k else fstW P d (k + 1) := rfl
theorem some_if {c : Prop} [Decidable c] {u v : Int32} : (some ((if c then u else v), τ) : Option (Int32 × TS)) = if c then some (u, τ) else some (v, τ) := by split <;> rfl
theorem T_qWordHere (h : TPs τ n B a) (hw : TW τ) (hk : tI τ 61 = nI kx) (hk2 : kx ≤ 2) : f_t_qWordHere τ = some (fstW (wP B n kx (sk B n a)) 20 0, sI τ 2 (nI (sk B n a))) := by
  obtain ⟨e1, h'⟩ := h.look
  have hw' : TW (sI τ 2 (nI (sk B n a))) := hw.of (fun x _ i => rfl)
  have hk' : tI (sI τ 2 (nI (sk B n a))) 61 = nI kx := by rw [tI_sI, if_neg (by omega)]; exact hk
  have e0 : f_t_isHere 100 τ = some (b32 (hW B n (sk B n a) (allW.getD 0 [])), sI τ 2 (nI (sk B n a))) := T_isHere h (hw.2.1 0 (by omega))
  have hp : sk B n (sk B n a) = sk B n a := sk_i h.1.2.2.2.2
  generalize sk B n a = p at *
  generalize sI τ 2 (nI p) = t at *
  have ee : ∀ i, i < 20 → f_t_isHere (100 + i) t = some (b32 (hW B n p (allW.getD i [])), t) := fun i hi => T_isHere' h' hp (hw'.2.1 i hi)
  have w3 : ∀ k, 3 ≤ k → wP B n kx p k = hW B n p (allW.getD k []) := fun k h3 => by
    unfold wP
    rw [show (k == 1 || k == 2) = false by simp; omega]; simp
  have w0 : wP B n kx p 0 = hW B n p (allW.getD 0 []) := by unfold wP; simp
  have j55 : Jt_qWordHere_55 t = some (fstW (wP B n kx p) 17 3, t) := by
    unfold Jt_qWordHere_55
    rw [here_if (ee 3 (by omega)), fst_s, w3 3 (by omega), some_if]; congr 1
    rw [here_if (ee 4 (by omega)), fst_s, w3 4 (by omega), some_if]; congr 1
    rw [here_if (ee 5 (by omega)), fst_s, w3 5 (by omega), some_if]; congr 1
    rw [here_if (ee 6 (by omega)), fst_s, w3 6 (by omega), some_if]; congr 1
    rw [here_if (ee 7 (by omega)), fst_s, w3 7 (by omega), some_if]; congr 1
    rw [here_if (ee 8 (by omega)), fst_s, w3 8 (by omega), some_if]; congr 1
    rw [here_if (ee 9 (by omega)), fst_s, w3 9 (by omega), some_if]; congr 1
    rw [here_if (ee 10 (by omega)), fst_s, w3 10 (by omega), some_if]; congr 1
    rw [here_if (ee 11 (by omega)), fst_s, w3 11 (by omega), some_if]; congr 1
    rw [here_if (ee 12 (by omega)), fst_s, w3 12 (by omega), some_if]; congr 1
    rw [here_if (ee 13 (by omega)), fst_s, w3 13 (by omega), some_if]; congr 1
    rw [here_if (ee 14 (by omega)), fst_s, w3 14 (by omega), some_if]; congr 1
    rw [here_if (ee 15 (by omega)), fst_s, w3 15 (by omega), some_if]; congr 1
    rw [here_if (ee 16 (by omega)), fst_s, w3 16 (by omega), some_if]; congr 1
    rw [here_if (ee 17 (by omega)), fst_s, w3 17 (by omega), some_if]; congr 1
    rw [here_if (ee 18 (by omega)), fst_s, w3 18 (by omega), some_if]; congr 1
    rw [here_if (ee 19 (by omega)), fst_s, w3 19 (by omega), some_if]; congr 1
  have k2 : (2 ≤ tI t 61) ↔ ¬ kx < 2 := by
    rw [hk']
    show nI 2 ≤ nI kx ↔ _
    rw [nI_leI (by omega) (by omega)]; omega
  unfold f_t_qWordHere Jt_qWordHere_34
  rw [e0, xbd_some, fst_s, w0]
  cases hW B n p (allW.getD 0 []) with
  | true => rw [if_neg (show ¬ b32 true = 0 by decide), if_pos rfl]; rfl
  | false =>
    rw [if_pos (show b32 false = 0 by decide), if_neg (show ¬ false = true by decide)]
    by_cases hkx : kx < 2
    · have wk : ∀ k, wP B n kx p k = hW B n p (allW.getD k []) := fun k => by unfold wP; rw [decide_eq_true hkx]; simp
      have z : ¬ 2 ≤ tI t 61 := fun z => k2.mp z hkx
      rw [if_neg z]
      rw [here_if (A := fun t => if 2 ≤ tI t 61 then Jt_qWordHere_55 t else xbd (f_t_isHere 102 t) fun r t => if r = 0 then Jt_qWordHere_55 t else some (2, t)) (ee 1 (by omega)), fst_s, wk 1, some_if]; congr 1
      rw [if_neg z, here_if (ee 2 (by omega)), fst_s, wk 2, some_if]; congr 1
    · have wk : ∀ k, k = 1 ∨ k = 2 → wP B n kx p k = false := fun k hk => by
        unfold wP; rw [decide_eq_false hkx]
        rcases hk with rfl | rfl <;> simp
      rw [if_pos (k2.mpr hkx), if_pos (k2.mpr hkx), fst_s, wk 1 (Or.inl rfl), if_neg (show ¬ false = true by decide), fst_s, wk 2 (Or.inr rfl), if_neg (show ¬ false = true by decide), j55]
theorem T_isAllowed {k : Nat} (hk : tI τ 61 = nI kx) (hk2 : kx ≤ 2) (hb : k < 20) : f_t_isAllowed (nI k) τ = some (b32 (alw kx k), τ) := by
  unfold f_t_isAllowed Jt_isAllowed_46 Jt_isAllowed_65 alw
  rw [hk]
  have e : (kx = 0 ∨ kx = 1 ∨ kx = 2) := by omega
  have hk3 : ∀ k, k < 20 → (if nI kx = 0 then (if 8 ≤ nI k then some ((0 : Int32), τ) else some (1, τ)) else if nI kx = 1 then (if nI k < 4 then some (1, τ) else if nI k = 8 then some (1, τ) else if nI k = 9 then some (1, τ) else some (0, τ)) else if nI k = 3 then some (1, τ) else if nI k ≤ 9 then some (0, τ) else some (1, τ)) = some (b32 (if kx = 0 then decide (k < 8) else if kx = 1 then decide (k < 4) || k == 8 || k == 9 else k == 3 || decide (9 < k)), τ) := by
    have key : ∀ x, x < 3 → ∀ k, k < 20 → (if nI x = 0 then (if 8 ≤ nI k then (0 : Int32) else 1) else if nI x = 1 then (if nI k < 4 then 1 else if nI k = 8 then 1 else if nI k = 9 then 1 else 0) else if nI k = 3 then 1 else if nI k ≤ 9 then 0 else 1) = b32 (if x = 0 then decide (k < 8) else if x = 1 then decide (k < 4) || k == 8 || k == 9 else k == 3 || decide (9 < k)) := by decide
    intro k hk
    rw [← key kx (by omega) k hk]
    split
    · split <;> rfl
    · split
      · split
        · rfl
        · split
          · rfl
          · split <;> rfl
      · split
        · rfl
        · split <;> rfl
  exact hk3 k hb
def injB (i j : Nat) : Bool := !(allW.getD i [] == allW.getD j []) || i == j || (i == 1 && j == 18) || (i == 18 && j == 1) || (i == 2 && j == 19) || (i == 19 && j == 2)
theorem injB_t : ∀ i, i < 20 → ∀ j, j < 20 → injB i j = true := by decide
theorem allW_inj (i : Nat) (hi : i < 20) (j : Nat) (hj : j < 20) (e : allW.getD i [] = allW.getD j []) : i = j ∨ (i = 1 ∧ j = 18) ∨ (i = 18 ∧ j = 1) ∨ (i = 2 ∧ j = 19) ∨ (i = 19 ∧ j = 2) := by
  have h := injB_t i hi j hj
  unfold injB at h
  simp only [e, beq_self_eq_true, Bool.not_true, Bool.false_or, Bool.or_eq_true, Bool.and_eq_true, beq_iff_eq] at h
  omega
theorem allW_ask : ∀ k, k < 18 → allW.getD k [] = askL.getD k [] := by decide
theorem allW_look : ∀ k, k < 2 → allW.getD (18 + k) [] = lookL.getD k [] := by decide
theorem allW_two : ∀ k, k < 2 → allW.getD (18 + k) [] = allW.getD (1 + k) [] := by decide
theorem wP_t {k : Nat} : wP B n kx p k = true ↔ okW B n p = true ∧ wd B n p = allW.getD k [] ∧ (kx < 2 ∨ (k ≠ 1 ∧ k ≠ 2)) := by
  unfold wP hW
  simp only [Bool.and_eq_true, decide_eq_true_eq, Bool.or_eq_true, Bool.not_eq_true', Bool.or_eq_false_iff, beq_eq_false_iff_ne, and_assoc]
/-- a word that looks up -/
theorem T_qOf (h : TPs τ n B a) (hw : TW τ) (hk : tI τ 61 = nI kx) (hk2 : kx ≤ 2) : ∃ r, f_t_qWordOf 18 20 τ = some (r, sI τ 2 (nI (sk B n a))) ∧ ((∃ j, j < 2 ∧ r = nI (18 + j) ∧ kx = 2 ∧ okW B n (sk B n a) = true ∧ lookL.getD j [] = wd B n (sk B n a)) ∨ (r = -1 ∧ (kx = 2 → okW B n (sk B n a) = true → ∀ j, j < 2 → lookL.getD j [] ≠ wd B n (sk B n a)))) := by
  unfold f_t_qWordOf Jt_qWordOf_27
  rw [T_qWordHere h hw hk hk2, xbd_some]
  have hk' : tI (sI τ 2 (nI (sk B n a))) 61 = nI kx := by rw [tI_sI, if_neg (by omega)]; exact hk
  generalize sk B n a = p at *
  generalize sI τ 2 (nI p) = t at *
  rcases fstW_g (P := wP B n kx p) 20 0 with ⟨j, -, j1, j2, j3, j4⟩ | ⟨j1, j2⟩
  · rw [j4]
    have j2 := wP_t.mp j2
    by_cases hj : j < 18
    · rw [if_pos (by show nI j < nI 18; rw [nI_ltI (by omega) (by omega)]; exact hj)]
      refine ⟨-1, rfl, Or.inr ⟨rfl, fun e1 e2 i hi e3 => ?_⟩⟩
      rw [← allW_look i hi, j2.2.1] at e3
      have := allW_inj _ (by omega) _ (by omega) e3
      omega
    · have hkx : kx = 2 := by
        by_cases e : kx = 2
        · exact e
        · have := j3 (1 + (j - 18)) (by omega) (by omega)
          rw [wP_t.mpr ⟨j2.1, by rw [← allW_two (j - 18) (by omega), show 18 + (j - 18) = j by omega]; exact j2.2.1, Or.inl (by omega)⟩] at this
          cases this
      rw [if_neg (by show ¬ nI j < nI 18; rw [nI_ltI (by omega) (by omega)]; exact hj), if_neg (by show ¬ nI 20 ≤ nI j; rw [nI_leI (by omega) (by omega)]; omega), T_isAllowed hk' hk2 (by omega), xbd_some]
      have ea : alw kx j = true := by rw [hkx]; unfold alw; simp; omega
      rw [ea, if_neg (show ¬ b32 true = 0 by decide)]
      refine ⟨_, rfl, Or.inl ⟨j - 18, by omega, by rw [show 18 + (j - 18) = j by omega], hkx, j2.1, ?_⟩⟩
      rw [← allW_look _ (by omega), show 18 + (j - 18) = j by omega]; exact j2.2.1.symm
  · rw [j2, if_pos (by decide)]
    refine ⟨-1, rfl, Or.inr ⟨rfl, fun e1 e2 i hi e3 => ?_⟩⟩
    have := j1 (18 + i) (by omega) (by omega)
    rw [wP_t.mpr ⟨e2, by rw [allW_look i hi]; exact e3.symm, Or.inr (by omega)⟩] at this
    cases this
/-- a word that is a part -/
theorem T_qPart (h : TPs τ n B a) (hw : TW τ) (hk : tI τ 61 = nI kx) (hk2 : kx ≤ 2) : ∃ r, f_t_qWordOf 0 18 τ = some (r, sI τ 2 (nI (sk B n a))) ∧ ((∃ k, k < 18 ∧ r = nI k ∧ okW B n (sk B n a) = true ∧ askL.getD k [] = wd B n (sk B n a) ∧ alw kx k = true) ∨ (r = -1 ∧ (okW B n (sk B n a) = true → ∀ k, k < 18 → askL.getD k [] = wd B n (sk B n a) → alw kx k = false))) := by
  unfold f_t_qWordOf Jt_qWordOf_27
  rw [T_qWordHere h hw hk hk2, xbd_some]
  have hk' : tI (sI τ 2 (nI (sk B n a))) 61 = nI kx := by rw [tI_sI, if_neg (by omega)]; exact hk
  generalize sk B n a = p at *
  generalize sI τ 2 (nI p) = t at *
  have two : ∀ k, k = 1 ∨ k = 2 → ¬ kx < 2 → alw kx k = false := fun k h1 h2 => by
    have e : kx = 2 := by omega
    rw [e]; rcases h1 with rfl | rfl <;> rfl
  rcases fstW_g (P := wP B n kx p) 20 0 with ⟨j, -, j1, j2, j3, j4⟩ | ⟨j1, j2⟩
  · rw [j4]
    have j2 := wP_t.mp j2
    rw [if_neg (by show ¬ nI j < nI 0; rw [nI_ltI (by omega) (by omega)]; omega)]
    by_cases hj : j < 18
    · rw [if_neg (by show ¬ nI 18 ≤ nI j; rw [nI_leI (by omega) (by omega)]; omega), T_isAllowed hk' hk2 (by omega), xbd_some]
      cases ea : alw kx j with
      | true =>
        rw [if_neg (show ¬ b32 true = 0 by decide)]
        exact ⟨_, rfl, Or.inl ⟨j, hj, rfl, j2.1, by rw [← allW_ask j hj]; exact j2.2.1.symm, ea⟩⟩
      | false =>
        rw [if_pos (show b32 false = 0 by decide)]
        refine ⟨_, rfl, Or.inr ⟨rfl, fun e1 k hk e3 => ?_⟩⟩
        rw [← allW_ask k hk, j2.2.1] at e3
        have := allW_inj _ (by omega) _ (by omega) e3
        have e : k = j := by omega
        rw [e]; exact ea
    · rw [if_pos (by show nI 18 ≤ nI j; rw [nI_leI (by omega) (by omega)]; omega)]
      refine ⟨_, rfl, Or.inr ⟨rfl, fun e1 k hk e3 => ?_⟩⟩
      rw [← allW_ask k hk, j2.2.1] at e3
      have hh := allW_inj _ (by omega) _ (by omega) e3
      refine two k (by omega) (fun z => ?_)
      have := j3 k (by omega) (by omega)
      rw [wP_t.mpr ⟨j2.1, by rw [e3]; exact j2.2.1, Or.inl z⟩] at this
      cases this
  · rw [j2, if_pos (by decide)]
    refine ⟨-1, rfl, Or.inr ⟨rfl, fun e1 k hk e3 => ?_⟩⟩
    have hn := j1 k (by omega) (by omega)
    by_cases e : kx < 2 ∨ (k ≠ 1 ∧ k ≠ 2)
    · rw [wP_t.mpr ⟨e1, by rw [allW_ask k hk]; exact e3.symm, e⟩] at hn
      cases hn
    · exact two k (by omega) (by omega)
end ZZJ
