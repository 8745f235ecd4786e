/-! PLAIN LAW: the twin's loop over facts: turns -/
set_option maxRecDepth 100000
section KT
/-- the loop over facts, whether one more is asked -/
def ltN (f : Nat) (b : Int32) (τ : TS) : Option TS := itr (fun s_ : Int32 × TS => Bt_qTest_2 s_.1 s_.2) f (b, τ)
/-- behind a fact -/
def ltB' (g f : Nat) (τ : TS) : Option TS := ((itr (fun s_ : TS => Bt_qGoesOnTest_0 s_) g τ).bind Jt_qGoesOnTest_76).bind fun rt => ltN f (if rt.1 = 0 then 0 else 1) rt.2
/-- a fact has ended -/
def ltE (e g f : Nat) (τ : TS) : Option TS := (itr (fun s_ : TS => Bt_qDropsNots_0 s_) e τ).bind fun t => if tI t 5 = 0 then ltB' g f t else none
def LtA (n : Nat) (τ : TS) (a : Nat) (r : TS) : Prop := ∀ f, n - a + 1 < f → ltN f 1 τ = some r
def LtB (n : Nat) (τ : TS) (a : Nat) (r : TS) : Prop := ∀ g f, n - a < g → n - a + 1 < f → ltB' g f τ = some r
def LtE (n : Nat) (τ : TS) (a w : Nat) (r : TS) : Prop := ∀ e g f, w < e → n - a < g → n - a + 1 < f → ltE e g f τ = some r
end KT
section ZZW
variable {τ τ' τ1 q r : TS} {n a p o kx : Nat} {B : Nat → Nat} {W W0 cs : List Nat} {L : List Nat}
theorem ltN_end {f : Nat} : ltN (f + 1) 0 τ = some τ := by
  unfold ltN
  refine itr_inr ?_
  show Bt_qTest_2 0 τ = _
  unfold Bt_qTest_2
  rw [if_pos rfl]
theorem LtA.step {a1 : Nat} (e : Bt_qTest_2 1 τ = some (.inl (1, τ1))) (ha : a < a1) (ha1 : a1 ≤ n) (h : LtA n τ1 a1 r) : LtA n τ a r := by
  intro f hf
  obtain ⟨f', rfl⟩ : ∃ f', f = f' + 1 := ⟨f - 1, by omega⟩
  unfold ltN
  rw [itr_inl (a' := (1, τ1)) e]
  exact h f' (by omega)
theorem LtA.bad (e : Bt_qTest_2 1 τ = some (.inl (1, τ1))) (h : tI τ1 5 ≠ 0) : LtA n τ a τ1 := by
  intro f hf
  obtain ⟨f', rfl⟩ : ∃ f', f = f' + 1 + 1 := ⟨f - 2, by omega⟩
  unfold ltN
  rw [itr_inl (a' := (1, τ1)) e, itr_inr (b := τ1) (by
    show Bt_qTest_2 1 τ1 = _
    unfold Bt_qTest_2
    rw [if_neg (by decide), if_neg h])]
/-- a square is opened -/
theorem T_A_sq (h : TQs τ n B a o 0 W cs) (hc : cur B n (sk B n a) = 91) (hl : cs.length + (W.length + 1) ≤ 1680) : ∃ τ1, Bt_qTest_2 1 τ = some (.inl (1, τ1)) ∧ TY inQ aQ τ τ1 ∧ (o = 6 → TF τ1 4 (sk B n a)) ∧ (o ≠ 6 → TQs τ1 n B (sk B n a + 1) (o + 1) 0 (W ++ [25]) cs) := by
  have h' := h.skip
  unfold Bt_qTest_2
  rw [if_neg (by decide), if_pos h.1.2.1, h.1.look.1, xbd_some, hc, if_pos (by decide), h'.1.1.2.2.2.1, nl_25]
  obtain ⟨q, e3, q1, q2, q3⟩ := T_qOpens (x := 25) (p := sk B n a) h' (by omega) hl
  rw [e3, Option.bind_some]
  refine ⟨_, rfl, (((TY.refl inQ aQ τ).sI (Or.inl rfl)).trans q1).sI (Or.inl rfl), fun e => (q2 e).1.s2, fun e => ?_⟩
  have := q3 e
  have c := cur_lt hc (by omega)
  rw [this.1.1.2.2.2.1, nl_1, nI_add]
  exact this.sign c.1 (by rw [c.2]; decide) (by rw [c.2]; decide)
theorem hW_okW (h : hW B n p L = true) : okW B n p = true ∧ wd B n p = L := by
  unfold hW at h
  simp only [Bool.and_eq_true, decide_eq_true_eq] at h
  exact h
theorem okW_91 (h : okW B n p = true) : cur B n p ≠ 91 ∧ cur B n p ≠ 93 ∧ cur B n p ≤ 256 := by
  unfold okW at h
  simp only [Bool.and_eq_true] at h
  have := ltB_b h.1
  omega
/-- not -/
theorem T_A_not (h : TQs τ n B a o 0 W cs) (hw : TW τ) (hh : hW B n (sk B n a) (txtL.getD 17 []) = true) (hl : cs.length + (W.length + 1) ≤ 1680) : ∃ τ1, Bt_qTest_2 1 τ = some (.inl (1, τ1)) ∧ TY inQ aQ τ τ1 ∧ (o = 6 → TF τ1 4 (sk B n a)) ∧ (o ≠ 6 → TQs τ1 n B (we B n (sk B n a)) (o + 1) 0 (W ++ [12]) cs) := by
  have h' := h.skip
  have hw' : TW (sI τ 2 (nI (sk B n a))) := hw.of (fun x _ i => rfl)
  have hp : sk B n (sk B n a) = sk B n a := sk_i h.1.1.2.2.2.2
  obtain ⟨c1, -, c2⟩ := okW_91 (hW_okW hh).1
  unfold Bt_qTest_2
  rw [if_neg (by decide), if_pos h.1.2.1, h.1.look.1, xbd_some, if_neg (by show ¬ chI _ = nI 91; rw [ch_ne c2 (by omega)]; exact c1), T_isHere' h'.1 hp hw'.2.2.2.1, xbd_some, hh, if_neg (show ¬ b32 true = 0 by decide), h'.1.1.2.2.2.1, nl_12]
  obtain ⟨q, e3, q1, q2, q3⟩ := T_qOpens (x := 12) (p := sk B n a) h' (by omega) hl
  have tx : TY inQ aQ τ q := ((TY.refl inQ aQ τ).sI (Or.inl rfl)).trans q1
  rw [e3, Option.bind_some]
  by_cases e : o = 6
  · have hf := (q2 e).1
    rw [T_asksBad (hf.bad (by omega) (by omega)), Option.bind_some]
    exact ⟨_, rfl, tx, fun _ => hf, fun z => absurd e z⟩
  · obtain ⟨q', e4, r1, r2, -⟩ := (q3 e).asks (hw.tx tx).2.2.2.1
    rw [e4, Option.bind_some]
    rw [hp] at r2
    exact ⟨_, rfl, tx.trans r1, fun z => absurd z e, fun _ => r2 hh⟩
/-- neither a square nor not: a fact is read -/
theorem T_A_fact (h : TQs τ n B a o 0 W cs) (hw : TW τ) (hc : cur B n (sk B n a) ≠ 91) (hh : hW B n (sk B n a) (txtL.getD 17 []) = false) : ∀ f, ltN (f + 1) 1 τ = (f_t_qFact (sI τ 2 (nI (sk B n a)))).bind fun τ4 => (f_t_qDropsNots τ4).bind fun τ5 => if tI τ5 5 = 0 then ltB' 4096 f τ5 else ltN f 0 τ5 := by
  have h' := h.skip
  have hw' : TW (sI τ 2 (nI (sk B n a))) := hw.of (fun x _ i => rfl)
  have hp : sk B n (sk B n a) = sk B n a := sk_i h.1.1.2.2.2.2
  intro f
  unfold ltN
  rw [itr_s]
  show (Bt_qTest_2 1 τ).bind _ = _
  unfold Bt_qTest_2
  rw [if_neg (by decide), if_pos h.1.2.1, h.1.look.1, xbd_some, if_neg (by show ¬ chI _ = nI 91; rw [ch_ne (h'.1.cur_le) (by omega)]; exact hc), T_isHere' h'.1 hp hw'.2.2.2.1, xbd_some, hh, if_pos (show b32 false = 0 by decide)]
  cases f_t_qFact (sI τ 2 (nI (sk B n a))) with
  | none => rfl
  | some τ4 =>
    rw [Option.bind_some, Option.bind_some]
    cases f_t_qDropsNots τ4 with
    | none => rfl
    | some τ5 =>
      rw [Option.bind_some, Option.bind_some]
      by_cases e : tI τ5 5 = 0
      · rw [if_pos e, if_pos e]
        unfold f_t_qGoesOnTest ltB' ltN
        cases (itr (fun s_ : TS => Bt_qGoesOnTest_0 s_) 4096 τ5).bind Jt_qGoesOnTest_76 with
        | none => rfl
        | some rt =>
          show (if rt.1 = 0 then _ else _ : Option ((Int32 × TS) ⊕ TS)).bind _ = itr _ f (if rt.1 = 0 then 0 else 1, rt.2)
          by_cases e2 : rt.1 = 0
          · rw [if_pos e2, if_pos e2]; rfl
          · rw [if_neg e2, if_neg e2]; rfl
      · rw [if_neg e, if_neg e]; rfl
theorem T_A_good {a' : Nat} {τ4 : TS} (h : TQs τ n B a o 0 W cs) (hw : TW τ) (hc : cur B n (sk B n a) ≠ 91) (hh : hW B n (sk B n a) (txtL.getD 17 []) = false) (e : f_t_qFact (sI τ 2 (nI (sk B n a))) = some τ4) (ha : a < a') (ha' : a' ≤ n) (hWl : W.length ≤ 1680) (hr : LtE n τ4 a' W.length r) : LtA n τ a r := by
  have hn := h.1.1.2.1
  intro f hf
  obtain ⟨f', rfl⟩ : ∃ f', f = f' + 1 := ⟨f - 1, by omega⟩
  rw [T_A_fact h hw hc hh, e, Option.bind_some]
  have z := hr 4096 4096 f' (by omega) (by omega) (by omega)
  unfold ltE at z
  unfold f_t_qDropsNots
  cases ei : itr (fun s_ : TS => Bt_qDropsNots_0 s_) 4096 τ4 with
  | none => rw [ei] at z; cases z
  | some t =>
    rw [ei, Option.bind_some] at z
    rw [Option.bind_some, Option.bind_some]
    by_cases e5 : tI t 5 = 0
    · rw [if_pos e5] at z ⊢; exact z
    · rw [if_neg e5] at z; cases z
theorem T_A_ill {τ4 : TS} (h : TQs τ n B a o 0 W cs) (hw : TW τ) (hc : cur B n (sk B n a) ≠ 91) (hh : hW B n (sk B n a) (txtL.getD 17 []) = false) (e : f_t_qFact (sI τ 2 (nI (sk B n a))) = some τ4) (h5 : tI τ4 5 ≠ 0) : LtA n τ a τ4 := by
  intro f hf
  obtain ⟨f', rfl⟩ : ∃ f', f = f' + 1 + 1 := ⟨f - 2, by omega⟩
  rw [T_A_fact h hw hc hh, e, Option.bind_some]
  unfold f_t_qDropsNots
  rw [itr_inr (b := τ4) (by
    show Bt_qDropsNots_0 τ4 = _
    unfold Bt_qDropsNots_0
    rw [if_neg h5]), Option.bind_some, Option.bind_some, if_neg h5, ltN_end]
/-- a not that waited is told -/
theorem T_E_not (h : TQs τ n B a (o + 1) 0 (W ++ [12]) cs) : ∃ τ1, TQs τ1 n B a o 0 W (cs ++ [12]) ∧ TY inQ aQ τ τ1 ∧ ∀ r, LtE n τ1 a W.length r → LtE n τ a (W ++ [12]).length r := by
  have ho := h.2.1
  have h2 : TQs (sI τ 124 (nI o)) n B a o 0 (W ++ [12]) cs := ⟨h.1.of (fun k hk => by rw [tI_sI, if_neg (by omega)]) (fun _ => rfl), ⟨by rw [tI_sI, if_pos rfl], by omega⟩, ⟨by rw [tI_sI, if_neg (by omega)]; exact h.2.2.1.1, h.2.2.1.2⟩, ⟨by rw [tI_sI, if_neg (by omega)]; exact h.2.2.2.1.1, h.2.2.2.1.2⟩, ⟨by rw [tI_sI, if_neg (by omega)]; exact h.2.2.2.2.1.1, h.2.2.2.2.1.2⟩, h.2.2.2.2.2⟩
  obtain ⟨q, e, q1, q2⟩ := T_qDrops h2 (by omega)
  have body : Bt_qDropsNots_0 τ = some (.inl q) := by
    unfold Bt_qDropsNots_0
    rw [if_pos h.1.2.1, nl_12, T_qIsOn h (by omega), xbd_some, topIs_app, if_neg (show ¬ b32 (decide (12 = 12)) = 0 by decide), ho.1, nl_1, nI_m1 (by omega), show o + 1 - 1 = o by omega, e, Option.bind_some]
  refine ⟨q, q1, ((TY.refl inQ aQ τ).sI (Or.inl rfl)).trans q2, fun r hr e' g f he hg hf => ?_⟩
  have hl : (W ++ [12]).length = W.length + 1 := by simp
  rw [hl] at he
  obtain ⟨e0, rfl⟩ : ∃ e0, e' = e0 + 1 := ⟨e' - 1, by omega⟩
  unfold ltE
  rw [itr_inl body]
  exact hr e0 g f (by omega) hg hf
/-- no not waits for it -/
theorem T_E_no (h : TQs τ n B a o 0 W cs) (ht : topIs W 12 = false) (hr : LtB n τ a r) : LtE n τ a W.length r := by
  intro e g f he hg hf
  obtain ⟨e0, rfl⟩ : ∃ e0, e = e0 + 1 := ⟨e - 1, by omega⟩
  unfold ltE
  rw [itr_inr (b := τ) (by
    show Bt_qDropsNots_0 τ = _
    unfold Bt_qDropsNots_0
    rw [if_pos h.1.2.1, nl_12, T_qIsOn h (by omega), xbd_some, ht, if_pos (show b32 false = 0 by decide)]), Option.bind_some, if_pos h.1.2.1]
  exact hr g f hg hf
/-- whether a square is open -/
theorem T_hasSq (h : TQs τ n B a o 0 W cs) : f_t_qHasSquare τ = some (b32 (decide (25 ∈ W)), τ) := by
  obtain ⟨h1, h2, h3, h4, h5, h6, h7⟩ := h
  have key : OK (itr (fun s_ : Int32 × TS => Bt_qHasSquare_2 s_.1 s_.2) 4096 (nI 0, τ)) (fun o => (o = .inl τ ∧ ¬ 25 ∈ W) ∨ (o = .inr (1, τ) ∧ 25 ∈ W)) := by
    refine itr_for (fun i s => s = (nI i, τ) ∧ ∀ j, j < i → W.getD j 0 ≠ 25) _ 0 W.length ?_ ?_ (by omega) (by omega) ⟨rfl, fun j hj => absurd hj (Nat.not_lt_zero j)⟩
    · rintro i s - hi ⟨rfl, hj⟩
      have hm : W.getD i 0 ∈ W := by
        rw [List.getD_eq_getElem?_getD, List.getElem?_eq_getElem hi]
        exact List.getElem_mem _
      have hx := h7 _ hm
      show OK (Bt_qHasSquare_2 (nI i) τ) _
      unfold Bt_qHasSquare_2
      rw [h4.1, if_neg (by rw [nI_leI (by omega) (by omega)]; omega), if_pos (xin_nI (show i < 1700 by omega) (by omega)), nI_clamp (show i < 2 ^ 31 by omega), h4.2 i hi, nl_1, nI_add, nl_25]
      by_cases e : W.getD i 0 = 25
      · rw [if_pos (by rw [e])]
        exact OK_some (Or.inr ⟨_, rfl, Or.inr ⟨rfl, by rw [e] at hm; exact hm⟩⟩)
      · rw [if_neg (by rw [nI_eq (by omega) (by omega)]; exact e)]
        refine OK_some (Or.inl ⟨_, rfl, rfl, fun j hj2 => ?_⟩)
        by_cases ej : j = i
        · rw [ej]; exact e
        · exact hj j (by omega)
    · rintro s ⟨rfl, hj⟩
      show OK (Bt_qHasSquare_2 (nI W.length) τ) _
      unfold Bt_qHasSquare_2
      rw [h4.1, if_pos (by rw [nI_leI (by omega) (by omega)]; omega)]
      refine OK_some ⟨_, rfl, Or.inl ⟨rfl, fun hm => ?_⟩⟩
      obtain ⟨i, hi, e⟩ := List.getElem_of_mem hm
      refine hj i hi ?_
      rw [List.getD_eq_getElem?_getD, List.getElem?_eq_getElem hi]
      exact e
  obtain ⟨v, e, hv⟩ := key
  unfold f_t_qHasSquare
  rw [show (0 : Int32) = nI 0 from rfl, e, Option.bind_some]
  rcases hv with ⟨rfl, hv⟩ | ⟨rfl, hv⟩
  · rw [decide_eq_false hv]; rfl
  · rw [decide_eq_true hv]; rfl
end ZZW
