/-! PLAIN LAW: the twin's loop over parts, as what is still to come -/
set_option maxRecDepth 100000
theorem itr_s {α β : Type} {B : α → Option (α ⊕ β)} {n : Nat} {a : α} : itr B (n + 1) a = (B a).bind (Sum.elim (itr B n) some) := by
  rw [itr]
  cases B a with
  | none => rfl
  | some v => cases v <;> rfl
section KK
variable (x : Int32)
/-- the loop over parts, whether one more is asked -/
def lpN (f : Nat) (b : Int32) (τ : TS) : Option TS := itr (fun s_ : Int32 × TS => Bt_qSums_15 x s_.1 s_.2) f (b, τ)
/-- behind a part -/
def lpB (g f : Nat) (τ : TS) : Option TS := ((itr (fun s_ : TS => Bt_qGoesOn_0 s_) g τ).bind Jt_qGoesOn_122).bind fun rt => lpN x f (if rt.1 = 0 then 0 else 1) rt.2
def lpT (f : Nat) (τ : TS) : Option TS := if tI τ 5 = 0 then lpB x 4096 f τ else lpN x f 0 τ
/-- a part has ended -/
def lpE (e g f : Nat) (τ : TS) : Option TS := (itr (fun s_ : TS => Bt_qEndsPart_0 s_) e τ).bind fun t => if tI t 5 = 0 then lpB x g f t else none
/-- a part is asked -/
def lpA (i f : Nat) (τ : TS) : Option TS := ((itr (fun s_ : Int32 × TS => Bt_qPartTold_2 s_.1 s_.2) i (1, τ)).bind Jt_qPartTold_186).bind (lpT x f)
/-- what comes of it, with time enough -/
def LpA (n : Nat) (τ : TS) (a : Nat) (r : TS) : Prop := ∀ i f, n - a + 1 < i → n - a < f → lpA x i f τ = some r
def LpB (n : Nat) (τ : TS) (a : Nat) (r : TS) : Prop := ∀ g f, n - a < g → n - a < f → lpB x g f τ = some r
def LpE (n : Nat) (τ : TS) (a w : Nat) (r : TS) : Prop := ∀ e g f, w < e → n - a < g → n - a < f → lpE x e g f τ = some r
end KK
section ZZL
variable {τ τ' q r : TS} {n a p o bs kx : Nat} {B : Nat → Nat} {W cs : List Nat} {L : List Nat} {x : Int32}
theorem lpN_bad {f : Nat} {b : Int32} (h : tI τ 5 ≠ 0) : lpN x (f + 1) b τ = some τ := by
  unfold lpN
  refine itr_inr ?_
  show Bt_qSums_15 x b τ = _
  unfold Bt_qSums_15
  rw [if_neg h]
  split <;> rfl
theorem lpN_end {f : Nat} : lpN x (f + 1) 0 τ = some τ := by
  unfold lpN
  refine itr_inr ?_
  show Bt_qSums_15 x 0 τ = _
  unfold Bt_qSums_15
  rw [if_pos rfl]
theorem lpN_more {f : Nat} (h : tI τ 5 = 0) : lpN x (f + 1) 1 τ = lpA x 4096 f τ := by
  unfold lpN
  rw [itr_s]
  show (Bt_qSums_15 x 1 τ).bind _ = _
  unfold Bt_qSums_15 lpA f_t_qPartTold
  rw [if_neg (by decide), if_pos h]
  cases (itr (fun s_ : Int32 × TS => Bt_qPartTold_2 s_.1 s_.2) 4096 (1, τ)).bind Jt_qPartTold_186 with
  | none => rfl
  | some t =>
    show (if tI t 5 = 0 then _ else _ : Option ((Int32 × TS) ⊕ TS)).bind _ = lpT x f t
    unfold lpT
    by_cases e : tI t 5 = 0
    · rw [if_pos e, if_pos e]
      unfold f_t_qGoesOn lpB
      cases (itr (fun s_ : TS => Bt_qGoesOn_0 s_) 4096 t).bind Jt_qGoesOn_122 with
      | none => rfl
      | some rt =>
        show (if rt.1 = 0 then _ else _ : Option ((Int32 × TS) ⊕ TS)).bind _ = lpN x f (if rt.1 = 0 then 0 else 1) rt.2
        by_cases e2 : rt.1 = 0
        · rw [if_pos e2, if_pos e2]; rfl
        · rw [if_neg e2, if_neg e2]; rfl
    · rw [if_neg e, if_neg e]; rfl
/-- one turn of the inner loop -/
theorem LpA.step {τ1 : TS} {a1 : Nat} (e : Bt_qPartTold_2 1 τ = some (.inl (1, τ1))) (ha : a < a1) (ha1 : a1 ≤ n) (h : LpA x n τ1 a1 r) : LpA x n τ a r := by
  intro i f hi hf
  obtain ⟨i', rfl⟩ : ∃ i', i = i' + 1 := ⟨i - 1, by omega⟩
  unfold lpA
  rw [itr_inl (a' := (1, τ1)) e]
  exact h i' f (by omega) (by omega)
/-- it failed in the inner loop -/
theorem LpA.bad {τ1 : TS} (e : Bt_qPartTold_2 1 τ = some (.inl (1, τ1))) (h : tI τ1 5 ≠ 0) : LpA x n τ a τ1 := by
  intro i f hi hf
  obtain ⟨i', rfl⟩ : ∃ i', i = i' + 1 + 1 := ⟨i - 2, by omega⟩
  obtain ⟨f', rfl⟩ : ∃ f', f = f' + 1 := ⟨f - 1, by omega⟩
  unfold lpA
  rw [itr_inl (a' := (1, τ1)) e, itr_inr (b := τ1) (by
    show Bt_qPartTold_2 1 τ1 = _
    unfold Bt_qPartTold_2
    rw [if_neg (by decide), if_neg h]), Option.bind_some]
  unfold Jt_qPartTold_186
  rw [if_neg h, Option.bind_some]
  unfold lpT
  rw [if_neg h, lpN_bad h]
theorem TW.tx (h : TW τ) (t : TY inQ aQ τ τ') : TW τ' := h.of (fun k hk i => t.1.2.2.1 k i (by
  unfold isWf at hk
  unfold aQ
  simp at hk ⊢
  omega))
/-- a bracket is opened -/
theorem T_A_round (h : TQs τ n B a o bs W cs) (hw : TW τ) (hk : tI τ 61 = nI kx) (hk2 : kx ≤ 2) (hc : cur B n (sk B n a) = 40) (hl : cs.length + (W.length + 1) ≤ 1680) : ∃ τ1, Bt_qPartTold_2 1 τ = some (.inl (1, τ1)) ∧ TY inQ aQ τ τ1 ∧ (o = 6 → TF τ1 4 (sk B n a)) ∧ (o ≠ 6 → TQs τ1 n B (sk B n a + 1) (o + 1) bs (W ++ [20]) cs) := by
  have h' := h.skip
  have hw' : TW (sI τ 2 (nI (sk B n a))) := hw.of (fun x _ i => rfl)
  have hk' : tI (sI τ 2 (nI (sk B n a))) 61 = nI kx := by rw [tI_sI, if_neg (by omega)]; exact hk
  have hp : sk B n (sk B n a) = sk B n a := sk_i h.1.1.2.2.2.2
  obtain ⟨r, e2, -⟩ := T_qOf h'.1 hw' hk' hk2
  rw [hp, sI_same h'.1.1.2.2.2.1] at e2
  unfold Bt_qPartTold_2
  rw [if_neg (by decide), if_pos h.1.2.1, h.1.look.1, xbd_some, e2, xbd_some, hc, if_pos (by decide), h'.1.1.2.2.2.1, nl_20]
  obtain ⟨q, e3, q1, q2, q3⟩ := T_qOpens (x := 20) (p := sk B n a) h' (by omega) hl
  rw [e3, Option.bind_some]
  refine ⟨_, rfl, (((TY.refl inQ aQ τ).sI (Or.inl rfl)).trans q1).sI (Or.inl rfl), fun e => ?_, fun e => ?_⟩
  · exact (q2 e).1.s2
  · have := q3 e
    have c := cur_lt hc (by omega)
    rw [this.1.1.2.2.2.1, nl_1, nI_add]
    exact this.sign c.1 (by rw [c.2]; decide) (by rw [c.2]; decide)
end ZZL
