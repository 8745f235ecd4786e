/-! PLAIN LAW: a part without one behind it: the twin's -/
set_option maxRecDepth 100000
section ZZO
variable {τ τ' q r : TS} {n a p o bs kx : Nat} {B : Nat → Nat} {W cs : List Nat} {L : List Nat} {x : Int32}
/-- neither opens -/
def noOp (B : Nat → Nat) (n kx p : Nat) : Prop := cur B n p ≠ 40 ∧ (okW B n p = true → (∀ t, t < 2 → wd B n p ≠ txtL.getD (15 + t) []) ∧ (kx = 2 → ∀ j, j < 2 → lookL.getD j [] ≠ wd B n p))
theorem hW_f (h : okW B n p = true → wd B n p ≠ L) : hW B n p L = false := by
  cases e : okW B n p with
  | false => unfold hW; rw [e]; rfl
  | true => rw [hW_t e, decide_eq_false (h e)]
theorem T_A_end (h : TQs τ n B a o bs W cs) (hw : TW τ) (hk : tI τ 61 = nI kx) (hk2 : kx ≤ 2) (hno : noOp B n kx (sk B n a)) : ∀ i f, 1 < i → lpA x i f τ = (Jt_qPartTold_186 (sI τ 2 (nI (sk B n a)))).bind (lpT x f) := by
  have h' := h.skip
  have hw' : TW (sI τ 2 (nI (sk B n a))) := hw.of (fun x _ i => rfl)
  have hk' : tI (sI τ 2 (nI (sk B n a))) 61 = nI kx := by rw [tI_sI, if_neg (by omega)]; exact hk
  have hp : sk B n (sk B n a) = sk B n a := sk_i h.1.1.2.2.2.2
  obtain ⟨r, e2, hr⟩ := T_qOf h'.1 hw' hk' hk2
  rw [hp, sI_same h'.1.1.2.2.2.1] at e2
  rw [hp] at hr
  have er : r = -1 := by
    rcases hr with ⟨j, a1, a2, a3, a4, a5⟩ | ⟨hr, -⟩
    · exact absurd a5 ((hno.2 a4).2 a3 j a1)
    · exact hr
  subst er
  have body : Bt_qPartTold_2 1 τ = some (.inl (0, sI τ 2 (nI (sk B n a)))) := by
    unfold Bt_qPartTold_2
    rw [if_neg (by decide), if_pos h.1.2.1, h.1.look.1, xbd_some, e2, xbd_some, if_neg (by show ¬ chI _ = nI 40; rw [ch_ne (h'.1.cur_le) (by omega)]; exact hno.1), T_isHere' h'.1 hp hw'.2.2.2.2.2.2.2.1, xbd_some, hW_f (fun z => (hno.2 z).1 0 (by omega)), if_pos (show b32 false = 0 by decide), T_isHere' h'.1 hp hw'.2.2.2.2.2.2.2.2, xbd_some, hW_f (fun z => (hno.2 z).1 1 (by omega)), if_pos (show b32 false = 0 by decide), if_pos rfl]
  intro i f hi
  obtain ⟨i', rfl⟩ : ∃ i', i = i' + 1 + 1 := ⟨i - 2, by omega⟩
  unfold lpA
  rw [itr_inl (a' := (0, sI τ 2 (nI (sk B n a)))) body, itr_inr (b := sI τ 2 (nI (sk B n a))) (by
    show Bt_qPartTold_2 0 _ = _
    unfold Bt_qPartTold_2
    rw [if_pos rfl]), Option.bind_some]
/-- a code is told; the part has ended -/
theorem T_237 {v : Nat} (h : TQs τ n B a o bs W cs) (hl : cs.length + 1 + W.length ≤ 1680) : ∃ τ1, TQs τ1 n B a o bs W (cs ++ [v]) ∧ TY inQ aQ τ τ1 ∧ ∀ r, LpE x n τ1 a W.length r → ∀ f, n - a < f → (Jt_qPartTold_237 (nI v) τ).bind (lpT x f) = some r := by
  have hn := h.1.1.2.1
  obtain ⟨q, e, q1, q2⟩ := T_qCode (v := v) h hl
  refine ⟨q, q1, q2, fun r hr f hf => ?_⟩
  have := hr 4096 4096 f (by omega) (by omega) hf
  unfold lpE at this
  unfold Jt_qPartTold_237 f_t_qEndsPart
  rw [e, Option.bind_some]
  cases ei : itr (fun s_ : TS => Bt_qEndsPart_0 s_) 4096 q with
  | none => rw [ei] at this; cases this
  | some t =>
    rw [ei, Option.bind_some] at this
    by_cases e5 : tI t 5 = 0
    · rw [if_pos e5] at this
      rw [Option.bind_some, Option.bind_some, Option.bind_some]
      unfold lpT
      rw [if_pos e5]; exact this
    · rw [if_neg e5] at this; cases this
/-- a part named by its word -/
theorem T_A_part {k : Nat} (h : TQs τ n B a o bs W cs) (hw : TW τ) (hk : tI τ 61 = nI kx) (hk2 : kx ≤ 2) (ho : okW B n (sk B n a) = true) (hk18 : k < 18) (hj : askL.getD k [] = wd B n (sk B n a)) (hal : alw kx k = true) (hno : noOp B n kx (sk B n a)) (hl : cs.length + 1 + W.length ≤ 1680) : ∃ τ1, TQs τ1 n B (we B n (sk B n a)) o bs W (cs ++ [40 + k]) ∧ TY inQ aQ τ τ1 ∧ ∀ r, LpE x n τ1 (we B n (sk B n a)) W.length r → LpA x n τ a r := by
  have h' := h.skip
  have hn := h.1.1.2.1
  have hw' : TW (sI τ 2 (nI (sk B n a))) := hw.of (fun x _ i => rfl)
  have hk' : tI (sI τ 2 (nI (sk B n a))) 61 = nI kx := by rw [tI_sI, if_neg (by omega)]; exact hk
  have hp : sk B n (sk B n a) = sk B n a := sk_i h.1.1.2.2.2.2
  have tx0 : TY inQ aQ τ (sI τ 2 (nI (sk B n a))) := (TY.refl inQ aQ τ).sI (Or.inl rfl)
  obtain ⟨r0, e2, hr⟩ := T_qPart h'.1 hw' hk' hk2
  rw [hp, sI_same h'.1.1.2.2.2.1] at e2
  rw [hp] at hr
  have er : r0 = nI k := by
    rcases hr with ⟨k', a1, a2, a3, a4, a5⟩ | ⟨-, hr⟩
    · rw [← hj, ← allW_ask k' a1, ← allW_ask k hk18] at a4
      have := allW_inj _ (by omega) _ (by omega) a4
      have e : k' = k := by omega
      rw [a2, e]
    · rw [hr ho k hk18 hj] at hal; cases hal
  subst er
  obtain ⟨q, e3, r1, r2, -⟩ := h'.asks (hw'.2.1 k (by omega))
  rw [hp] at r2
  have hq := r2 (by rw [hW_t ho, allW_ask k hk18, hj]; simp)
  obtain ⟨τ1, t1, t2, t3⟩ := T_237 (x := x) (v := 40 + k) hq hl
  refine ⟨τ1, t1, (tx0.trans r1).trans t2, fun r hr i f hi hf => ?_⟩
  rw [T_A_end h hw hk hk2 hno i f (by omega)]
  have nk : ¬ nI k = -1 := by
    have : ∀ k, k < 18 → ¬ nI k = -1 := by decide
    exact this k hk18
  have g1 := (sk_g (B := B) h.1.1.2.2.2.2).1
  have g2 := (we_g (B := B) h'.1.1.2.2.2.2).1
  unfold Jt_qPartTold_186 Jt_qPartTold_212
  rw [if_pos h'.1.2.1, e2, xbd_some, if_neg nk, asksW _ _ (by omega), e3, Option.bind_some, if_neg nk, show 40 + nI k = nI (40 + k) by show nI 40 + nI k = _; rw [nI_add]]
  exact t3 r hr f (by omega)
end ZZO
