/-! PLAIN LAW: a part that is a number: the twin's -/
set_option maxRecDepth 100000
section ZZP
variable {τ τ' q r : TS} {n a p o bs kx : Nat} {B : Nat → Nat} {W cs : List Nat} {L : List Nat} {x : Int32}
theorem TY.num (t : TY inR2 no τ τ') : TY inQ aQ τ τ' := ⟨⟨fun k h1 h2 => t.1.1 k (by
  unfold inQ at h1
  simp only [Bool.or_eq_false_iff] at h1
  exact h1.1.1.1.1) h2, t.1.2.1, fun k i _ => t.1.2.2.1 k i rfl, t.1.2.2.2⟩, t.2⟩
theorem TQs.num {a' : Nat} (h : TQs τ n B a o bs W cs) (t : TY inR2 no τ τ') (h' : TPs τ' n B a') : TQs τ' n B a' o bs W cs := h.to h' (fun k hk => by rcases hk with rfl | rfl | rfl | rfl <;> exact t.1.1 _ rfl rfl) (fun k i _ => t.1.2.2.1 k i rfl)
/-- a code told behind a fault -/
theorem T_237bad {v : Int32} {k c : Nat} (h : TF τ k p) (hk : 0 < k) (hk2 : k < 100) (hc : tI τ 121 = nI c) (hc2 : c < 1689) : ∃ r, TF r k p ∧ TY inQ aQ τ r ∧ ∀ f, 0 < f → (Jt_qPartTold_237 v τ).bind (lpT x f) = some r := by
  have hb := h.bad hk hk2
  refine ⟨sI (sA τ 120 c v) 121 (nI (c + 1)), ⟨by rw [tI_sI, if_neg (by omega)]; exact h.1, by rw [tI_sI, if_neg (by omega)]; exact h.2.1, c + 1, by omega, by rw [tI_sI, if_pos rfl]⟩, ((TY.refl inQ aQ τ).sA rfl).sI (Or.inl rfl), fun f hf => ?_⟩
  obtain ⟨f', rfl⟩ : ∃ f', f = f' + 1 := ⟨f - 1, by omega⟩
  have hb' : tI (sI (sA τ 120 c v) 121 (nI (c + 1))) 5 ≠ 0 := by rw [tI_sI, if_neg (by omega)]; exact hb
  unfold Jt_qPartTold_237 f_t_qCode f_t_qEndsPart
  rw [hc, if_pos (xin_nI (show c < 1700 by omega) (by omega)), nI_clamp (show c < 2 ^ 31 by omega), tI_sA, hc, nl_1, nI_add, Option.bind_some, itr_inr (b := sI (sA τ 120 c v) 121 (nI (c + 1))) (by
    show Bt_qEndsPart_0 _ = _
    unfold Bt_qEndsPart_0
    rw [if_neg hb']), Option.bind_some, Option.bind_some, Option.bind_some]
  unfold lpT
  rw [if_neg hb', lpN_bad hb']
theorem numR_k {lo hi k q' : Nat} (h : numR B n p lo hi = .inl (k, q')) : k = 1 ∨ k = 2 := by
  unfold numR at h
  split at h
  · cases h; exact Or.inl rfl
  · split at h
    · cases h; exact Or.inl rfl
    · split at h
      · cases h
      · cases h; exact Or.inr rfl
theorem T_A_num (h : TQs τ n B a o bs W cs) (hw : TW τ) (hk : tI τ 61 = nI kx) (hk2 : kx ≤ 2) (hp2 : okW B n (sk B n a) = true → ∀ k, k < 18 → askL.getD k [] = wd B n (sk B n a) → alw kx k = false) (hno : noOp B n kx (sk B n a)) (hl : cs.length + 1 + W.length ≤ 1680) :
    (∀ k p, numA B n (sk B n a) = .inl (k, p) → ∃ r, TF r k p ∧ 0 < k ∧ k < 100 ∧ TY inQ aQ τ r ∧ LpA x n τ a r) ∧ (∀ cs' e, numA B n (sk B n a) = .inr (cs', e) → cs'.length = 1 ∧ ∃ τ1, TQs τ1 n B e o bs W (cs ++ cs') ∧ TY inQ aQ τ τ1 ∧ ∀ r, LpE x n τ1 e W.length r → a ≤ e → LpA x n τ a r) := by
  have h' := h.skip
  have hn := h.1.1.2.1
  have hw' : TW (sI τ 2 (nI (sk B n a))) := hw.of (fun x _ i => rfl)
  have hk' : tI (sI τ 2 (nI (sk B n a))) 61 = nI kx := by rw [tI_sI, if_neg (by omega)]; exact hk
  have hp : sk B n (sk B n a) = sk B n a := sk_i h.1.1.2.2.2.2
  have tx0 : TY inQ aQ τ (sI τ 2 (nI (sk B n a))) := (TY.refl inQ aQ τ).sI (Or.inl rfl)
  obtain ⟨r0, e2, hr⟩ := T_qPart h'.1 hw' hk' hk2
  rw [hp, sI_same h'.1.1.2.2.2.1] at e2
  rw [hp] at hr
  have er : r0 = -1 := by
    rcases hr with ⟨k', a1, a2, a3, a4, a5⟩ | ⟨hr, -⟩
    · rw [hp2 a3 k' a1 a4] at a5; cases a5
    · exact hr
  subst er
  obtain ⟨⟨v, q⟩, e3, q1, q2⟩ := T_number (lo := 0) (hi := 9999) h'.1 (by omega) (by omega)
  rw [hp] at q2
  dsimp only at q1 q2
  have j186 : Jt_qPartTold_186 (sI τ 2 (nI (sk B n a))) = Jt_qPartTold_237 (1000 + v) q := by
    unfold Jt_qPartTold_186 Jt_qPartTold_212
    rw [if_pos h'.1.2.1, e2, xbd_some, if_pos rfl, if_pos rfl, show (0 : Int32) = nI 0 from rfl, show (9999 : Int32) = nI 9999 from rfl, e3, xbd_some]
  constructor
  · intro k p hnum
    have en : numR B n (sk B n a) 0 9999 = .inl (k, p) := by
      unfold numA at hnum
      cases hh : numR B n (sk B n a) 0 9999 with
      | inl f => rw [hh] at hnum; cases hnum; rfl
      | inr f => rw [hh] at hnum; cases hnum
    rw [en] at q2
    have hkk := numR_k en
    have e121 : tI q 121 = nI cs.length := by rw [q1.1.1 121 rfl rfl]; exact h'.2.2.2.2.1.1
    obtain ⟨r, t1, t2, t3⟩ := T_237bad (x := x) (v := 1000 + v) (k := k) (p := p) (τ := q) ⟨q2.1, q2.2, cs.length, by omega, e121⟩ (by omega) (by omega) e121 (by omega)
    refine ⟨r, t1, by omega, by omega, (tx0.trans q1.num).trans t2, fun i f hi hf => ?_⟩
    rw [T_A_end h hw hk hk2 hno i f (by omega), j186]
    exact t3 f (by omega)
  · intro cs' e hnum
    obtain ⟨v', en, ec⟩ : ∃ v', numR B n (sk B n a) 0 9999 = .inr (v', e) ∧ cs' = [1000 + v'] := by
      unfold numA at hnum
      cases hh : numR B n (sk B n a) 0 9999 with
      | inl f => rw [hh] at hnum; cases hnum
      | inr f => rw [hh] at hnum; cases hnum; exact ⟨_, rfl, rfl⟩
    rw [en] at q2
    obtain ⟨ev, q3, -⟩ := q2
    subst ec
    refine ⟨rfl, ?_⟩
    obtain ⟨τ1, t1, t2, t3⟩ := T_237 (x := x) (v := 1000 + v') (h'.num q1 q3) hl
    refine ⟨τ1, t1, (tx0.trans q1.num).trans t2, fun r hr hae i f hi hf => ?_⟩
    rw [T_A_end h hw hk hk2 hno i f (by omega), j186, ev, show 1000 + nI v' = nI (1000 + v') by show nI 1000 + nI v' = _; rw [nI_add]]
    exact t3 r hr f (by omega)
end ZZP
