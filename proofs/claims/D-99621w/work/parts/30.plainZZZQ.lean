/-! PLAIN LAW: a valley as it is read: runs, soil, willows -/
set_option maxRecDepth 100000
theorem qn_set {v : VQ} {k x j : Nat} : qn (setq v k x) j = if j = k then x else qn v j := rfl
theorem qm_set {v : VQ} {k x j : Nat} : qm (setq v k x) j = qm v j := rfl
theorem qe_set {v : VQ} {k x : Nat} : qe (setq v k x) = qe v := rfl
theorem qb_set {v : VQ} {k x : Nat} : qb (setq v k x) = qb v := rfl
/-- both hold the same valley, stand at the same place -/
def JV (X n : Nat) (B : Nat → Nat) (V : Nat) (τc : CS) (τ : TS) (v : VQ) (a p : Nat) : Prop := PI τc X n B a 0 ∧ TRd τ n B p ∧ sk B n a = sk B n p ∧ CVh τc.1 τc.2 X V (gz τc.1) v ∧ (∃ cd, TVh τ cd v ∧ cd ≤ p) ∧ VQB v ∧ cR τc.2 306 (X + 28) = some V ∧ X + 1671 ≤ V
section ZZQ1
variable {X n V a p : Nat} {B : Nat → Nat} {τc τc' : CS} {τ τ' : TS} {v : VQ} {g : CG} {c c' : CC} {hi cd : Nat}
theorem JV.read {e e' : Nat} (h : JV X n B V τc τ v a p) (pf : PF X τc τc') (t : TY inQ aQ τ τ') (h1 : PI τc' X n B e 0) (h2 : TRd τ' n B e') (h3 : sk B n e = sk B n e') (h4 : p ≤ e') : JV X n B V τc' τ' v e e' := by
  obtain ⟨k1, k2, k3, k4, ⟨cd, k5, k6⟩, k7, k8, k9⟩ := h
  exact ⟨h1, h2, h3, k4.pf pf (by omega) (Nat.le_refl _), ⟨cd, k5.y t, by omega⟩, k7, by rw [pf.2.2.2.2]; exact k8, k9⟩
theorem JV.vz (h : JV X n B V τc τ v a p) : V + 26 ≤ gz τc.1 := h.2.2.2.1.2.1
/-- one number of the tables is written -/
theorem CVh.chg {w k x : Nat} (h : CVh g c X V hi v) (hw : w = V + 1 ∨ (V + 3 ≤ w ∧ w < V + 13) ∨ (V + 14 ≤ w ∧ w < V + 24)) (hc : ∀ a, V ≤ a → a < hi → a ≠ w → Eq1 c c' a) (hk : 10 ≤ k ∧ k < 300)
    (h1 : ∀ i, i < 10 → cA c' (V + 1) i = nI (qn (setq v k x) (10 + i))) (h2 : ∀ i r, i < 10 → r < 8 → cA c' (V + 3 + i) r = nI (qn (setq v k x) (100 + (8 * i + r)))) (h3 : ∀ i r, i < 10 → r < 8 → cA c' (V + 14 + i) r = nI (qn (setq v k x) (200 + (8 * i + r)))) : CVh g c' X V hi (setq v k x) := by
  obtain ⟨k1, k2, ⟨i0, i1, i2, i3, i4⟩, -, -, -, arr, ad, m1, m2, m3, m4, m5, m6⟩ := h
  have c0 := hc V (by omega) (by omega) (by omega)
  have q : ∀ j, j < 10 ∨ 300 ≤ j → qn (setq v k x) j = qn v j := fun j hj => by rw [qn_set, if_neg (by omega)]
  refine ⟨k1, k2, ⟨by rw [c0.1, q 3 (by omega)]; exact i0, by rw [c0.1, q 0 (by omega)]; exact i1, by rw [c0.1, q 1 (by omega)]; exact i2, by rw [c0.1, q 2 (by omega)]; exact i3, by rw [c0.1, q 5 (by omega)]; exact i4⟩, h1, h2, h3, arr, ad, ?_, m2, m3, fun j hj => ?_, ?_, ?_⟩
  · rw [q 4 (by omega)]
    exact m1.of rfl ⟨rfl, rfl⟩ (fun _ _ => rfl) (hc _ (by omega) (by omega) (by omega)) (hc arr (by omega) m3 (by omega))
  · rw [q 4 (by omega)] at hj
    have := (m4 j hj).of (c' := c') (fun a _ _ _ => ⟨rfl, rfl, fun _ => rfl⟩) (fun a a1 a2 _ => hc a (by omega) a2 (by omega))
    obtain ⟨l1, l2, ⟨l3, l4, l5, l6, l7⟩, l8⟩ := this
    exact ⟨l1, l2, ⟨by rw [q _ (by omega)]; exact l3, by rw [q _ (by omega)]; exact l4, by rw [q _ (by omega)]; exact l5, by rw [q _ (by omega)]; exact l6, by rw [q _ (by omega)]; exact l7⟩, l8⟩
  · unfold EVh at m5 ⊢
    rw [qe_set]
    cases hq : qe v with
    | none => rw [hq] at m5; show cR c' 209 V = none; rw [c0.2.2.1]; exact m5
    | some cs =>
      rw [hq] at m5
      obtain ⟨e, elo, ehi, n1, n2, n3, n4, n5⟩ := m5
      exact ⟨e, elo, ehi, by rw [c0.2.2.1]; exact n1, n2.of (fun a _ _ => ⟨rfl, rfl, fun _ => rfl, fun _ => rfl⟩) (fun a a1 a2 => hc a (by omega) (by omega) (by omega)), n3, n4, n5⟩
  · unfold BVh at m6 ⊢
    rw [qb_set]
    cases hq : qb v with
    | none => rw [hq] at m6; show cR c' 210 V = none; rw [c0.2.2.1]; exact m6
    | some cs =>
      rw [hq] at m6
      obtain ⟨e, elo, ehi, n1, n2, n3, n4, n5⟩ := m6
      exact ⟨e, elo, ehi, by rw [c0.2.2.1]; exact n1, n2.of (fun a _ _ => ⟨rfl, rfl, fun _ => rfl, fun _ => rfl⟩) (fun a a1 a2 => hc a (by omega) (by omega) (by omega)), n3, n4, n5⟩
theorem TVh.chg {k x : Nat} (h : TVh τ cd v) (hk : 10 ≤ k ∧ k < 300) (eI : ∀ j, tI τ' j = tI τ j) (eA : ∀ j i, j ≠ 50 → j ≠ 51 → j ≠ 52 → tA τ' j i = tA τ j i) (eM : ∀ j i, tM τ' j i = tM τ j i)
    (h1 : ∀ i, i < 10 → tA τ' 51 i = nI (qn (setq v k x) (10 + i))) (h2 : ∀ i, i < 80 → tA τ' 50 i = nI (qn (setq v k x) (100 + i))) (h3 : ∀ i, i < 80 → tA τ' 52 i = nI (qn (setq v k x) (200 + i))) : TVh τ' cd (setq v k x) := by
  obtain ⟨⟨i1, i2, i3⟩, i4, i5, i6, -, -, -, i10, i11, i12, i13, i14, i15⟩ := h
  have q : ∀ j, j < 10 ∨ 300 ≤ j → qn (setq v k x) j = qn v j := fun j hj => by rw [qn_set, if_neg (by omega)]
  exact ⟨⟨by rw [eA 45 _ (by omega) (by omega) (by omega), q 0 (by omega)]; exact i1, by rw [eA 45 _ (by omega) (by omega) (by omega), q 1 (by omega)]; exact i2, by rw [eA 45 _ (by omega) (by omega) (by omega), q 2 (by omega)]; exact i3⟩, rfl, by rw [eI, q 4 (by omega)]; exact i5, by rw [eI, q 5 (by omega)]; exact i6, h1, h2, h3, fun j hj i hi => by rw [q 4 (by omega)] at hj; rw [eA 49 _ (by omega) (by omega) (by omega), q _ (by omega)]; exact i10 j hj i hi, fun j hj => by rw [q 4 (by omega)] at hj; rw [eM]; exact i11 j hj, by rw [eI]; exact i12, i13, i14.of (by omega) (fun i => eA 55 i (by omega) (by omega) (by omega)) (fun i => eA 56 i (by omega) (by omega) (by omega)) (fun i => eA 57 i (by omega) (by omega) (by omega)), i15.of (by omega) (fun i => eA 55 i (by omega) (by omega) (by omega)) (fun i => eA 56 i (by omega) (by omega) (by omega)) (fun i => eA 57 i (by omega) (by omega) (by omega))⟩
theorem VQB.chg {k x : Nat} (h : VQB v) (hk : 10 ≤ k ∧ k < 300) (h1 : k < 20 → x < qn v 1) (h2 : 100 ≤ k → x ≤ 9) : VQB (setq v k x) := by
  obtain ⟨b0, b1, b2, b3, b4, b5, b6, b7, b8, b9, b10, b11, b12⟩ := h
  have q : ∀ j, j < 10 ∨ 300 ≤ j → qn (setq v k x) j = qn v j := fun j hj => by rw [qn_set, if_neg (by omega)]
  refine ⟨by rw [q 0 (by omega)]; exact b0, by rw [q 1 (by omega)]; exact b1, by rw [q 2 (by omega)]; exact b2, by rw [q 3 (by omega)]; exact b3, by rw [q 4 (by omega)]; exact b4, by rw [q 5 (by omega)]; exact b5, fun i hi => ?_, fun i hi => ?_, fun i hi => ?_, fun j hj => ?_, fun j hj => ?_, b11, b12⟩
  · rw [qn_set, q 1 (by omega)]
    split
    · exact h1 (by omega)
    · exact b6 i hi
  · rw [qn_set]
    split
    · exact h2 (by omega)
    · exact b7 i hi
  · rw [qn_set]
    split
    · exact h2 (by omega)
    · exact b8 i hi
  · rw [q 4 (by omega)] at hj
    rw [q _ (by omega), q _ (by omega), q _ (by omega), q _ (by omega), q _ (by omega), q _ (by omega)]
    exact b9 j hj
  · rw [q 4 (by omega)] at hj
    exact b10 j hj
/-- what a number of both leaves, with the valley -/
def JN (X n : Nat) (B : Nat → Nat) (V : Nat) (v : VQ) (τc : CS) (τ : TS) (a l h : Nat) (r : (Int32 ⊕ Nat) × CS) (q : Int32 × TS) : Prop := BAD X V 0 0 τc τ r q.2 ∨ ∃ w e, r.1 = .inl (nI w) ∧ q.1 = nI w ∧ l ≤ w ∧ w ≤ h ∧ sk B n a < e ∧ JV X n B V r.2 q.2 v e e ∧ PF X τc r.2 ∧ r.2.1 = τc.1 ∧ cI r.2.2 303 (X + 28) = nI (sk B n a) ∧ TZ τ q.2 ∧ tI q.2 10 = nI (sk B n a)
theorem J_numV {l h : Nat} (hj : JV X n B V τc τ v a p) (hl : l < 2147483648) (hh : h < 2147483648) : OK2 (f_x_X2_number (X + 28) (nI l) (nI h) τc) (f_t_number (nI l) (nI h) τ) (JN X n B V v τc τ a l h) := by
  have hvz := hj.vz
  have hp := hj.2.1.1.1.2.2.2.2
  have gp := sk_g (B := B) hp
  obtain ⟨r, q, e1, e2, hh⟩ := J_num (l := l) (h := h) hj.1 hj.2.1 hj.2.2.1 hl hh (Nat.le_refl (gz τc.1))
  refine ⟨r, q, e1, e2, ?_⟩
  rcases hh with ⟨k, p', b1, b2, b3, b4, b5, b6⟩ | ⟨w, e, b1, b2, b3, b4, b5, b6, b7, b8, b9, b10, b11, b12, b13, b14⟩
  · exact Or.inl ⟨k, p', b1, b2, b3.le (by omega), b4, b5, b6⟩
  · exact Or.inr ⟨w, e, b1, b2, b3, b4, b5, hj.read b9 b13.num b7 b8 rfl (by have := hj.2.2.1; omega), b9, b10, b11, b12, b14⟩
theorem J_col (hj : JV X n B V τc τ v a p) : OK2 (f_x_X2_column (X + 28) τc) (f_t_columnTold τ) (JN X n B V v τc τ a 0 (qn v 0 - 1)) := by
  obtain ⟨h1, h2, h3, h4, ⟨cd, h5, h6⟩, h7, h8, h9⟩ := hj
  have hc0 : 3 ≤ qn v 0 ∧ qn v 0 ≤ 10 := h7.1
  obtain ⟨r, q, e1, e2, hh⟩ := J_numV (l := 0) (h := qn v 0 - 1) (show JV X n B V τc τ v a p from ⟨h1, h2, h3, h4, ⟨cd, h5, h6⟩, h7, h8, h9⟩) (by omega) (by omega)
  refine ⟨r, q, ?_, ?_, hh⟩
  · unfold f_x_X2_column
    rw [if_pos h1.1.1.2.2.1, h8, Option.bind_some, if_pos h4.1.1, h4.2.2.1.2.1, nl_1, nI_m1 (by omega), show (0 : Int32) = nI 0 from rfl, e1]
    obtain ⟨r1, r2⟩ := r
    cases r1 <;> rfl
  · unfold f_t_columnTold
    rw [if_pos (by decide), show (0 : Int32).toNatClampNeg = 0 by decide, h5.1.1, nl_1, nI_m1 (by omega), show (0 : Int32) = nI 0 from rfl, e2]
    rfl
theorem J_row (hj : JV X n B V τc τ v a p) : OK2 (f_x_X2_row (X + 28) τc) (f_t_rowTold τ) (JN X n B V v τc τ a 0 (qn v 1 - 1)) := by
  obtain ⟨h1, h2, h3, h4, ⟨cd, h5, h6⟩, h7, h8, h9⟩ := hj
  have hc0 : 2 ≤ qn v 1 ∧ qn v 1 ≤ 8 := h7.2.1
  obtain ⟨r, q, e1, e2, hh⟩ := J_numV (l := 0) (h := qn v 1 - 1) (show JV X n B V τc τ v a p from ⟨h1, h2, h3, h4, ⟨cd, h5, h6⟩, h7, h8, h9⟩) (by omega) (by omega)
  refine ⟨r, q, ?_, ?_, hh⟩
  · unfold f_x_X2_row
    rw [if_pos h1.1.1.2.2.1, h8, Option.bind_some, if_pos h4.1.1, h4.2.2.1.2.2.1, nl_1, nI_m1 (by omega), show (0 : Int32) = nI 0 from rfl, e1]
    obtain ⟨r1, r2⟩ := r
    cases r1 <;> rfl
  · unfold f_t_rowTold
    rw [if_pos (by decide), show (1 : Int32).toNatClampNeg = 1 by decide, h5.1.2.1, nl_1, nI_m1 (by omega), show (0 : Int32) = nI 0 from rfl, e2]
    rfl
theorem T_colBad (h : tI τ 5 ≠ 0) : f_t_columnTold τ = some (0, τ) := by
  unfold f_t_columnTold
  rw [if_pos (by decide), T_numBad h]; rfl
theorem T_rowBad (h : tI τ 5 ≠ 0) : f_t_rowTold τ = some (0, τ) := by
  unfold f_t_rowTold
  rw [if_pos (by decide), T_numBad h]; rfl
end ZZQ1
