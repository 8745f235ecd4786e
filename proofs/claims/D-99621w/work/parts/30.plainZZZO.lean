/-! PLAIN LAW: both read: words, numbers, signs -/
set_option maxRecDepth 100000
/-- what reading a valley leaves alone in the twin -/
def zI (k : Nat) : Bool := inQ k || k == 44 || k == 46 || k == 53 || k == 58 || noisy k
def zA (k i : Nat) : Bool := (k == 45 && decide (i < 3)) || (k == 49 && decide (i < 25)) || (k == 50 && decide (i < 80)) || k == 51 || k == 52 || (k == 55 && decide (i < 2)) || (k == 56 && decide (i < 2)) || (k == 57 && decide (i < 1600)) || aQ k
def zM (k i : Nat) : Bool := (k == 48 && decide (i < 5)) || k == 126
def TZ (τ τ' : TS) : Prop := (∀ k, zI k = false → tI τ' k = tI τ k) ∧ (∀ k, tL τ' k = tL τ k) ∧ (∀ k i, zA k i = false → tA τ' k i = tA τ k i) ∧ ∀ k i, zM k i = false → tM τ' k i = tM τ k i
section ZZO1
variable {τ τ' τ'' : TS} {n a p k : Nat} {B : Nat → Nat} {L : List Nat}
theorem TZ.refl : TZ τ τ := ⟨fun _ _ => rfl, fun _ => rfl, fun _ _ _ => rfl, fun _ _ _ => rfl⟩
theorem TZ.trans (h : TZ τ τ') (h' : TZ τ' τ'') : TZ τ τ'' := ⟨fun k hk => (h'.1 k hk).trans (h.1 k hk), fun k => (h'.2.1 k).trans (h.2.1 k), fun k i hk => (h'.2.2.1 k i hk).trans (h.2.2.1 k i hk), fun k i hk => (h'.2.2.2 k i hk).trans (h.2.2.2 k i hk)⟩
theorem TZ.sI {v : Int32} (h : TZ τ τ') (hk : zI k = true) : TZ τ (sI τ' k v) := ⟨fun j hj => by rw [tI_sI, if_neg (fun e => by rw [e, hk] at hj; cases hj)]; exact h.1 j hj, h.2.1, h.2.2.1, h.2.2.2⟩
theorem TZ.sA {i : Nat} {v : Int32} (h : TZ τ τ') (hk : zA k i = true) : TZ τ (sA τ' k i v) := ⟨h.1, h.2.1, fun j z hj => by rw [tA_sA, if_neg (fun e => by rw [e.1, e.2, hk] at hj; cases hj)]; exact h.2.2.1 j z hj, h.2.2.2⟩
theorem TZ.sM {i : Nat} {v : Int64} (h : TZ τ τ') (hk : zM k i = true) : TZ τ (sM τ' k i v) := ⟨h.1, h.2.1, h.2.2.1, fun j z hj => by rw [tM_sM, if_neg (fun e => by rw [e.1, e.2, hk] at hj; cases hj)]; exact h.2.2.2 j z hj⟩
theorem TY.z (t : TY inQ aQ τ τ') : TZ τ τ' := ⟨fun k hk => t.1.1 k (by
  unfold zI at hk
  simp only [Bool.or_eq_false_iff] at hk
  exact hk.1.1.1.1.1) (by
  unfold zI at hk
  simp only [Bool.or_eq_false_iff] at hk
  exact hk.2), t.1.2.1, fun k i hk => t.1.2.2.1 k i (by
  unfold zA at hk
  simp only [Bool.or_eq_false_iff] at hk
  exact hk.2), fun k i hk => t.1.2.2.2 k i (by
  unfold zM at hk
  simp only [Bool.or_eq_false_iff, beq_eq_false_iff_ne] at hk
  exact hk.2)⟩
/-- the twin reads -/
def TRd (τ : TS) (n : Nat) (B : Nat → Nat) (a : Nat) : Prop := TPs τ n B a ∧ TW τ
theorem TW.y (h : TW τ) (t : TY inQ aQ τ τ') : TW τ' := h.tx t
theorem TW.z (h : TW τ) (t : TZ τ τ') : TW τ' := h.of (fun x hx i => t.2.2.1 x i (by
  unfold isWf at hx
  unfold zA aQ
  simp at hx ⊢
  omega))
theorem T_numBad {x y : Int32} (h : tI τ 5 ≠ 0) : f_t_number x y τ = some (0, τ) := by
  unfold f_t_number
  rw [if_neg h]
theorem T_num {lo hi : Nat} (h : TRd τ n B a) (hlo : lo < 2147483648) (hhi : hi < 2147483648) : OK (f_t_number (nI lo) (nI hi) τ) (fun o => TZ τ o.2 ∧ TY inR2 no τ o.2 ∧ match numR B n (sk B n a) lo hi with
    | .inl (k, p) => TFw o.2 k p
    | .inr (v, e) => o.1 = nI v ∧ TRd o.2 n B e ∧ tI o.2 10 = nI (sk B n a)) := by
  obtain ⟨⟨v, q⟩, e, h1, h2⟩ := T_number (lo := lo) (hi := hi) h.1 hlo hhi
  refine ⟨_, e, h1.num.z, h1, ?_⟩
  dsimp only at h1 h2 ⊢
  cases hh : numR B n (sk B n a) lo hi with
  | inl f =>
    obtain ⟨k, p⟩ := f
    rw [hh] at h2
    exact h2
  | inr f =>
    obtain ⟨w, e2⟩ := f
    rw [hh] at h2
    exact ⟨h2.1, ⟨h2.2.1, h.2.y h1.num⟩, h2.2.2⟩
theorem T_wordR {x : Nat} (h : TRd τ n B a) (hw : TWd τ x L) : OK (f_t_asks x τ) (fun q => TZ τ q ∧ TY inQ aQ τ q ∧ (hW B n (sk B n a) L = true → TRd q n B (we B n (sk B n a))) ∧ (hW B n (sk B n a) L = false → TFw q 1 (sk B n a))) := by
  rw [T_asks h.1 hw]
  obtain ⟨-, h'⟩ := h.1.look
  by_cases e : hW B n (sk B n a) L = true
  · rw [if_pos e]
    have e2 := (hW_okW e).1
    have t : TY inQ aQ τ (sI (sI (sI τ 2 (nI (sk B n a))) 2 (nI (we B n (sk B n a)))) 4 (nI (we B n (sk B n a)))) := (((TY.refl _ _ τ).sI (Or.inl rfl)).sI (Or.inl rfl)).sI (Or.inl rfl)
    exact OK_some ⟨t.z, t, fun _ => ⟨h'.word (okW_l e2).1 (okW_l e2).2, h.2.y t⟩, fun z => by rw [e] at z; cases z⟩
  · rw [if_neg e]
    have t : TY inQ aQ τ (sI (sI (sI τ 2 (nI (sk B n a))) 5 (nI 1)) 6 (nI (sk B n a))) := (((TY.refl _ _ τ).sI (Or.inl rfl)).sI (Or.inl rfl)).sI (Or.inl rfl)
    exact OK_some ⟨t.z, t, fun z => absurd z e, fun _ => ⟨by rw [tI_sI, if_neg (by omega), tI_sI, if_pos rfl], by rw [tI_sI, if_pos rfl]⟩⟩
theorem T_signR {x : Nat} (h : TRd τ n B a) (hx : x < 256) (hl : ltB x = false) (hd : dgB x = false) : OK (f_t_asksSign (nI x) τ) (fun q => TZ τ q ∧ TY inQ aQ τ q ∧ (cur B n (sk B n a) = x → TRd q n B (sk B n a + 1)) ∧ (cur B n (sk B n a) ≠ x → TFw q 1 (sk B n a))) := by
  rw [T_asksSign h.1 hx]
  obtain ⟨-, h'⟩ := h.1.look
  by_cases e : cur B n (sk B n a) = x
  · rw [if_pos e]
    have e2 := cur_lt e hx
    have t : TY inQ aQ τ (sI (sI τ 2 (nI (sk B n a))) 2 (nI (sk B n a + 1))) := ((TY.refl _ _ τ).sI (Or.inl rfl)).sI (Or.inl rfl)
    exact OK_some ⟨t.z, t, fun _ => ⟨h'.sign e2.1 (by rw [e2.2]; exact hl) (by rw [e2.2]; exact hd), h.2.y t⟩, fun z => absurd e z⟩
  · rw [if_neg e]
    have t : TY inQ aQ τ (sI (sI (sI τ 2 (nI (sk B n a))) 5 (nI 1)) 6 (nI (sk B n a))) := (((TY.refl _ _ τ).sI (Or.inl rfl)).sI (Or.inl rfl)).sI (Or.inl rfl)
    exact OK_some ⟨t.z, t, fun z => absurd z e, fun _ => ⟨by rw [tI_sI, if_neg (by omega), tI_sI, if_pos rfl], by rw [tI_sI, if_pos rfl]⟩⟩
end ZZO1
/-- nothing below lo has moved but the reader, its fault -/
def PM (lo X : Nat) (τ τ' : CS) : Prop := gz τ.1 ≤ gz τ'.1 ∧ AgG 0 lo τ.1 τ'.1 ∧ (∀ a, a < lo → a ≠ X + 28 → a ≠ X + 29 → Eq1 τ.2 τ'.2 a)
theorem PL.m {lo X : Nat} {τ τ' : CS} (h : PL lo X τ τ') : PM lo X τ τ' := ⟨h.1, h.2.1, h.2.2.1⟩
theorem PM.trans {lo X : Nat} {τ τ' τ'' : CS} (h : PM lo X τ τ') (h' : PM lo X τ' τ'') : PM lo X τ τ'' := ⟨Nat.le_trans h.1 h'.1, h.2.1.trans h'.2.1, fun a a1 a2 a3 => (h.2.2 a a1 a2 a3).trans (h'.2.2 a a1 a2 a3)⟩
theorem PM.le {lo lo' X : Nat} {τ τ' : CS} (h : PM lo X τ τ') (hl : lo' ≤ lo) : PM lo' X τ τ' := ⟨h.1, fun a a0 a1 => h.2.1 a a0 (by omega), fun a a1 a2 a3 => h.2.2 a (by omega) a2 a3⟩
/-- both have failed alike -/
def BAD (X : Nat) {R : Type} (lo b1 b2 : Nat) (τc : CS) (τ : TS) (r : (R ⊕ Nat) × CS) (q : TS) : Prop := ∃ k p, r.1 = .inr (X + 29) ∧ FLT r.2.2 X k p ∧ PM lo X τc r.2 ∧ grc τc.1 ≤ grc r.2.1 + b1 ∧ grs τc.1 ≤ grs r.2.1 + b2 ∧ TFw q k p ∧ 0 < k ∧ k < 100 ∧ TZ τ q
section ZZO2
variable {X n lo a p : Nat} {B : Nat → Nat} {τc : CS} {τ : TS}
/-- a number, of both -/
theorem J_num {l h : Nat} (hP : PI τc X n B a 0) (hT : TRd τ n B p) (hs : sk B n a = sk B n p) (hl : l < 2147483648) (hh : h < 2147483648) (hlo : lo ≤ gz τc.1) :
    OK2 (f_x_X2_number (X + 28) (nI l) (nI h) τc) (f_t_number (nI l) (nI h) τ) (fun r q => BAD X lo 0 0 τc τ r q.2 ∨ ∃ v e, r.1 = .inl (nI v) ∧ q.1 = nI v ∧ l ≤ v ∧ v ≤ h ∧ sk B n a < e ∧ e ≤ n ∧ PI r.2 X n B e 0 ∧ TRd q.2 n B e ∧ PL lo X τc r.2 ∧ r.2.1 = τc.1 ∧ cI r.2.2 303 (X + 28) = nI (sk B n a) ∧ TZ τ q.2 ∧ TY inR2 no τ q.2 ∧ tI q.2 10 = nI (sk B n a)) := by
  obtain ⟨⟨r, τ1⟩, e1, p1, g1, m1⟩ := C_numP (lo := l) (hi := h) hP hl hh
  obtain ⟨⟨v, q⟩, e2, z2, y2, m2⟩ := T_num (lo := l) (hi := h) hT hl hh
  dsimp only at p1 g1 m1 z2 y2 m2
  rw [← hs] at m2
  refine ⟨_, _, e1, e2, ?_⟩
  cases hh : numR B n (sk B n a) l h with
  | inl f =>
    obtain ⟨k, p'⟩ := f
    rw [hh] at m1 m2
    have := numR_k hh
    exact Or.inl ⟨k, p', m1.1, m1.2, (p1.pl hlo).m, by dsimp only; rw [g1]; omega, by dsimp only; rw [g1]; omega, m2, by omega, by omega, z2⟩
  | inr f =>
    obtain ⟨w, e⟩ := f
    rw [hh] at m1 m2
    obtain ⟨v1, v2, v3, v4⟩ := numR_in hh
    exact Or.inr ⟨w, e, m1.1, m2.1, v1, v2, v3, v4, m1.2.1, m2.2.1, p1.pl hlo, g1, m1.2.2, z2, y2, m2.2.2⟩
/-- a word that must stand, of both -/
theorem J_word {i x : Nat} (hP : PI τc X n B a 0) (hT : TRd τ n B p) (hs : sk B n a = sk B n p) (hi : i < txtL.length) (hw : TWd τ x (txtL.getD i [])) (hc : 3 ≤ grc τc.1) (hsl : 2 * n + 4 ≤ grs τc.1) (hlo : lo ≤ gz τc.1) :
    OK2 (f_x_X2_word (X + 28) (gA τc.1 0 (100 + i)) τc) (f_t_asks x τ) (fun r q => BAD X lo (60 * (n + 2 - sk B n a)) (600 * (n + 2 - sk B n a)) τc τ r q ∨ ∃ e, r.1 = .inl () ∧ sk B n a < e ∧ e ≤ n ∧ PI r.2 X n B e 0 ∧ TRd q n B e ∧ PL lo X τc r.2 ∧ grc τc.1 ≤ grc r.2.1 + 3 * (e - sk B n a) ∧ grs τc.1 ≤ grs r.2.1 + 6 * (e - sk B n a) ∧ TZ τ q) := by
  obtain ⟨⟨r, τ1⟩, e1, p1, c1, s1, y1, n1⟩ := C_wordL hP hi hc hsl
  obtain ⟨q, e2, z2, -, y2, n2⟩ := T_wordR hT hw
  dsimp only at p1 c1 s1 y1 n1
  rw [← hs] at y2 n2
  have g := sk_g (B := B) hP.le.1
  have hwl := wl_le (B := B) g.2.1
  refine ⟨_, _, e1, e2, ?_⟩
  by_cases e : okW B n (sk B n a) = true ∧ wd B n (sk B n a) = txtL.getD i []
  · obtain ⟨w1, w2, -⟩ := okW_gt e.1
    have ewl : wl B n (sk B n a) = we B n (sk B n a) - sk B n a := by unfold wl; rw [if_pos e.1]
    have := y1 e
    exact Or.inr ⟨we B n (sk B n a), this.1, w1, w2, this.2, y2 (by rw [hW_t e.1, decide_eq_true e.2]), p1.pl hlo, by dsimp only; omega, by dsimp only; omega, z2⟩
  · have := n1 e
    have e' : hW B n (sk B n a) (txtL.getD i []) = false := by
      cases hq : hW B n (sk B n a) (txtL.getD i []) with
      | false => rfl
      | true => exact absurd (hW_okW hq) e
    exact Or.inl ⟨1, sk B n a, this.1, this.2, (p1.pl hlo).m, by dsimp only; omega, by dsimp only; omega, n2 e', by omega, by omega, z2⟩
/-- a sign that must stand, of both -/
theorem J_sign {x : Nat} (hP : PI τc X n B a 0) (hT : TRd τ n B p) (hs : sk B n a = sk B n p) (hx : x < 256) (hl : ltB x = false) (hd : dgB x = false) (hlo : lo ≤ gz τc.1) :
    OK2 (f_x_X2_must (X + 28) (nI x) τc) (f_t_asksSign (nI x) τ) (fun r q => BAD X lo 0 0 τc τ r q ∨ (r.1 = .inl () ∧ cur B n (sk B n a) = x ∧ sk B n a < n ∧ PI r.2 X n B (sk B n a + 1) 0 ∧ TRd q n B (sk B n a + 1) ∧ PL lo X τc r.2 ∧ r.2.1 = τc.1 ∧ TZ τ q)) := by
  obtain ⟨⟨r, τ1⟩, e1, p1, g1, y1, n1⟩ := C_mustP hP hx
  obtain ⟨q, e2, z2, -, y2, n2⟩ := T_signR hT hx hl hd
  dsimp only at p1 g1 y1 n1
  rw [← hs] at y2 n2
  refine ⟨_, _, e1, e2, ?_⟩
  by_cases e : cur B n (sk B n a) = x
  · exact Or.inr ⟨(y1 e).1, e, (cur_lt e hx).1, (y1 e).2, y2 e, p1.pl hlo, g1, z2⟩
  · exact Or.inl ⟨1, sk B n a, (n1 e).1, (n1 e).2, (p1.pl hlo).m, by dsimp only; rw [g1]; omega, by dsimp only; rw [g1]; omega, n2 e, by omega, by omega, z2⟩
end ZZO2
