/-! PLAIN LAW: numbers of both; signs of the component -/
set_option maxRecDepth 100000
/-- where digits end -/
def deN (B : Nat → Nat) : Nat → Nat → Nat
  | 0, a => a
  | d + 1, a => if dgB (B a) = true then deN B d (a + 1) else a
def de (B : Nat → Nat) (n a : Nat) : Nat := deN B (n - a) a
def dv (B : Nat → Nat) (a : Nat) : Nat → Nat
  | 0 => 0
  | k + 1 => 10 * dv B a k + (B (a + k) - 48)
theorem de_n {B : Nat → Nat} {n : Nat} : de B n n = n := by unfold de; rw [Nat.sub_self]; rfl
theorem de_b {B : Nat → Nat} {n a : Nat} (h : a < n) (hb : dgB (B a) = true) : de B n a = de B n (a + 1) := by
  unfold de
  obtain ⟨d, hd⟩ : ∃ d, n - a = d + 1 := ⟨n - a - 1, by omega⟩
  rw [hd, show n - (a + 1) = d by omega]
  show (if dgB (B a) = true then deN B d (a + 1) else a) = _
  rw [if_pos hb]
theorem de_s {B : Nat → Nat} {n a : Nat} (h : a < n) (hb : dgB (B a) = false) : de B n a = a := by
  unfold de
  obtain ⟨d, hd⟩ : ∃ d, n - a = d + 1 := ⟨n - a - 1, by omega⟩
  rw [hd]
  show (if dgB (B a) = true then deN B d (a + 1) else a) = _
  rw [if_neg (by rw [hb]; decide)]
theorem de_le {B : Nat → Nat} {n : Nat} : ∀ d a, a + d = n → a ≤ de B n a ∧ de B n a ≤ n ∧ (de B n a = n ∨ dgB (B (de B n a)) = false) ∧ ∀ i, a ≤ i → i < de B n a → dgB (B i) = true
  | 0, a, h => by
    have e : a = n := h
    subst e
    rw [de_n]
    exact ⟨Nat.le_refl _, Nat.le_refl _, Or.inl rfl, fun i h1 h2 => by omega⟩
  | d + 1, a, h => by
    by_cases hb : dgB (B a) = true
    · have ih := de_le (B := B) (n := n) d (a + 1) (by omega)
      rw [de_b (by omega) hb]
      refine ⟨by omega, ih.2.1, ih.2.2.1, fun i h1 h2 => ?_⟩
      by_cases e : i = a
      · rw [e]; exact hb
      · exact ih.2.2.2 i (by omega) h2
    · have hb : dgB (B a) = false := by simpa using hb
      rw [de_s (by omega) hb]
      exact ⟨Nat.le_refl _, by omega, Or.inr hb, fun i h1 h2 => by omega⟩
theorem de_g {B : Nat → Nat} {n a : Nat} (h : a ≤ n) : a ≤ de B n a ∧ de B n a ≤ n ∧ (de B n a = n ∨ dgB (B (de B n a)) = false) ∧ ∀ i, a ≤ i → i < de B n a → dgB (B i) = true := de_le (n - a) a (by omega)
theorem dgB_b {x : Nat} (h : dgB x = true) : 48 ≤ x ∧ x ≤ 57 := by
  unfold dgB at h
  simp only [Bool.and_eq_true, decide_eq_true_eq] at h
  exact h
theorem ltB_b {x : Nat} (h : ltB x = true) : 97 ≤ x ∧ x ≤ 122 := by
  unfold ltB at h
  simp only [Bool.and_eq_true, decide_eq_true_eq] at h
  exact h
theorem dv_lt {B : Nat → Nat} {a : Nat} : ∀ k, (∀ i, i < k → dgB (B (a + i)) = true) → dv B a k < 10 ^ k
  | 0, _ => by show 0 < 10 ^ 0; decide
  | k + 1, h => by
    have h1 := dv_lt k (fun i hi => h i (by omega))
    have h2 := dgB_b (h k (by omega))
    show 10 * dv B a k + (B (a + k) - 48) < 10 ^ (k + 1)
    rw [Nat.pow_succ]
    omega
theorem dv_4 {B : Nat → Nat} {a k : Nat} (hk : k ≤ 4) (h : ∀ i, i < k → dgB (B (a + i)) = true) : dv B a k < 10000 := by
  have h1 := dv_lt k h
  have h2 : 10 ^ k ≤ 10 ^ 4 := Nat.pow_le_pow_right (by omega) hk
  have h3 : 10 ^ 4 = 10000 := by decide
  omega
/-- a number at a place: a fault, or its value and its end -/
def numR (B : Nat → Nat) (n q lo hi : Nat) : (Nat × Nat) ⊕ (Nat × Nat) :=
  if dgB (cur B n q) = false ∨ alB B q = true then .inl (1, q) else if 4 < de B n q - q then .inl (1, q + 4) else if lo ≤ dv B q (de B n q - q) ∧ dv B q (de B n q - q) ≤ hi then .inr (dv B q (de B n q - q), de B n q) else .inl (2, q)
def inR2 (k : Nat) : Bool := k == 2 || k == 4 || k == 5 || k == 6 || k == 10
/-- the frame, and the kind of text is kept -/
def TY (fi fa : Nat → Bool) (τ τ' : TS) : Prop := TX fi fa τ τ' ∧ tI τ' 61 = tI τ 61
theorem TY.refl (fi fa : Nat → Bool) (τ : TS) : TY fi fa τ τ := ⟨TX.refl fi fa τ, rfl⟩
theorem TY.trans {fi fa : Nat → Bool} {τ τ' τ'' : TS} (h : TY fi fa τ τ') (h' : TY fi fa τ' τ'') : TY fi fa τ τ'' := ⟨h.1.trans h'.1, h'.2.trans h.2⟩
theorem TY.sI {fi fa : Nat → Bool} {τ τ' : TS} {k : Nat} {v : Int32} (h : TY fi fa τ τ') (hk : fi k = true ∨ noisy k = true) (h6 : 61 ≠ k := by decide) : TY fi fa τ (sI τ' k v) := ⟨h.1.sI hk, by rw [tI_sI, if_neg (by omega)]; exact h.2⟩
theorem TY.sA {fi fa : Nat → Bool} {τ τ' : TS} {k i : Nat} {v : Int32} (h : TY fi fa τ τ') (hk : fa k = true) : TY fi fa τ (sA τ' k i v) := ⟨h.1.sA hk, h.2⟩
section ZZ1
variable {g : CG} {c c' : CC} {τ τ' q : TS} {X n m : Nat} {B : Nat → Nat} {L : List Nat}
theorem T_fail {k p : Int32} (h : tI τ 5 = 0) : f_t_fail k p τ = some (sI (sI τ 5 k) 6 p) := by
  unfold f_t_fail
  rw [if_pos h]
/-- digits are run through -/
theorem T_digits {x1 x2 : Int32} {p : Nat} (h : TPs τ n B p) : ∀ d k τ', p + k + d = n → k ≤ 4 → (∀ i, i < k → dgB (B (p + i)) = true) → TY inR2 no τ τ' → RdT τ' n B (p + k) → tI τ' 5 = 0 → tI τ' 4 = tI τ 4 → ∀ f, d < f →
    ∃ τ2, TY inR2 no τ τ2 ∧ tI τ2 5 = 0 ∧ tI τ2 4 = tI τ 4 ∧ ((de B n p - p ≤ 4 ∧ RdT τ2 n B (de B n p) ∧ itr (fun s_ : Int32 × TS => Bt_number_49 x1 x2 (nI p) s_.1 s_.2) f (nI (dv B p k), τ') = some (.inl (nI (dv B p (de B n p - p)), τ2))) ∨ (4 < de B n p - p ∧ RdT τ2 n B (p + 4) ∧ itr (fun s_ : Int32 × TS => Bt_number_49 x1 x2 (nI p) s_.1 s_.2) f (nI (dv B p k), τ') = some (.inr τ2))) := by
  have hn := h.1.2.1
  have hde : ∀ k, p + k ≤ n → (∀ i, i < k → dgB (B (p + i)) = true) → de B n p = de B n (p + k) := by
    intro k
    induction k with
    | zero => intro _ _; rfl
    | succ k ih =>
      intro h1 h2
      rw [ih (by omega) (fun i hi => h2 i (by omega))]
      exact de_b (by omega) (h2 k (by omega))
  intro d
  induction d with
  | zero =>
    intro k τ' hd hk hg ht hr h5 h4 f hf
    obtain ⟨f', rfl⟩ : ∃ f', f = f' + 1 := ⟨f - 1, by omega⟩
    have e1 := hde k (by omega) hg
    rw [show p + k = n by omega, de_n] at e1
    refine ⟨τ', ht, h5, h4, Or.inl ⟨by omega, by rw [e1]; have hr2 := hr; rw [show p + k = n by omega] at hr2; exact hr2, ?_⟩⟩
    rw [show de B n p - p = k by omega]
    refine itr_inr ?_
    show Bt_number_49 x1 x2 (nI p) (nI (dv B p k)) τ' = _
    unfold Bt_number_49
    rw [hr.2.2.1, hr.2.2.2.1, if_pos (by rw [nI_leI (by omega) (by omega)]; omega)]
  | succ d ih =>
    intro k τ' hd hk hg ht hr h5 h4 f hf
    obtain ⟨f', rfl⟩ : ∃ f', f = f' + 1 := ⟨f - 1, by omega⟩
    have e1 := hde k (by omega) hg
    have hb := (hr.1 (p + k) (by omega)).2
    have ech : nI (B (p + k)) = chI (B (p + k)) := by unfold chI; rw [if_neg (by omega)]
    have hdv := dv_4 hk hg
    have hbody : Bt_number_49 x1 x2 (nI p) (nI (dv B p k)) τ' = if dgB (B (p + k)) = false then some (.inr (.inl (nI (dv B p k), τ'))) else if k = 4 then some (.inr (.inr τ')) else some (.inl (nI (dv B p (k + 1)), sI τ' 2 (nI (p + (k + 1))))) := by
      unfold Bt_number_49
      rw [hr.2.2.1, hr.2.2.2.1, if_neg (by rw [nI_leI (by omega) (by omega)]; omega), if_pos (xin_nI (show p + k < 1600 by omega) (by omega)), nI_clamp (show p + k < 2 ^ 31 by omega), (hr.1 (p + k) (by omega)).1, ech, T_isDigit (by omega), xbd_some]
      cases hdg : dgB (B (p + k)) with
      | false => rw [if_pos (show b32 false = 0 by decide), if_pos rfl]
      | true =>
        have hx := dgB_b hdg
        rw [if_neg (show ¬ b32 true = 0 by decide), if_neg (show ¬ true = false by decide), hr.2.2.2.1, pk_sub (by omega), show p + k - p = k by omega, nl_4, nI_clamp (show p + k < 2 ^ 31 by omega), (hr.1 (p + k) (by omega)).1, nl_10, pk_mul, nI_add, show (48 : Int32) = nI 48 from rfl, pk_sub (by omega), nl_1, nI_add]
        by_cases e4 : k = 4
        · rw [if_pos (by rw [e4]), if_pos e4]
        · rw [if_neg (by rw [nI_eq (by omega) (by omega)]; exact e4), if_neg e4, if_pos (xin_nI (show p + k < 1600 by omega) (by omega))]
          have : 10 * dv B p k + B (p + k) - 48 = dv B p (k + 1) := by show _ = 10 * dv B p k + (B (p + k) - 48); omega
          rw [this, Nat.add_assoc]
    cases hdg : dgB (B (p + k)) with
    | false =>
      rw [hdg, if_pos rfl] at hbody
      have e2 := de_s (B := B) (n := n) (a := p + k) (by omega) hdg
      rw [e2] at e1
      refine ⟨τ', ht, h5, h4, Or.inl ⟨by omega, by rw [e1]; exact hr, ?_⟩⟩
      rw [show de B n p - p = k by omega]
      exact itr_inr hbody
    | true =>
      rw [hdg, if_neg (by decide)] at hbody
      by_cases e4 : k = 4
      · rw [if_pos e4] at hbody
        subst e4
        have e2 := de_b (B := B) (n := n) (a := p + 4) (by omega) hdg
        have e3 := (de_g (B := B) (n := n) (a := p + 4 + 1) (by omega)).1
        refine ⟨τ', ht, h5, h4, Or.inr ⟨by omega, hr, ?_⟩⟩
        exact itr_inr hbody
      · rw [if_neg e4] at hbody
        obtain ⟨τ2, r1, r2, r3, r4⟩ := ih (k + 1) (sI τ' 2 (nI (p + (k + 1)))) (by omega) (by omega) (fun i hi => by
          by_cases ei : i = k
          · rw [ei]; exact hdg
          · exact hg i (by omega)) (ht.sI (Or.inl rfl)) (hr.to (by omega)) (by rw [tI_sI, if_neg (by omega)]; exact h5) (by rw [tI_sI, if_neg (by omega)]; exact h4) f' (by omega)
        refine ⟨τ2, r1, r2, r3, ?_⟩
        rw [itr_inl (a' := (_, _)) hbody]
        exact r4
theorem T_number {a lo hi : Nat} (h : TPs τ n B a) (hlo : lo < 2147483648) (hhi : hi < 2147483648) : OK (f_t_number (nI lo) (nI hi) τ) (fun o => TY inR2 no τ o.2 ∧ match numR B n (sk B n a) lo hi with
    | .inl (k, p) => tI o.2 5 = nI k ∧ tI o.2 6 = nI p
    | .inr (v, e) => o.1 = nI v ∧ TPs o.2 n B e ∧ tI o.2 10 = nI (sk B n a)) := by
  obtain ⟨e1, h'⟩ := h.look
  have hn := h.1.2.1
  generalize sk B n a = p at *
  have hp := h'.1.2.2.2.2
  have hc := h'.cur_le (p := p)
  have t1 : TY inR2 no τ (sI τ 2 (nI p)) := (TY.refl _ _ τ).sI (Or.inl rfl)
  unfold f_t_number numR
  rw [if_pos h.2.1, e1, xbd_some, T_isDigit hc, xbd_some]
  have j30 : Jt_number_30 (sI τ 2 (nI p)) = some (0, sI (sI (sI τ 2 (nI p)) 5 1) 6 (nI p)) := by
    unfold Jt_number_30
    rw [T_fail h'.2.1, h'.1.2.2.2.1, Option.bind_some]
  have tf : ∀ τ2 k p', TY inR2 no τ τ2 → TY inR2 no τ (sI (sI τ2 5 k) 6 p') := fun τ2 k p' z => (z.sI (Or.inl rfl)).sI (Or.inl rfl)
  cases hdg : dgB (cur B n p) with
  | false =>
    rw [if_pos (show b32 false = 0 by decide), j30, if_pos (Or.inl rfl)]
    exact OK_some ⟨tf _ _ _ t1, by rw [tI_sI, if_neg (by omega), tI_sI, if_pos rfl]; rfl, by rw [tI_sI, if_pos rfl]⟩
  | true =>
    rw [if_neg (show ¬ b32 true = 0 by decide)]
    have e4 : (tI (sI τ 2 (nI p)) 2 = tI (sI τ 2 (nI p)) 4) ↔ alB B p = true := by
      rw [h'.1.2.2.2.1, ← h'.2.2.2, i32_eq, nI_toInt (by omega)]
      exact ⟨fun z => z.symm, fun z => z.symm⟩
    by_cases hal : alB B p = true
    · rw [if_pos (e4.mpr hal), j30, if_pos (Or.inr hal)]
      exact OK_some ⟨tf _ _ _ t1, by rw [tI_sI, if_neg (by omega), tI_sI, if_pos rfl]; rfl, by rw [tI_sI, if_pos rfl]⟩
    · rw [if_neg (fun z => hal (e4.mp z)), if_neg (by rintro (z | z); · cases z
                                                      · exact hal z), h'.1.2.2.2.1]
      obtain ⟨τ2, r1, r2, r3, r4⟩ := T_digits (x1 := nI lo) (x2 := nI hi) h' (n - p) 0 (sI τ 2 (nI p)) (by omega) (by omega) (fun i hi => absurd hi (Nat.not_lt_zero i)) (TY.refl _ _ _) h'.1 h'.2.1 rfl 4096 (by omega)
      have t2 := t1.trans r1
      have hd1 : p < n ∧ dgB (B p) = true := by
        unfold cur at hdg
        by_cases z : p < n
        · rw [if_pos z] at hdg; exact ⟨z, hdg⟩
        · rw [if_neg z] at hdg; exact absurd hdg (by decide)
      obtain ⟨g1, g2, g3, g4⟩ := de_g (B := B) hp
      have hgt : p < de B n p := by
        rw [de_b hd1.1 hd1.2]
        exact (de_g (B := B) (n := n) (a := p + 1) (by omega)).1
      rcases r4 with ⟨s1, s2, s3⟩ | ⟨s1, s2, s3⟩
      · have hdv := dv_4 (B := B) (a := p) (k := de B n p - p) s1 (fun i hi => g4 (p + i) (by omega) (by omega))
        have s3' : itr (fun s_ : Int32 × TS => Bt_number_49 (nI lo) (nI hi) (nI p) s_.1 s_.2) 4096 (0, sI τ 2 (nI p)) = _ := s3
        rw [s3', Option.bind_some, Sum.elim_inl, if_neg (by omega)]
        unfold Jt_number_129
        rw [T_isIn32, xbd_some, s2.2.2.2.1]
        have tps : TPs (sI (sI τ2 4 (nI (de B n p))) 10 (nI p)) n B (de B n p) := by
          refine ⟨⟨s2.1, s2.2.1, by rw [tI_sI, if_neg (by omega), tI_sI, if_neg (by omega)]; exact s2.2.2.1, by rw [tI_sI, if_neg (by omega), tI_sI, if_neg (by omega)]; exact s2.2.2.2.1, g2⟩, by rw [tI_sI, if_neg (by omega), tI_sI, if_neg (by omega)]; exact r2, ?_⟩
          unfold EN
          rw [tI_sI, if_neg (by omega), tI_sI, if_pos rfl, nI_toInt (by omega)]
          refine ⟨Int.le_refl _, fun _ => ?_, fun _ => rfl⟩
          unfold alB
          rw [decide_eq_true (show 0 < de B n p by omega), g4 (de B n p - 1) (by omega) (by omega), Bool.or_true]; rfl
        have t3 : TY inR2 no τ (sI (sI τ2 4 (nI (de B n p))) 10 (nI p)) := (t2.sI (Or.inl rfl)).sI (Or.inl rfl)
        by_cases hin : lo ≤ dv B p (de B n p - p) ∧ dv B p (de B n p - p) ≤ hi
        · have b1 : nI lo ≤ nI (dv B p (de B n p - p)) := by rw [nI_leI hlo (by omega)]; exact hin.1
          have b2 : nI (dv B p (de B n p - p)) ≤ nI hi := by rw [nI_leI (by omega) hhi]; exact hin.2
          rw [decide_eq_true b1, decide_eq_true b2, if_neg (show ¬ b32 (true && true) = 0 by decide), if_pos hin]
          exact OK_some ⟨t3, rfl, tps, by rw [tI_sI, if_pos rfl]⟩
        · have b3 : (decide (nI lo ≤ nI (dv B p (de B n p - p))) && decide (nI (dv B p (de B n p - p)) ≤ nI hi)) = false := by
            rw [Bool.eq_false_iff]; intro z; simp only [Bool.and_eq_true, decide_eq_true_eq] at z
            rw [nI_leI hlo (by omega), nI_leI (by omega) hhi] at z
            exact hin z
          rw [b3, if_pos (show b32 false = 0 by decide), T_fail tps.2.1, Option.bind_some, if_neg hin]
          exact OK_some ⟨tf _ _ _ t3, by rw [tI_sI, if_neg (by omega), tI_sI, if_pos rfl]; rfl, by rw [tI_sI, if_pos rfl]⟩
      · have s3' : itr (fun s_ : Int32 × TS => Bt_number_49 (nI lo) (nI hi) (nI p) s_.1 s_.2) 4096 (0, sI τ 2 (nI p)) = _ := s3
        rw [s3', Option.bind_some, Sum.elim_inr, T_fail r2, s2.2.2.2.1, Option.bind_some, if_pos s1]
        exact OK_some ⟨tf _ _ _ t2, by rw [tI_sI, if_neg (by omega), tI_sI, if_pos rfl]; rfl, by rw [tI_sI, if_pos rfl]⟩
end ZZ1
