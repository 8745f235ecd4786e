/-! PLAIN LAW: where it ran: the component -/
set_option maxRecDepth 100000
def allN (P : Nat → Bool) : Nat → Bool
  | 0 => true
  | k + 1 => allN P k && P k
def cntN (P : Nat → Bool) : Nat → Nat
  | 0 => 0
  | k + 1 => cntN P k + (if P k = true then 1 else 0)
theorem allN_iff {P : Nat → Bool} : ∀ n, allN P n = true ↔ ∀ i, i < n → P i = true
  | 0 => ⟨fun _ i hi => absurd hi (Nat.not_lt_zero i), fun _ => rfl⟩
  | n + 1 => by
    show (allN P n && P n) = true ↔ _
    rw [Bool.and_eq_true, allN_iff n]
    exact ⟨fun h i hi => if e : i = n then by rw [e]; exact h.2 else h.1 i (by omega), fun h => ⟨fun i hi => h i (by omega), h n (by omega)⟩⟩
theorem allN_no {P : Nat → Bool} {n i : Nat} (hi : i < n) (h : P i = false) : allN P n = false := by
  rw [Bool.eq_false_iff]
  intro e
  rw [(allN_iff n).mp e i hi] at h
  cases h
theorem allN_ext {P Q : Nat → Bool} {n : Nat} (h : ∀ i, i < n → P i = Q i) : allN P n = allN Q n := by
  rw [Bool.eq_iff_iff, allN_iff, allN_iff]
  exact ⟨fun k i hi => by rw [← h i hi]; exact k i hi, fun k i hi => by rw [h i hi]; exact k i hi⟩
theorem cntN_le {P : Nat → Bool} : ∀ n, cntN P n ≤ n
  | 0 => Nat.le_refl _
  | n + 1 => by
    show cntN P n + _ ≤ _
    have := cntN_le (P := P) n
    split <;> omega
theorem cntN_all {P : Nat → Bool} : ∀ n, cntN P n = n ↔ allN P n = true
  | 0 => ⟨fun _ => rfl, fun _ => rfl⟩
  | n + 1 => by
    show cntN P n + _ = n + 1 ↔ (allN P n && P n) = true
    have h1 := cntN_le (P := P) n
    rw [Bool.and_eq_true, ← cntN_all n]
    by_cases e : P n = true
    · rw [if_pos e]; exact ⟨fun h => ⟨by omega, e⟩, fun h => by omega⟩
    · rw [if_neg e]; exact ⟨fun h => by omega, fun h => absurd h.2 e⟩
theorem cntN_ext {P Q : Nat → Bool} : ∀ {n : Nat}, (∀ i, i < n → P i = Q i) → cntN P n = cntN Q n
  | 0, _ => rfl
  | n + 1, h => by
    show cntN P n + _ = cntN Q n + _
    rw [cntN_ext (n := n) (fun i hi => h i (by omega)), h n (by omega)]
theorem cntN_zero {P : Nat → Bool} : ∀ {n : Nat}, (∀ i, i < n → P i = false) → cntN P n = 0
  | 0, _ => rfl
  | n + 1, h => by
    show cntN P n + _ = 0
    rw [cntN_zero (n := n) (fun i hi => h i (by omega)), h n (by omega)]
    rfl
theorem cntN_split {σ : Nat → Nat} {P : Nat → Bool} {k : Nat} : ∀ n, cntN (fun i => decide (σ i < k) && P i) n + cntN (fun i => decide (σ i = k) && P i) n = cntN (fun i => decide (σ i < k + 1) && P i) n
  | 0 => rfl
  | n + 1 => by
    have ih := cntN_split (σ := σ) (P := P) (k := k) n
    show cntN _ n + _ + (cntN _ n + _) = cntN _ n + _
    rw [← ih]
    cases hP : P n with
    | false => simp [hP]; try omega
    | true =>
      by_cases h1 : σ n < k
      · have h2 : ¬ σ n = k := by omega
        have h3 : σ n < k + 1 := by omega
        simp [hP, h1, h2, h3]; try omega
      · by_cases h2 : σ n = k
        · simp [hP, h2]; try omega
        · have h3 : ¬ σ n < k + 1 := by omega
          simp [hP, h1, h2, h3]; try omega
/-- rows seen as functions -/
def SWf (c : CC) (τ : TS) (X : Nat) (v : VD) (R : Nat) (σ α β : Nat → Nat) : Prop := R ≤ 16 ∧ cI c 118 X = nI R ∧ tI τ 79 = nI R ∧ ∀ k, k < R → σ k ≤ 30 ∧ α k < vC v ∧ β k < vW v ∧ (cA c (X + 297) k = nI (σ k) ∧ cA c (X + 298) k = nI (α k) ∧ cA c (X + 299) k = nI (β k)) ∧ tA τ 80 (3 * k) = nI (σ k) ∧ tA τ 80 (3 * k + 1) = nI (α k) ∧ tA τ 80 (3 * k + 2) = nI (β k)
theorem SW.fn {c : CC} {τ : TS} {X : Nat} {v : VD} (hb : VB v) (h : SW c τ X v) : ∃ R σ α β, SWf c τ X v R σ α β := by
  obtain ⟨R, h1, h2, h3, h4⟩ := h
  have hb1 := hb.1
  have hb2 := hb.2.1
  refine ⟨R, fun k => (tA τ 80 (3 * k)).toNatClampNeg, fun k => (tA τ 80 (3 * k + 1)).toNatClampNeg, fun k => (tA τ 80 (3 * k + 2)).toNatClampNeg, h1, h2, h3, fun k hk => ?_⟩
  obtain ⟨s, a, b, q1, q2, q3, ⟨q4, q5, q6⟩, q7, q8, q9⟩ := h4 k hk
  simp only [q7, q8, q9, nI_clamp (show s < 2 ^ 31 by omega), nI_clamp (show a < 2 ^ 31 by omega), nI_clamp (show b < 2 ^ 31 by omega)]
  exact ⟨q1, q2, q3, ⟨q4, q5, q6⟩, trivial, trivial, trivial⟩
/-- rows that are tried -/
def RYG (g : CG) (X : Nat) : Prop := gR g 119 X = some (X + 300) ∧ gT g (X + 300) = 105 ∧ gN g (X + 300) = 8 ∧ ∀ i, i < 8 → gA g (X + 300) i = X + 301 + i ∧ gT g (X + 301 + i) = 100 ∧ gN g (X + 301 + i) = 31
def okS (v : VD) (w : Nat → Int32) (σ α β : Nat → Nat) (i : Nat) : Bool := decide (seasN v w (σ i) (2 + α i) = nI (β i))
def fitS (v : VD) (w : Nat → Int32) (M R : Nat) (σ α β : Nat → Nat) : Bool := allN (fun i => decide (σ i < M) && okS v w σ α β i) R
theorem ahead_dec {v : VD} {w : Nat → Int32} {n k a K : Nat} (hv : 0 < vC v) (hw : w 0 = nI n) (hn : n ≤ 999) (hk : k ≤ 100) (ha : a ≤ 100) (hK : K ≤ 100) : aheadS v w (nI k) (nI a) (nI K) = decide (a ≤ k ∧ k ≤ K ∧ n + k ≤ 999) := by
  unfold aheadS
  rw [hw, nI_add, decide_eq_true hv]
  have e1 : (nI a ≤ nI k) ↔ a ≤ k := nI_leI (by omega) (by omega)
  have e2 : (nI k ≤ nI K) ↔ k ≤ K := nI_leI (by omega) (by omega)
  have e3 : (nI 999 < nI (n + k)) ↔ 999 < n + k := nI_ltI (by omega) (by omega)
  simp only [e1, e2, e3]
  by_cases h1 : a ≤ k <;> by_cases h2 : k ≤ K <;> by_cases h3 : n + k ≤ 999 <;> simp [h1, h2, h3] <;> omega
section ZJs
variable {g : CG} {c c' : CC} {τ τ' q : TS} {X V s lo hi n m : Nat} {v : VD} {w : Nat → Int32} {R : Nat} {σ α β : Nat → Nat}
/-- which of the rows seen are met in a season -/
theorem C_met {x1 x2 : Int32} {k m : Nat} (hx : CX g c' X V v lo hi) (h110 : gR g 110 X = some (X + 103)) (ht : CT g c' X (X + 103) v w) (hg : SWG g X) (hs : SWf c' τ X v R σ α β) (hk : k ≤ 30) :
    itr (fun s_ : Int32 × Int32 × CC => Bc_X0_canRun_55 g X x1 x2 (nI k) s_.1 s_.2.1 s_.2.2) 4096 (nI m, 0, c') = some (nI (m + cntN (fun i => decide (σ i = k) && decide (w (2 + α i) = nI (β i))) R), c') := by
  obtain ⟨hR, h118, -, hs⟩ := hs
  have hb1 := hx.2.2.2.2.2.1.1
  have key : OK (itr (fun s_ : Int32 × Int32 × CC => Bc_X0_canRun_55 g X x1 x2 (nI k) s_.1 s_.2.1 s_.2.2) 4096 (nI m, 0, c')) (fun o => o = (nI (m + cntN (fun i => decide (σ i = k) && decide (w (2 + α i) = nI (β i))) R), c')) := by
    refine itr_for (fun i s => s = (nI (m + cntN (fun i => decide (σ i = k) && decide (w (2 + α i) = nI (β i))) i), nI i, c')) _ 0 R ?_ ?_ (by omega) (by omega) rfl
    · rintro i s - hi rfl
      obtain ⟨q1, q2, q3, ⟨q4, q5, q6⟩, -⟩ := hs i hi
      have h9 : ¬ nI R ≤ nI i := by rw [nI_leI (by omega) (by omega)]; omega
      have e106 : ∀ z : Nat, Jc_X0_canRun_106 g X x1 x2 (nI k) (nI i) (nI z) c' = some (.inl (nI (z + 0), nI (i + 1), c')) := fun z => by
        unfold Jc_X0_canRun_106 Jc_X0_canRun_107
        rw [nl_0, nl_1, nI_add, nI_add]
      have e107 : ∀ z : Nat, Jc_X0_canRun_107 g X x1 x2 (nI k) (nI i) 1 (nI z) c' = some (.inl (nI (z + 1), nI (i + 1), c')) := fun z => by
        unfold Jc_X0_canRun_107
        rw [nl_1, nI_add, nI_add]
      show OK (Bc_X0_canRun_55 g X x1 x2 (nI k) (nI (m + cntN (fun i => decide (σ i = k) && decide (w (2 + α i) = nI (β i))) i)) (nI i) c') _
      unfold Bc_X0_canRun_55
      rw [if_pos hx.1, h118, if_neg h9, hg.1.1, Option.bind_some, if_pos hg.1.2.1, hg.1.2.2, if_pos (xin_nI (show i < 16 by omega) (by omega)), nI_clamp (show i < 2 ^ 31 by omega), q4, h110, Option.bind_some, if_pos ht.1.1, ht.1.2.2.1.1, Option.bind_some, hg.2.1.1, Option.bind_some, if_pos hg.2.1.2.1, hg.2.1.2.2, if_pos (xin_nI (show i < 16 by omega) (by omega)), if_pos ht.1.2.2.1.2.1, q5, ht.1.2.2.1.2.2, if_pos (xin_nI (show α i < 10 by omega) (by omega)), hg.2.2.1, Option.bind_some, if_pos hg.2.2.2.1, hg.2.2.2.2, if_pos (xin_nI (show i < 16 by omega) (by omega)), nI_clamp (show α i < 2 ^ 31 by omega), ht.2.1.2.2.1 (α i) (by omega), q6, e106, e107]
      by_cases e1 : σ i = k
      · rw [if_pos (by rw [e1])]
        by_cases e2 : w (2 + α i) = nI (β i)
        · rw [if_pos e2]
          exact ⟨_, rfl, Or.inl ⟨_, rfl, by simp only [cntN, e1, e2, decide_true, Bool.and_self, reduceIte]; rfl⟩⟩
        · rw [if_neg e2]
          exact ⟨_, rfl, Or.inl ⟨_, rfl, by simp only [cntN, e2, decide_false, Bool.and_false, Bool.false_eq_true, reduceIte]; rfl⟩⟩
      · rw [if_neg (by rw [nI_eq (by omega) (by omega)]; exact e1)]
        exact ⟨_, rfl, Or.inl ⟨_, rfl, by simp only [cntN, e1, decide_false, Bool.false_and, Bool.false_eq_true, reduceIte]; rfl⟩⟩
    · rintro s rfl
      have h9 : nI R ≤ nI R := by rw [nI_leI (by omega) (by omega)]; omega
      show OK (Bc_X0_canRun_55 g X x1 x2 (nI k) _ (nI R) c') _
      unfold Bc_X0_canRun_55
      rw [if_pos hx.1, h118, if_pos h9]
      exact OK_some ⟨_, rfl, rfl⟩
  obtain ⟨o, e, rfl⟩ := key
  exact e
end ZJs
