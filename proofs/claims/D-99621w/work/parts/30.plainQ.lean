/-! PLAIN LAW: works of both -/
set_option maxRecDepth 100000
section TQs
variable {τ q : TS} {v : VD} {w : Nat → Int32}
theorem T_workTwo {n j : Nat} {y : Int32} (hT : TV τ v) (hb : VB v) (h : TK τ q (tA τ 62)) (hr : WR v (tA τ 62)) (h9 : W9 (tA τ 62)) (hK : ∃ K, K ≤ 40 ∧ tA τ 62 182 = nI K) (hn : n ≤ 1000) (hj : j < 10) :
    OK (f_t_isWorkTwo (nI j) y (nI n) q) (fun o => TK τ o.2 (tA τ 62) ∧ ((o.1 = nI 0 ∧ ∀ k i, k ≤ i → i < 80 → isC v k → isC v i → ok2 v (tA τ 62) n j y k i = false) ∨ ∃ k i, k ≤ i ∧ i < 80 ∧ isC v k ∧ isC v i ∧ o.1 = nI 1 ∧ ok2 v (tA τ 62) n j y k i = true ∧ tI o.2 73 = nI k ∧ tI o.2 74 = nI i ∧ ∀ k' i', k' ≤ i' → i' < 80 → bef k i k' i' → isC v k' → isC v i' → ok2 v (tA τ 62) n j y k' i' = false)) := by
  unfold f_t_isWorkTwo
  have hI : ∀ k, k < 80 → ∀ q1, TK τ q1 (tA τ 62) → OK (itr (fun s_ : Int32 × TS => Bt_isWorkTwo_14 (nI j) y (nI n) (nI k) s_.1 s_.2) 4096 (nI k, q1)) (fun r => (∃ q', r = .inl q' ∧ TK τ q' (tA τ 62) ∧ ∀ i, k ≤ i → i < 80 → isC v k → isC v i → ok2 v (tA τ 62) n j y k i = false) ∨ ∃ q' i, r = .inr (1, q') ∧ TK τ q' (tA τ 62) ∧ k ≤ i ∧ i < 80 ∧ isC v k ∧ isC v i ∧ ok2 v (tA τ 62) n j y k i = true ∧ tI q' 73 = nI k ∧ tI q' 74 = nI i ∧ ∀ i', k ≤ i' → i' < i → isC v k → isC v i' → ok2 v (tA τ 62) n j y k i' = false) := by
    intro k hk q1 h1
    refine itr_for (fun i p => ∃ q', p = (nI i, q') ∧ TK τ q' (tA τ 62) ∧ ∀ i', k ≤ i' → i' < i → isC v k → isC v i' → ok2 v (tA τ 62) n j y k i' = false) _ k 80 ?_ ?_ (by omega) (by omega) ⟨q1, rfl, h1, fun i' h1 h2 => absurd h1 (by omega)⟩
    · rintro i p hki hi ⟨q', rfl, hz, hf⟩
      show OK (Bt_isWorkTwo_14 (nI j) y (nI n) (nI k) (nI i) q') _
      obtain ⟨o, e, p1⟩ := T_tryTwo (n := n) (j := j) (k := k) (i := i) (y := y) hT hb hz hr h9 hK hn hj hk hi
      refine ⟨o, e, ?_⟩
      rcases p1 with ⟨q2, rfl, p2, p3⟩ | ⟨q2, rfl, p2, p3, p4, p5, p6, p7⟩
      · refine Or.inl ⟨_, rfl, q2, rfl, p2, fun i' a1 a2 a3 a4 => ?_⟩
        by_cases e : i' = i
        · subst e; exact p3 a3 a4
        · exact hf i' a1 (by omega) a3 a4
      · exact Or.inr ⟨_, rfl, Or.inr ⟨q2, i, rfl, p2, hki, hi, p3, p4, p5, p6, p7, hf⟩⟩
    · rintro p ⟨q', rfl, hz, hf⟩
      show OK (Bt_isWorkTwo_14 (nI j) y (nI n) (nI k) (nI 80) q') _
      unfold Bt_isWorkTwo_14
      rw [if_pos (show (80 : Int32) ≤ nI 80 by decide)]
      exact ⟨_, rfl, _, rfl, Or.inl ⟨q', rfl, hz, hf⟩⟩
  have hL : OK (itr (fun s_ : Int32 × TS => Bt_isWorkTwo_3 (nI j) y (nI n) s_.1 s_.2) 4096 (0, q)) (fun r => (∃ q', r = .inl q' ∧ TK τ q' (tA τ 62) ∧ ∀ k i, k ≤ i → i < 80 → isC v k → isC v i → ok2 v (tA τ 62) n j y k i = false) ∨ ∃ q' k i, r = .inr (1, q') ∧ TK τ q' (tA τ 62) ∧ k ≤ i ∧ i < 80 ∧ isC v k ∧ isC v i ∧ ok2 v (tA τ 62) n j y k i = true ∧ tI q' 73 = nI k ∧ tI q' 74 = nI i ∧ ∀ k' i', k' ≤ i' → i' < 80 → bef k i k' i' → isC v k' → isC v i' → ok2 v (tA τ 62) n j y k' i' = false) := by
    refine itr_for (fun k p => ∃ q', p = (nI k, q') ∧ TK τ q' (tA τ 62) ∧ ∀ k' i', k' < k → k' ≤ i' → i' < 80 → isC v k' → isC v i' → ok2 v (tA τ 62) n j y k' i' = false) _ 0 80 ?_ ?_ (by omega) (by omega) ⟨q, rfl, h, fun a' _ h1 => absurd h1 (Nat.not_lt_zero _)⟩
    · rintro k p - hk ⟨q', rfl, hz, hf⟩
      show OK (Bt_isWorkTwo_3 (nI j) y (nI n) (nI k) q') _
      unfold Bt_isWorkTwo_3
      rw [if_neg (show ¬ (80 : Int32) ≤ nI k by show ¬ nI 80 ≤ nI k; rw [nI_leI (by omega) (by omega)]; omega)]
      obtain ⟨r, e, p⟩ := hI k hk q' hz
      rw [e, Option.bind_some]
      rcases p with ⟨q2, rfl, p1, p2⟩ | ⟨q2, i, rfl, p1, p2, p3, p4, p5, p6, p7, p8, p9⟩
      · refine ⟨_, rfl, Or.inl ⟨_, rfl, q2, by rw [nl_1, nI_add], p1, fun k' i' a1 a2 a3 a4 a5 => ?_⟩⟩
        by_cases e : k' = k
        · subst e; exact p2 i' a2 a3 a4 a5
        · exact hf k' i' (by omega) a2 a3 a4 a5
      · refine ⟨_, rfl, Or.inr ⟨_, rfl, Or.inr ⟨q2, k, i, rfl, p1, p2, p3, p4, p5, p6, p7, p8, fun k' i' a1 a2 a3 a4 a5 => ?_⟩⟩⟩
        rcases a3 with a3 | ⟨rfl, a3⟩
        · exact hf k' i' a3 a1 a2 a4 a5
        · exact p9 i' a1 a3 a4 a5
    · rintro p ⟨q', rfl, hz, hf⟩
      show OK (Bt_isWorkTwo_3 (nI j) y (nI n) (nI 80) q') _
      unfold Bt_isWorkTwo_3
      rw [if_pos (show (80 : Int32) ≤ nI 80 by decide)]
      exact ⟨_, rfl, _, rfl, Or.inl ⟨q', rfl, hz, fun k i a1 a2 a3 a4 => hf k i (by omega) a1 a2 a3 a4⟩⟩
  obtain ⟨r, e, p⟩ := hL
  rw [e, Option.bind_some]
  rcases p with ⟨q2, rfl, p1, p2⟩ | ⟨q2, k, i, rfl, p1, p2, p3, p4, p5, p6, p7, p8, p9⟩
  · exact ⟨_, rfl, p1, Or.inl ⟨rfl, p2⟩⟩
  · exact ⟨_, rfl, p1, Or.inr ⟨k, i, p2, p3, p4, p5, rfl, p6, p7, p8, p9⟩⟩
theorem cel_C {a : Nat} (hb : VB v) (ha : a < vC v * vW v) : isC v (cel v a) ∧ cel v a < 80 := by
  obtain ⟨h1, h2, h3, h4, h5, h6⟩ := cel_b hb ha
  unfold cel
  generalize a / vW v = p at *
  generalize a % vW v = r at *
  show ((8 * p + r) / 8 < vC v ∧ (8 * p + r) % 8 < vW v) ∧ _
  omega
theorem cel_m {a a' : Nat} (hb : VB v) (h : a' < a) (ha : a < vC v * vW v) : cel v a' < cel v a := by
  obtain ⟨h1, h2, h3, h4, h5, h6⟩ := cel_b hb ha
  obtain ⟨k1, k2, -⟩ := cel_b hb (Nat.lt_trans h ha)
  have e1 := Nat.div_add_mod a (vW v)
  have e2 := Nat.div_add_mod a' (vW v)
  have e3 : a' / vW v ≤ a / vW v := Nat.div_le_div_right (Nat.le_of_lt h)
  unfold cel
  by_cases e : a' / vW v = a / vW v
  · rw [e] at e2 ⊢
    generalize vW v * (a / vW v) = z at *
    generalize a / vW v = p at *
    generalize a % vW v = r at *
    generalize a' % vW v = r' at *
    omega
  · generalize a / vW v = p at *
    generalize a' / vW v = p' at *
    generalize a % vW v = r at *
    generalize a' % vW v = r' at *
    omega
theorem cel_s {k : Nat} (hb : VB v) (hk : k < 80) (h : isC v k) : ∃ a, a < vC v * vW v ∧ cel v a = k := by
  have h1 : k / 8 < vC v := h.1
  have h2 : k % 8 < vW v := h.2
  have hW : 0 < vW v := by omega
  have e1 : (vW v * (k / 8) + k % 8) / vW v = k / 8 := by rw [Nat.mul_add_div hW, Nat.div_eq_of_lt h2, Nat.add_zero]
  have e2 : (vW v * (k / 8) + k % 8) % vW v = k % 8 := by rw [Nat.mul_add_mod, Nat.mod_eq_of_lt h2]
  refine ⟨vW v * (k / 8) + k % 8, ?_, ?_⟩
  · have : vW v * (k / 8 + 1) ≤ vW v * vC v := Nat.mul_le_mul_left _ h1
    rw [Nat.mul_comm (vC v)]
    rw [Nat.mul_add, Nat.mul_one] at this
    generalize vW v * (k / 8) = z at *
    generalize vW v * vC v = z' at *
    omega
  · unfold cel; rw [e1, e2]; omega
theorem cel_m' {a a' : Nat} (hb : VB v) (ha : a' < vC v * vW v) (h : cel v a ≤ cel v a') : a ≤ a' ∨ vC v * vW v ≤ a := by
  by_cases e : vC v * vW v ≤ a
  · exact Or.inr e
  · refine Or.inl (Nat.le_of_not_lt (fun e2 => ?_))
    have := cel_m hb e2 (by omega)
    omega
theorem Fst_u {n j m a b a' b' : Nat} {y : Int32} (h : Fst v w n j y m a b) (h' : Fst v w n j y m a' b') : a' = a ∧ b' = b := by
  obtain ⟨h1, h2, h3, h4, h5⟩ := h
  obtain ⟨k1, k2, k3, k4, k5⟩ := h'
  by_cases e1 : a' < a
  · have := h5 a' b' k1 k2 k3 (Or.inl e1); rw [k4] at this; cases this
  · by_cases e2 : a < a'
    · have := k5 a b h1 h2 h3 (Or.inl e2); rw [h4] at this; cases this
    · have e : a' = a := by omega
      subst e
      by_cases e3 : b' < b
      · have := h5 a' b' k1 k2 k3 (Or.inr ⟨rfl, e3⟩); rw [k4] at this; cases this
      · by_cases e4 : b < b'
        · have := k5 a' b h1 h2 h3 (Or.inr ⟨rfl, e4⟩); rw [h4] at this; cases this
        · exact ⟨rfl, by omega⟩
theorem Fst_n {n j m a b : Nat} {y : Int32} (h : Fst v w n j y m a b) (h' : Non v w n j y m) : False := by
  have := h' a b h.1 h.2.1 h.2.2.1
  rw [h.2.2.2.1] at this; cases this
theorem Wrk_u {n j : Nat} {y x r r' : Int32} (h : Wrk v w n j y x r) (h' : Wrk v w n j y x r') : r = r' := by
  rcases h with ⟨m, a, b, h1, h2, h3, rfl⟩ | ⟨h1, rfl⟩
  · rcases h' with ⟨m', a', b', k1, k2, k3, rfl⟩ | ⟨k1, rfl⟩
    · by_cases e1 : m' < m
      · exact (Fst_n k3 (h2 m' e1)).elim
      · by_cases e2 : m < m'
        · exact (Fst_n h3 (k2 m e2)).elim
        · have e : m' = m := by omega
          subst e
          obtain ⟨rfl, rfl⟩ := Fst_u h3 k3
          rfl
    · exact (Fst_n h3 (k1 m h1)).elim
  · rcases h' with ⟨m', a', b', k1, k2, k3, rfl⟩ | ⟨k1, rfl⟩
    · exact (Fst_n k3 (h1 m' k1)).elim
    · rfl
theorem Non_0 {n j : Nat} {y : Int32} (h : runS v w n j y = false) : Non v w n j y 0 := fun a b _ _ _ => h
theorem Fst_0 {n j : Nat} {y : Int32} (h : runS v w n j y = true) : Fst v w n j y 0 0 0 := ⟨Nat.one_pos, Nat.le_refl _, Nat.one_pos, h, fun a' b' h1 h2 h3 h4 => by
  have h1 : a' < 1 := h1
  have h3 : b' < 1 := h3
  omega⟩
theorem Non_1 {n j : Nat} {y : Int32} (hb : VB v) (h : ∀ k, k < 80 → isC v k → ok1 v w n j y k = false) : Non v w n j y 1 := fun a b h1 _ _ => by
  have h1 : a < vC v * vW v := h1
  obtain ⟨p1, p2⟩ := cel_C hb h1
  exact h _ p2 p1
theorem Fst_1 {n j k : Nat} {y : Int32} (hb : VB v) (hk : k < 80) (hc : isC v k) (h : ok1 v w n j y k = true) (hf : ∀ k', k' < k → isC v k' → ok1 v w n j y k' = false) : ∃ a, cel v a = k ∧ Fst v w n j y 1 a 0 := by
  obtain ⟨a, ha, rfl⟩ := cel_s hb hk hc
  refine ⟨a, rfl, ha, Nat.le_refl _, Nat.one_pos, h, fun a' b' h1 h2 h3 h4 => ?_⟩
  have h1 : a' < vC v * vW v := h1
  have h3 : b' < 1 := h3
  have h4 : a' < a := by omega
  exact hf _ (cel_m hb h4 ha) (cel_C hb h1).1
theorem Non_2 {n j : Nat} {y : Int32} (hb : VB v) (h : ∀ k i, k ≤ i → i < 80 → isC v k → isC v i → ok2 v w n j y k i = false) : Non v w n j y 2 := fun a b h1 h2 h3 => by
  have h1 : a < vC v * vW v := h1
  have h2 : a ≤ b := h2
  have h3 : b < vC v * vW v := h3
  have h4 : cel v a ≤ cel v b := by
    by_cases e : a = b
    · rw [e]; exact Nat.le_refl _
    · exact Nat.le_of_lt (cel_m hb (by omega) h3)
  exact h _ _ h4 (cel_C hb h3).2 (cel_C hb h1).1 (cel_C hb h3).1
theorem Fst_2 {n j k i : Nat} {y : Int32} (hb : VB v) (hki : k ≤ i) (hi : i < 80) (hc : isC v k) (hd : isC v i) (h : ok2 v w n j y k i = true) (hf : ∀ k' i', k' ≤ i' → i' < 80 → bef k i k' i' → isC v k' → isC v i' → ok2 v w n j y k' i' = false) : ∃ a b, cel v a = k ∧ cel v b = i ∧ Fst v w n j y 2 a b := by
  obtain ⟨a, ha, rfl⟩ := cel_s hb (by omega) hc
  obtain ⟨b, hbb, rfl⟩ := cel_s hb hi hd
  have hab : a ≤ b := by
    rcases cel_m' hb hbb hki with e | e
    · exact e
    · omega
  refine ⟨a, b, rfl, rfl, ha, hab, hbb, h, fun a' b' h1 h2 h3 h4 => ?_⟩
  have h1 : a' < vC v * vW v := h1
  have h2 : a' ≤ b' := h2
  have h3 : b' < vC v * vW v := h3
  have h5 : cel v a' ≤ cel v b' := by
    by_cases e : a' = b'
    · rw [e]; exact Nat.le_refl _
    · exact Nat.le_of_lt (cel_m hb (by omega) h3)
  refine hf _ _ h5 (cel_C hb h3).2 ?_ (cel_C hb h1).1 (cel_C hb h3).1
  rcases h4 with h4 | ⟨rfl, h4⟩
  · exact Or.inl (cel_m hb h4 ha)
  · exact Or.inr ⟨rfl, cel_m hb h4 hbb⟩
end TQs
