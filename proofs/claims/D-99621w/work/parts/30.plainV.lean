/-! PLAIN LAW: what can be undone: the twin's ring, the component's row of states -/
set_option maxRecDepth 100000
def in8586 (k : Nat) : Bool := k == 85 || k == 86
def in84 (k : Nat) : Bool := k == 84
section VVs
variable {g : CG} {c : CC} {τ q : TS} {X V s lo hi : Nat} {v : VD} {w : Nat → Int32}
theorem T_keeps {N U : Nat} (hN : N < 20) (hU : U ≤ 20) (h86 : tI τ 86 = nI N) (h85 : tI τ 85 = nI U) : OK (f_t_keeps τ) (fun q => tI q 86 = nI ((N + 1) % 20) ∧ tI q 85 = nI (if U = 20 then 20 else U + 1) ∧ (∀ j, j < 303 → tA q 84 (303 * ((N + 1) % 20) + j) = tA τ 62 j) ∧ (∀ i, ¬ (303 * ((N + 1) % 20) ≤ i ∧ i < 303 * ((N + 1) % 20) + 303) → tA q 84 i = tA τ 84 i) ∧ TX in8586 in84 τ q) := by
  unfold f_t_keeps
  have e1 : ((tI τ 86 + 1) - (tI τ 86 + 1) / 20 * 20) = nI ((N + 1) % 20) := by
    rw [h86, nl_1, nl_20, nI_add, nI_rem (by omega) (by omega) (by omega)]
  rw [e1]
  have hM : (N + 1) % 20 < 20 := Nat.mod_lt _ (by omega)
  generalize (N + 1) % 20 = M at *
  refine OK_bind (P := fun q => tI q 86 = nI M ∧ tI q 85 = nI U ∧ (∀ j, j < 303 → tA q 84 (303 * M + j) = tA τ 62 j) ∧ (∀ i, ¬ (303 * M ≤ i ∧ i < 303 * M + 303) → tA q 84 i = tA τ 84 i) ∧ TX in8586 in84 τ q) ?_ (fun q p => ?_)
  · refine itr_for (fun k p => ∃ q, p = (nI k, q) ∧ tI q 86 = nI M ∧ tI q 85 = nI U ∧ (∀ j, j < k → tA q 84 (303 * M + j) = tA τ 62 j) ∧ (∀ i, ¬ (303 * M ≤ i ∧ i < 303 * M + 303) → tA q 84 i = tA τ 84 i) ∧ TX in8586 in84 τ q) _ 0 303 ?_ ?_ (by omega) (by omega) ⟨_, rfl, rfl, h85, fun j hj => absurd hj (Nat.not_lt_zero _), fun _ _ => rfl, (TX.refl _ _ τ).sI (Or.inl rfl)⟩
    · rintro k p - hk ⟨q, rfl, p1, p2, p3, p4, p5⟩
      show OK (Bt_keeps_15 (nI k) q) _
      unfold Bt_keeps_15
      have e2 : (303 : Int32) * nI M + nI k = nI (303 * M + k) := by rw [nl_303, pk_mul, nI_add]
      rw [if_neg (show ¬ (303 : Int32) ≤ nI k by show ¬ nI 303 ≤ nI k; rw [nI_leI (by omega) (by omega)]; omega), if_pos (xin_nI hk (by omega)), p1, e2, if_pos (xin_nI (show 303 * M + k < 6060 by omega) (by omega)), nI_clamp (show k < 2 ^ 31 by omega), nI_clamp (show 303 * M + k < 2 ^ 31 by omega), nl_1, nI_add]
      refine ⟨_, rfl, Or.inl ⟨_, rfl, _, rfl, p1, p2, fun j hj => ?_, fun i hi => ?_, p5.sA rfl⟩⟩
      · rw [tA_sA, p5.2.2.1 62 k rfl]
        by_cases e : j = k
        · subst e; rw [if_pos ⟨rfl, rfl⟩]
        · rw [if_neg (by omega)]; exact p3 j (by omega)
      · rw [tA_sA, if_neg (by omega)]; exact p4 i hi
    · rintro p ⟨q, rfl, p1⟩
      show OK (Bt_keeps_15 (nI 303) q) _
      unfold Bt_keeps_15
      rw [if_pos (show (303 : Int32) ≤ nI 303 by decide)]
      exact ⟨_, rfl, _, rfl, p1⟩
  · obtain ⟨p1, p2, p3, p4, p5⟩ := p
    rw [p2, nl_20, nl_1, nI_add]
    by_cases e : U = 20
    · subst e
      rw [if_pos (show nI 20 ≤ nI 20 by decide), if_pos rfl]
      exact ⟨_, rfl, p1, p2, p3, p4, p5⟩
    · rw [if_neg (by rw [nI_leI (by omega) (by omega)]; omega), if_neg e]
      refine ⟨_, rfl, ?_, ?_, p3, p4, p5.sI (Or.inl rfl)⟩
      · rw [tI_sI, if_neg (by omega)]; exact p1
      · rw [tI_sI, if_pos rfl]
theorem T_undo {N U : Nat} (hN : N < 20) (hU : U ≤ 20) (hU0 : 0 < U) (h86 : tI τ 86 = nI N) (h85 : tI τ 85 = nI U) : OK (f_t_undo τ) (fun o => o.1 = nI 1 ∧ (∀ j, tA o.2 62 j = if j < 303 then tA τ 84 (303 * N + j) else tA τ 62 j) ∧ tI o.2 86 = nI ((N + 19) % 20) ∧ tI o.2 85 = nI (U - 1) ∧ TX in8586 in62 τ o.2) := by
  unfold f_t_undo
  rw [h85, if_neg (show ¬ nI U = 0 by show ¬ nI U = nI 0; rw [nI_eq (by omega) (by omega)]; omega)]
  refine OK_bind (P := fun q => tI q 86 = nI N ∧ tI q 85 = nI U ∧ (∀ j, tA q 62 j = if j < 303 then tA τ 84 (303 * N + j) else tA τ 62 j) ∧ TX in8586 in62 τ q) ?_ (fun q p => ?_)
  · refine itr_for (fun k p => ∃ q, p = (nI k, q) ∧ tI q 86 = nI N ∧ tI q 85 = nI U ∧ (∀ j, tA q 62 j = if j < k then tA τ 84 (303 * N + j) else tA τ 62 j) ∧ TX in8586 in62 τ q) _ 0 303 ?_ ?_ (by omega) (by omega) ⟨τ, rfl, h86, h85, fun j => (if_neg (Nat.not_lt_zero _)).symm, TX.refl _ _ τ⟩
    · rintro k p - hk ⟨q, rfl, p1, p2, p3, p5⟩
      show OK (Bt_undo_21 (nI k) q) _
      unfold Bt_undo_21
      have e2 : (303 : Int32) * nI N + nI k = nI (303 * N + k) := by rw [nl_303, pk_mul, nI_add]
      rw [if_neg (show ¬ (303 : Int32) ≤ nI k by show ¬ nI 303 ≤ nI k; rw [nI_leI (by omega) (by omega)]; omega), p1, e2, if_pos (xin_nI (show 303 * N + k < 6060 by omega) (by omega)), if_pos (xin_nI hk (by omega)), nI_clamp (show k < 2 ^ 31 by omega), nI_clamp (show 303 * N + k < 2 ^ 31 by omega), nl_1, nI_add]
      refine ⟨_, rfl, Or.inl ⟨_, rfl, _, rfl, p1, p2, fun j => ?_, p5.sA rfl⟩⟩
      rw [tA_sA, p5.2.2.1 84 _ rfl]
      by_cases e : j = k
      · subst e; rw [if_pos ⟨rfl, rfl⟩, if_pos (by omega)]
      · rw [if_neg (fun h => e h.2), p3]
        by_cases e2 : j < k
        · rw [if_pos e2, if_pos (by omega)]
        · rw [if_neg e2, if_neg (by omega)]
    · rintro p ⟨q, rfl, p1⟩
      show OK (Bt_undo_21 (nI 303) q) _
      unfold Bt_undo_21
      rw [if_pos (show (303 : Int32) ≤ nI 303 by decide)]
      exact ⟨_, rfl, _, rfl, p1⟩
  · obtain ⟨p1, p2, p3, p5⟩ := p
    have e1 : ((tI q 86 + 20 - 1) - (tI q 86 + 20 - 1) / 20 * 20) = nI ((N + 19) % 20) := by
      rw [p1, nl_1, nl_20, nI_add, nI_m1 (by omega), nI_rem (by omega) (by omega) (by omega)]
      rfl
    rw [e1]
    refine ⟨_, rfl, rfl, fun j => p3 j, ?_, ?_, (p5.sI (Or.inl rfl)).sI (Or.inl rfl)⟩
    · show tI (sI (sI q 86 _) 85 _) 86 = _
      rw [tI_sI, if_neg (by omega), tI_sI, if_pos rfl]
    · show tI (sI (sI q 86 _) 85 _) 85 = _
      rw [tI_sI, if_pos rfl, tI_sI, if_neg (by omega), p2, nl_1, nI_m1 (by omega)]
/-- the row of states that are kept -/
def UG (g : CG) (X : Nat) : Prop := gR g 120 X = some (X + 309) ∧ gT g (X + 309) = 108 ∧ gN g (X + 309) = 20 ∧ ∀ i, i < 20 → StG g (X + 310 + 68 * i) X
theorem C_keepsL {ρ : Nat → Nat} {f : Nat} (h1 : gT g X = 1) (hg : UG g X) (hρ : ∀ i, i < 20 → cP c (X + 309) i = some (X + 310 + 68 * ρ i) ∧ ρ i < 20) :
    OK (itr (fun s_ : Int32 × CC => Bc_X0_keeps_18 g X f s_.1 s_.2) 4096 (1, c)) (fun c' => (∀ i, i < 19 → cP c' (X + 309) i = some (X + 310 + 68 * ρ (i + 1))) ∧ ∀ a, a ≠ X + 309 → Eq1 c c' a) := by
  obtain ⟨g1, g2, g3, g4⟩ := hg
  refine itr_for (fun k p => ∃ c', p = (nI k, c') ∧ (∀ i, i < k - 1 → cP c' (X + 309) i = some (X + 310 + 68 * ρ (i + 1))) ∧ (∀ i, k - 1 ≤ i → cP c' (X + 309) i = cP c (X + 309) i) ∧ ∀ a, a ≠ X + 309 → Eq1 c c' a) _ 1 20 ?_ ?_ (by omega) (by omega) ⟨c, rfl, fun i hi => absurd hi (by omega), fun _ _ => rfl, fun a _ => Eq1.refl c a⟩
  · rintro k p hk1 hk ⟨c', rfl, p1, p2, p3⟩
    show OK (Bc_X0_keeps_18 g X f (nI k) c') _
    unfold Bc_X0_keeps_18
    obtain ⟨r1, r2⟩ := hρ k hk
    have h9 : ¬ nI 20 ≤ nI k := by rw [nI_leI (by omega) (by omega)]; omega
    simp only [nl_20, nl_1, h9, reduceIte, h1, g1, g2, g3, Option.bind_some, xin_nI hk (show 20 < 2147483648 by omega), nI_clamp (show k < 2 ^ 31 by omega), p2 k (by omega), r1, (g4 _ r2).1, nI_m1 hk1, xin_nI (show k - 1 < 20 by omega) (show 20 < 2147483648 by omega), nI_clamp (show k - 1 < 2 ^ 31 by omega), nI_add]
    refine ⟨_, rfl, Or.inl ⟨_, rfl, _, rfl, fun i hi => ?_, fun i hi => ?_, fun a ha => (p3 a ha).uP ha⟩⟩
    · rw [cP_uP]
      by_cases e : i = k - 1
      · rw [if_pos ⟨rfl, e⟩, e, Nat.sub_add_cancel hk1]
      · rw [if_neg (fun h => e h.2)]; exact p1 i (by omega)
    · rw [cP_uP, if_neg (by omega)]; exact p2 i (by omega)
  · rintro p ⟨c', rfl, p1, p2, p3⟩
    show OK (Bc_X0_keeps_18 g X f (nI 20) c') _
    unfold Bc_X0_keeps_18
    rw [if_pos (show (20 : Int32) ≤ nI 20 by decide)]
    exact ⟨_, rfl, _, rfl, p1, p3⟩
end VVs
