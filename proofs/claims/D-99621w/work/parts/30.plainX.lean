/-! PLAIN LAW: both: refuses, status, undo, seed, fault, end -/
set_option maxRecDepth 100000
def RG (g : CG) (X : Nat) : Prop := gR g 108 X = some (X + 34) ∧ gT g (X + 34) = 100 ∧ gN g (X + 34) = 6
def RF (c : CC) (τ : TS) (X : Nat) : Prop := ∀ i, i < 6 → cA c (X + 34) i = tA τ 9 i
section XXs
variable {g : CG} {c : CC} {τ q : TS} {X V s lo hi : Nat} {v : VD} {w : Nat → Int32}
theorem C_refuses {k : Nat} (h1 : gT g X = 1) (hg : RG g X) (hk : k < 6) : f_c_X0_refuses g X (nI k) c = some (-1, uA c (X + 34) k (cA c (X + 34) k + nI 1)) := by
  unfold f_c_X0_refuses
  rw [if_pos h1, hg.1, Option.bind_some, if_pos hg.2.1, hg.2.2, if_pos (xin_nI hk (by omega)), if_pos (xin_nI hk (by omega)), nI_clamp (show k < 2 ^ 31 by omega)]
  rfl
theorem T_refuses {k : Nat} (hk : k < 6) : f_t_refuses (nI k) τ = some (-1, sA τ 9 k (tA τ 9 k + nI 1)) := by
  unfold f_t_refuses
  rw [if_pos (xin_nI hk (by omega)), if_pos (xin_nI hk (by omega)), nI_clamp (show k < 2 ^ 31 by omega)]
  rfl
theorem T_isRefused : f_t_isRefused τ = some (nI 0, sA τ 9 2 (tA τ 9 2 + nI 1)) := by
  unfold f_t_isRefused
  rw [if_pos (show xin 2 6 = true by decide), if_pos (show xin 2 6 = true by decide)]
  rfl
/-- both count a refusal more -/
theorem RF.more {k : Nat} (h : RF c τ X) (hk : k < 6) : RF (uA c (X + 34) k (cA c (X + 34) k + nI 1)) (sA τ 9 k (tA τ 9 k + nI 1)) X := by
  intro i hi
  rw [cA_uA, tA_sA]
  by_cases e : i = k
  · subst e; rw [if_pos ⟨rfl, rfl⟩, if_pos ⟨rfl, rfl⟩, h i hi]
  · rw [if_neg (fun q => e q.2), if_neg (fun q => e q.2)]; exact h i hi
theorem I_status {x : Int32} (h1 : gT g X = 1) (hg : RG g X) (h : RF c τ X) : OK2 (f_c_X0_status g X x c) (f_t_status x τ) (RD X c τ) := by
  unfold f_c_X0_status f_t_status
  rw [C_is, xbd_some, show ((0 : Int64)) = (0 : Int32).toInt64 from rfl, show ((5 : Int64)) = (5 : Int32).toInt64 from rfl, T_isIn32, xbd_some]
  cases hz : (decide ((0 : Int32) ≤ x) && decide (x ≤ 5)) with
  | false =>
    rw [if_pos (show b32 false = 0 by decide), if_pos (show b32 false = 0 by decide)]
    exact OK2_some RD.mk
  | true =>
    simp only [Bool.and_eq_true, decide_eq_true_eq] at hz
    obtain ⟨k, hk, rfl⟩ := nI_lto (x := x) (n := 6) (by omega) hz.1 (by have := hz.2; rw [i32_le] at this; rw [i32_lt, nI_toInt (by omega)]; have h5 : (5 : Int32).toInt = 5 := by decide
                                                                        omega)
    rw [if_neg (show ¬ b32 true = 0 by decide), if_neg (show ¬ b32 true = 0 by decide), if_pos h1, hg.1, Option.bind_some, if_pos hg.2.1, hg.2.2, if_pos (xin_nI hk (by omega)), if_pos (xin_nI hk (by omega)), nI_clamp (show k < 2 ^ 31 by omega), h k hk]
    exact OK2_some RD.mk
theorem I_fault {x : Int32} (h1 : gT g X = 1) (h103 : cI c 103 X = tI τ 7) (h104 : cI c 104 X = tI τ 8) : OK2 (f_c_X0_fault g X x c) (f_t_fault x τ) (RD X c τ) := by
  unfold f_c_X0_fault f_t_fault
  by_cases e0 : x = 0
  · rw [if_pos e0, if_pos e0, if_pos h1, h103]; exact OK2_some RD.mk
  · rw [if_neg e0, if_neg e0]
    by_cases e1 : x = 1
    · rw [if_pos e1, if_pos e1, if_pos h1, h104]; exact OK2_some RD.mk
    · rw [if_neg e1, if_neg e1]; exact OK2_some RD.mk
theorem I_seed {x : Int32} (h1 : gT g X = 1) (hg : RG g X) : OK2 (f_c_X0_seed g X x c) (f_t_seed x τ) (fun o r => o.1 = r.1 ∧ ((o.2 = uL c 122 X x.toInt64 ∧ r.2 = sL τ 87 x.toInt64) ∨ (o.2 = uA c (X + 34) 5 (cA c (X + 34) 5 + nI 1) ∧ r.2 = sA τ 9 5 (tA τ 9 5 + nI 1)))) := by
  unfold f_c_X0_seed f_t_seed
  by_cases e : (0 : Int32) ≤ x
  · rw [if_pos e, if_pos e, if_pos h1]
    exact OK2_some ⟨rfl, Or.inl ⟨rfl, rfl⟩⟩
  · rw [if_neg e, if_neg e, if_pos h1, nl_5, C_refuses h1 hg (by omega), xbd_some, if_pos (show (-1 : Int32) < 0 by decide), if_pos (show xin (nI 5) 6 = true by decide), if_pos (show xin (nI 5) 6 = true by decide)]
    exact OK2_some ⟨rfl, Or.inr ⟨rfl, rfl⟩⟩
theorem I_undo (h1 : gT g X = 1) (h109 : gR g 109 X = some (X + 35)) (hr : RG g X) (hg : UG g X) (hs : StG g (X + 35) X) (hb : VB v) (hn : KSt c v (X + 35) (tA τ 62)) (hu : UR c τ X v) :
    OK2 (f_c_X0_undo g X c) (f_t_undo τ) (fun o r => o.1 = r.1 ∧ ((o.2 = uA c (X + 34) 4 (cA c (X + 34) 4 + nI 1) ∧ r.2 = sA τ 9 4 (tA τ 9 4 + nI 1)) ∨ (UR o.2 r.2 X v ∧ KSt o.2 v (X + 35) (tA r.2 62) ∧ EqF c o.2 X 121 ∧ (∀ a, a ≠ X → ¬ (X + 35 ≤ a ∧ a < X + 103) → Eq1 c o.2 a) ∧ TX in8586 in62 τ r.2))) := by
  obtain ⟨U, N, ρ, hU, hN, u1, u2, u3, u4, u5, u6, u7⟩ := hu
  by_cases hU0 : U = 0
  · subst hU0
    unfold f_c_X0_undo f_t_undo
    rw [if_pos h1, u1, if_pos (show nI 0 = 0 by decide), nl_4, C_refuses h1 hr (by omega), xbd_some, if_pos (show (-1 : Int32) < 0 by decide), u2, if_pos (show nI 0 = 0 by decide), if_pos (show xin (nI 4) 6 = true by decide), if_pos (show xin (nI 4) 6 = true by decide)]
    exact OK2_some ⟨rfl, Or.inl ⟨rfl, rfl⟩⟩
  · obtain ⟨⟨a, q⟩, eq, t1, t2, t3, t4, t5⟩ := T_undo hN hU (by omega) u3 u2
    obtain ⟨g1, g2, g3, g4⟩ := id hg
    obtain ⟨r1, r2⟩ := u4 (U - 1) (by omega)
    obtain ⟨n1, n2, n3, n4, K, π, n5, n6⟩ := (u7 (U - 1) (by omega)).of (c' := uI c 121 X (nI (U - 1))) (fun a a1 a2 => (Eq1.refl c a).uI (by omega))
    obtain ⟨-, -, -, -, K', π', m5, -⟩ := hn.of (c' := uI c 121 X (nI (U - 1))) (fun a a1 a2 => (Eq1.refl c a).uI (by omega))
    obtain ⟨⟨z, c2⟩, e, p1, p2, p3, p4, p5, p6⟩ := C_copy hs (g4 _ r2) (by omega) m5 n5
    have e121 : cI c 121 X - 1 = nI (U - 1) := by rw [u1, nl_1, nI_m1 (by omega)]
    have e121' : cI (uI c 121 X (nI (U - 1))) 121 X = nI (U - 1) := by rw [cI_uI, if_pos ⟨rfl, rfl⟩]
    have eC : f_c_X0_undo g X c = some (1, c2) := by
      unfold f_c_X0_undo
      rw [if_pos h1, if_neg (show ¬ cI c 121 X = 0 by rw [u1]; show ¬ nI U = nI 0; rw [nI_eq (by omega) (by omega)]; exact hU0), e121, e121', h109, Option.bind_some, g1, Option.bind_some, if_pos g2, g3, if_pos (xin_nI (show U - 1 < 20 by omega) (by omega)), nI_clamp (show U - 1 < 2 ^ 31 by omega), cP_uI, r1, Option.bind_some, if_pos hs.1, e, xbd_some]
    have q1 : ∀ a, a ≠ X → ¬ (X + 35 ≤ a ∧ a < X + 103) → Eq1 c c2 a := fun a a1 a2 => ((Eq1.refl c a).uI a1).trans (p6 a (by omega))
    refine ⟨_, _, eC, eq, t1.symm, Or.inr ⟨⟨U - 1, (N + 19) % 20, ρ, by omega, Nat.mod_lt _ (by omega), ?_, t4, t3, fun i hi => ?_, u5, fun i hi => ?_, fun i hi => ?_⟩, ?_, EqF.uI.trans (p6 X (by omega)).f, q1, t5⟩⟩
    · rw [(p6 X (by omega)).1]; exact e121'
    · show cP c2 (X + 309) i = _ ∧ _
      rw [(q1 (X + 309) (by omega) (by omega)).2.2.2.2.2]; exact u4 i hi
    · obtain ⟨K2, π2, hK⟩ := u6 i hi
      have qq : ∀ a, X + 310 + 68 * i ≤ a → a < X + 310 + 68 * i + 68 → Eq1 c c2 a := fun a a1 a2 => q1 a (by omega) (by omega)
      exact ⟨K2, π2, hK.of ⟨(qq _ (by omega) (by omega)).1 602, fun a a1 a2 => qq a (by omega) (by omega)⟩⟩
    · have k1 : KSt c2 v (X + 310 + 68 * ρ i) _ := (u7 i (by omega)).of (fun a a1 a2 => q1 a (by omega) (by omega))
      refine k1.cong hb (fun j hj => ?_)
      rw [show slot ((N + 19) % 20) (U - 1) i = slot N U i by unfold slot; omega]
      exact t5.2.2.1 84 _ rfl
    · have k0 : KSt c2 v (X + 35) (fun j => tA τ 84 (303 * slot N U (U - 1) + j)) := ⟨p2 _ _ hb.2.2.2.1 (fun k hk => (n2.2.2.2.2 k hk).1) n1, n2, n3, n4, K, π', p4, p5 _ n6⟩
      refine k0.cong hb (fun j hj => ?_)
      rw [t2 j, if_pos hj, show slot N U (U - 1) = N by unfold slot; omega]
end XXs
