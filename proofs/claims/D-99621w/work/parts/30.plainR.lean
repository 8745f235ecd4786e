/-! PLAIN LAW: works of both, the end -/
set_option maxRecDepth 100000
section TRs
variable {g : CG} {c : CC} {τ q : TS} {X V lo hi : Nat} {v : VD} {w : Nat → Int32}
theorem ahead_1 {x : Int32} {n K : Nat} (hK : K < 1000) (hw : w 0 = nI n) (hn : n ≤ 999) (h : aheadS v w x (nI 1) (nI K) = true) : ∃ k, 1 ≤ k ∧ k ≤ K ∧ x = nI k ∧ n + k ≤ 999 := by
  have h0 : aheadS v w x (nI 0) (nI K) = true := by
    unfold aheadS at h ⊢
    simp only [Bool.and_eq_true, decide_eq_true_eq, Bool.not_eq_true', decide_eq_false_iff_not] at h ⊢
    refine ⟨⟨h.1.1, ?_, h.1.2.2⟩, h.2⟩
    have := h.1.2.1
    rw [i32_le, nI_toInt (by omega)] at this ⊢
    omega
  obtain ⟨k, h1, rfl, h3⟩ := ahead_n hK hw hn h0
  refine ⟨k, ?_, h1, rfl, h3⟩
  unfold aheadS at h
  simp only [Bool.and_eq_true, decide_eq_true_eq] at h
  have := h.1.2.1
  rw [nI_leI (by omega) (by omega)] at this
  exact this
theorem T_back2 (h : TK τ q w) (hh : ∀ j, 182 ≤ j → w j = tA τ 62 j) (h70 : tI τ 70 = nI 0) : OK (f_t_takesBack q) (fun q' => TX fZ aZ τ q' ∧ tI q' 73 = tI q 73 ∧ tI q' 74 = tI q 74) := by
  unfold f_t_takesBack
  obtain ⟨q', e, r1, r2, r3, -⟩ := T_again h hh
  rw [e, Option.bind_some, nl_0]
  refine ⟨_, rfl, (r1.1.sI (Or.inl rfl)).yz ?_ r1.2.2.1, by rw [tI_sI, if_neg (by omega)]; exact r2, by rw [tI_sI, if_neg (by omega)]; exact r3⟩
  rw [tI_sI, if_pos rfl, h70]
theorem T_works {n j : Nat} {y x : Int32} (hT : TV τ v) (hb : VB v) (h70 : tI τ 70 = nI 0) (hr : WR v (tA τ 62)) (h9 : W9 (tA τ 62)) (hK : ∃ K, K ≤ 40 ∧ tA τ 62 182 = nI K) (hn : n ≤ 1000) (hj : j < 10) (hx : x = -1 ∨ x = nI 0 ∨ x = nI 1) (h1 : f_t_isCell (nI j) y τ = some (nI 1, τ)) (h2 : f_t_isAhead (nI n) 1 20 τ = some (nI 1, τ)) :
    OK (f_t_works (nI j) y (nI n) x τ) (fun o => TX fZ aZ τ o.2 ∧ Wrk v (tA τ 62) n j y x o.1) := by
  unfold f_t_works
  have e3 : f_t_isIn x.toInt64 (-1) 1 τ = some (nI 1, τ) := by
    rw [T_isIn]
    rcases hx with rfl | rfl | rfl <;> rfl
  rw [h1, xbd_some, if_neg (show ¬ nI 1 = 0 by decide), h2, xbd_some, if_neg (show ¬ nI 1 = 0 by decide), e3, xbd_some, if_neg (show ¬ nI 1 = 0 by decide)]
  obtain ⟨q1, e4, p1, p2, p3, -, p5⟩ := T_putsAside (τ := τ)
  rw [e4, Option.bind_some]
  have k1 : TK τ q1 (tA τ 62) := ⟨p5, p1, p3, p2⟩
  have fin : ∀ q2 m a b, TK τ q2 (tA τ 62) → m ≤ 2 → (∀ m', m' < m → Non v (tA τ 62) n j y m') → Fst v (tA τ 62) n j y m a b → (1 ≤ m → tI q2 73 = nI (cel v a)) → (2 ≤ m → tI q2 74 = nI (cel v b)) → OK (Jt_works_82 x (nI m) q2) (fun o => TX fZ aZ τ o.2 ∧ Wrk v (tA τ 62) n j y x o.1) := by
    intro q2 m a b a1 a2 a3 a4 a5 a6
    obtain ⟨q3, e5, b1, b2, b3⟩ := T_back2 a1 (fun _ _ => rfl) h70
    unfold Jt_works_82
    rw [e5, Option.bind_some]
    have hm1 : ¬ nI m = (-1 : Int32) := by
      intro e
      have := congrArg Int32.toInt e
      rw [nI_toInt (by omega)] at this
      have h2 : (-1 : Int32).toInt = -1 := by decide
      omega
    by_cases hx1 : x = -1
    · rw [if_pos hx1]
      exact ⟨_, rfl, b1, Or.inl ⟨m, a, b, a2, a3, a4, by unfold wrk; rw [if_pos hx1]⟩⟩
    · rw [if_neg hx1, if_neg hm1]
      obtain ⟨i, hi, rfl⟩ : ∃ i, i ≤ 1 ∧ x = nI i := by
        rcases hx with e | e | e
        · exact absurd e hx1
        · exact ⟨0, by omega, e⟩
        · exact ⟨1, by omega, e⟩
      rw [nl_0]
      have h00 : nI 0 ≤ nI i := by rw [nI_leI (by omega) (by omega)]; omega
      by_cases him : i < m
      · have him' : nI i < nI m := by rw [nI_ltI (by omega) (by omega)]; exact him
        rw [if_pos him']
        by_cases i0 : i = 0
        · subst i0
          rw [if_pos rfl, b2, a5 (by omega)]
          exact ⟨_, rfl, b1, Or.inl ⟨m, a, b, a2, a3, a4, by unfold wrk; rw [if_neg hx1, if_pos ⟨h00, him'⟩, if_pos rfl]⟩⟩
        · have i00 : ¬ nI i = nI 0 := by rw [nI_eq (by omega) (by omega)]; exact i0
          rw [if_neg i00, b3, a6 (by omega)]
          exact ⟨_, rfl, b1, Or.inl ⟨m, a, b, a2, a3, a4, by unfold wrk; rw [if_neg hx1, if_pos ⟨h00, him'⟩, if_neg i00]⟩⟩
      · have him' : ¬ nI i < nI m := by rw [nI_ltI (by omega) (by omega)]; exact him
        rw [if_neg him']
        exact ⟨_, rfl, b1, Or.inl ⟨m, a, b, a2, a3, a4, by unfold wrk; rw [if_neg hx1, if_neg (fun e => him' e.2)]⟩⟩
  obtain ⟨⟨r, q2⟩, e5, r1, r2, -⟩ := T_doesRun (n := n) (j := j) (y := y) hT hb k1 hr (fun _ _ => rfl) hK hn hj
  have r1 : r = _ := r1
  rw [e5, xbd_some, r1]
  cases hru : runS v (tA τ 62) n j y with
  | true =>
    rw [if_neg (show ¬ b32 true = 0 by decide)]
    exact fin q2 0 0 0 r2 (by omega) (fun m' h => absurd h (Nat.not_lt_zero _)) (Fst_0 hru) (fun h => absurd h (by omega)) (fun h => absurd h (by omega))
  | false =>
    rw [if_pos (show b32 false = 0 by decide)]
    have n0 : Non v (tA τ 62) n j y 0 := Non_0 hru
    obtain ⟨⟨r', q3⟩, e6, s1, s2⟩ := T_workOne (n := n) (j := j) (y := y) hT hb r2 hr h9 hK hn hj
    rw [e6, xbd_some]
    rcases s2 with ⟨rfl, s2⟩ | ⟨k, s2, s3, rfl, s5, s6, s7⟩
    · rw [if_pos (show nI 0 = 0 by decide)]
      have n1 := Non_1 hb s2
      obtain ⟨⟨r'', q4⟩, e7, t1, t2⟩ := T_workTwo (n := n) (j := j) (y := y) hT hb s1 hr h9 hK hn hj
      rw [e7, xbd_some]
      rcases t2 with ⟨rfl, t2⟩ | ⟨k, i, t2, t3, t4, t5, rfl, t6, t7, t8, t9⟩
      · rw [if_pos (show nI 0 = 0 by decide)]
        have n2 := Non_2 hb t2
        unfold Jt_works_82
        obtain ⟨q5, e8, b1, -⟩ := T_back2 t1 (fun _ _ => rfl) h70
        rw [e8, Option.bind_some]
        have hall : ∀ m', m' ≤ 2 → Non v (tA τ 62) n j y m' := fun m' hm => by
          rcases (show m' = 0 ∨ m' = 1 ∨ m' = 2 by omega) with rfl | rfl | rfl
          · exact n0
          · exact n1
          · exact n2
        by_cases hx1 : x = -1
        · rw [if_pos hx1]; exact ⟨_, rfl, b1, Or.inr ⟨hall, rfl⟩⟩
        · rw [if_neg hx1, if_pos rfl]; exact ⟨_, rfl, b1, Or.inr ⟨hall, rfl⟩⟩
      · rw [if_neg (show ¬ nI 1 = 0 by decide)]
        obtain ⟨a, b, rfl, rfl, u3⟩ := Fst_2 hb t2 t3 t4 t5 t6 t9
        exact fin q4 2 a b t1 (by omega) (fun m' hm => by
          rcases (show m' = 0 ∨ m' = 1 by omega) with rfl | rfl
          · exact n0
          · exact n1) u3 (fun _ => t7) (fun _ => t8)
    · rw [if_neg (show ¬ nI 1 = 0 by decide)]
      obtain ⟨a, rfl, u3⟩ := Fst_1 hb s2 s3 s5 s7
      exact fin q3 1 a 0 s1 (by omega) (fun m' hm => by
        have : m' = 0 := by omega
        subst this; exact n0) u3 (fun _ => s6) (fun h => absurd h (by omega))
theorem I_works {x1 x2 x3 x4 : Int32} (h : IV g c τ X V v lo hi) (hg : WG g X) (h9 : W9 (tA τ 62)) : OK2 (f_c_X0_works g X x1 x2 x3 x4 c) (f_t_works x1 x2 x3 x4 τ) (RZ X c τ) := by
  have hA := C_isAhead (x := x3) (a := nI 1) (b := nI 20) h
  have hB := T_isAhead (x := x3) (a := nI 1) (b := nI 20) h.2.2.2.2.2.1
  obtain ⟨h1, h2, h3, ⟨K, π, k1, k2⟩, h5, h6, h7, n0, hn0, hw⟩ := id h
  have hb := h1.2.2.2.2.2.1
  have hb1 := hb.1
  have hC := C_isCell (x := x1) (y := x2) h1
  have hD := T_isCell (c := x1) (r := x2) h6.1 hb
  cases hz : (decide (nI 0 ≤ x1) && decide (x1 < nI (vC v)) && (decide (nI 0 ≤ x2) && decide (x2 < nI (vW v)))) with
  | false =>
    rw [hz] at hC hD
    unfold f_c_X0_works f_t_works
    rw [if_pos h1.1, hC, hD, xbd_some, xbd_some, if_pos (show b32 false = 0 by decide), if_pos (show b32 false = 0 by decide)]
    exact OK2_some (RD.mk.z h5.2)
  | true =>
    rw [hz] at hC hD
    cases ha : aheadS v (tA τ 62) x3 (nI 1) (nI 20) with
    | false =>
      rw [ha] at hA hB
      unfold f_c_X0_works f_t_works
      rw [if_pos h1.1, hC, hD, xbd_some, xbd_some, if_neg (show ¬ b32 true = 0 by decide), if_neg (show ¬ b32 true = 0 by decide), nl_1, nl_20, hA, hB, xbd_some, xbd_some, if_pos (show b32 false = 0 by decide), if_pos (show b32 false = 0 by decide)]
      exact OK2_some (RD.mk.z h5.2)
    | true =>
      rw [ha] at hA hB
      simp only [Bool.and_eq_true, decide_eq_true_eq] at hz
      obtain ⟨j, hj, rfl⟩ := nI_lto (by omega) hz.1.1 hz.1.2
      obtain ⟨n, hn1, hn2, rfl, hn3⟩ := ahead_1 (by omega) hw hn0 ha
      obtain ⟨⟨r, c'⟩, e1, p1, p2⟩ := C_works (n := n) (x := x4) h hg h9 hw (by omega) (show j < 10 by omega) hC (by rw [nl_1, nl_20]; exact hA)
      by_cases hx : x4 = -1 ∨ x4 = nI 0 ∨ x4 = nI 1
      · obtain ⟨⟨r', q'⟩, e2, s1, s2⟩ := T_works (x := x4) h6 hb h7 h3.2.2.1.1 h9 ⟨K, k1.2.1, k2.1⟩ (show n ≤ 1000 by omega) (show j < 10 by omega) hx hD (by rw [nl_1, nl_20]; exact hB)
        exact ⟨_, _, e1, e2, Wrk_u p2 s2, p1.1, s1, p1.2⟩
      · have e3 : f_t_isIn x4.toInt64 (-1) 1 τ = some (b32 false, τ) := by
          rw [show ((-1 : Int64)) = (-1 : Int32).toInt64 by decide, show ((1 : Int64)) = (nI 1).toInt64 from rfl, T_isIn32]
          congr 3
          rw [Bool.eq_false_iff]
          intro e
          simp only [Bool.and_eq_true, decide_eq_true_eq] at e
          obtain ⟨a1, a2⟩ := e
          rw [i32_le, show (-1 : Int32).toInt = -1 by decide] at a1
          rw [i32_le, nI_toInt (by omega)] at a2
          apply hx
          rw [i32_eq, i32_eq, i32_eq, nI_toInt (by omega), nI_toInt (by omega), show (-1 : Int32).toInt = -1 by decide]
          omega
        have e2 : f_t_works (nI j) x2 (nI n) x4 τ = some (-1, τ) := by
          unfold f_t_works
          rw [hD, xbd_some, if_neg (show ¬ b32 true = 0 by decide), nl_1, nl_20, hB, xbd_some, if_neg (show ¬ b32 true = 0 by decide), e3, xbd_some, if_pos (show b32 false = 0 by decide)]
        have er : r = -1 := by
          rcases p2 with ⟨m, a, b, h1, -, -, e⟩ | ⟨-, e⟩
          · have e : r = wrk v x4 m a b := e
            rw [e]
            unfold wrk
            rw [if_neg (fun e => hx (Or.inl e)), if_neg (fun e => ?_)]
            obtain ⟨i, hi, hi2⟩ := nI_lto (by omega) e.1 e.2
            rcases (show i = 0 ∨ i = 1 by omega) with rfl | rfl
            · exact hx (Or.inr (Or.inl hi2))
            · exact hx (Or.inr (Or.inr hi2))
          · exact e
        exact ⟨_, _, e1, e2, er, p1.1, TX.refl _ _ τ, p1.2⟩
end TRs
