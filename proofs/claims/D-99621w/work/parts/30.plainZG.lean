/-! PLAIN LAW: chance -/
set_option maxRecDepth 100000
theorem i64_add {a b : Int64} (h1 : -9223372036854775808 ≤ a.toInt + b.toInt) (h2 : a.toInt + b.toInt < 9223372036854775808) : (a + b).toInt = a.toInt + b.toInt := by
  rw [Int64.toInt_add]
  exact Int.bmod_eq_of_le (by omega) (by omega)
theorem i64_sub {a b : Int64} (h1 : -9223372036854775808 ≤ a.toInt - b.toInt) (h2 : a.toInt - b.toInt < 9223372036854775808) : (a - b).toInt = a.toInt - b.toInt := by
  rw [Int64.toInt_sub]
  exact Int.bmod_eq_of_le (by omega) (by omega)
theorem i64_mul {a b : Int64} (h1 : -9223372036854775808 ≤ a.toInt * b.toInt) (h2 : a.toInt * b.toInt < 9223372036854775808) : (a * b).toInt = a.toInt * b.toInt := by
  rw [Int64.toInt_mul]
  exact Int.bmod_eq_of_le (by omega) (by omega)
theorem i64_div {a b : Int64} (h1 : 0 ≤ a.toInt) (h2 : 0 < b.toInt) : (a / b).toInt = a.toInt / b.toInt := by
  have e1 : a.toInt.tdiv b.toInt = a.toInt / b.toInt := Int.tdiv_eq_ediv_of_nonneg h1
  have e2 : a.toInt / b.toInt ≤ a.toInt := Int.ediv_le_self _ h1
  have e3 : 0 ≤ a.toInt / b.toInt := Int.ediv_nonneg h1 (by omega)
  have e4 := Int64.toInt_lt a
  rw [Int64.toInt_div, e1]
  exact Int.bmod_eq_of_le (by omega) (by omega)
theorem i64_rem {a b : Int64} (h1 : 0 ≤ a.toInt) (h2 : 0 < b.toInt) : (a - a / b * b).toInt = a.toInt % b.toInt := by
  have e1 := i64_div h1 h2
  have d1 := Int.emod_def a.toInt b.toInt
  have d2 := Int.emod_nonneg a.toInt (show b.toInt ≠ 0 by omega)
  have e4 := Int64.toInt_lt a
  have d3 : 0 ≤ b.toInt * (a.toInt / b.toInt) := Int.mul_nonneg (by omega) (Int.ediv_nonneg h1 (by omega))
  have hz : (a / b).toInt * b.toInt = b.toInt * (a.toInt / b.toInt) := by rw [e1, Int.mul_comm]
  generalize b.toInt * (a.toInt / b.toInt) = z at d1 d3 hz
  generalize a.toInt % b.toInt = m at d1 d2
  have e2 : (a / b * b).toInt = z := by rw [i64_mul (by rw [hz]; omega) (by rw [hz]; omega), hz]
  rw [i64_sub (by rw [e2]; omega) (by rw [e2]; omega), e2]
  omega
/-- a seed -/
def sd (s : Int64) : Prop := 0 ≤ s.toInt ∧ s.toInt < 2147483648
theorem lit_a1 : (1103515245 : Int64).toInt = 1103515245 := pk_lT (n := 1103515245) (by omega)
theorem lit_a2 : (12345 : Int64).toInt = 12345 := pk_lT (n := 12345) (by omega)
theorem lit_a3 : (2147483648 : Int64).toInt = 2147483648 := pk_lT (n := 2147483648) (by omega)
theorem lit_a4 : (64 : Int64).toInt = 64 := pk_lT (n := 64) (by omega)
theorem drawA {s : Int64} (h1 : 0 ≤ s.toInt) (h2 : s.toInt < 2147483648) : 0 ≤ ((1103515245 * s) + 12345 : Int64).toInt := by
  have e1 : (1103515245 * s : Int64).toInt = 1103515245 * s.toInt := by rw [i64_mul (by rw [lit_a1]; omega) (by rw [lit_a1]; omega), lit_a1]
  rw [i64_add (by rw [e1, lit_a2]; omega) (by rw [e1, lit_a2]; omega), e1, lit_a2]
  omega
theorem drawV_sd {s : Int64} (h : sd s) : sd (drawV s) := by
  have h0 := drawA h.1 h.2
  unfold sd drawV
  rw [i64_rem h0 (by rw [lit_a3]; omega), lit_a3]
  exact ⟨Int.emod_nonneg _ (by omega), Int.emod_lt_of_pos _ (by omega)⟩
theorem drawR_in {s : Int64} {n : Nat} (h : sd s) (h0 : 0 < n) (hn : n < 1000) : ∃ k, k < n ∧ drawR s (nI n) = nI k := by
  obtain ⟨h1, h2⟩ := drawV_sd h
  have a2 : (nI n).toInt64.toInt = n := by rw [Int32.toInt_toInt64, nI_toInt (by omega)]
  have e1 : (drawV s / 64).toInt = (drawV s).toInt / 64 := by rw [i64_div h1 (by rw [lit_a4]; omega), lit_a4]
  have e4 : (drawV s / 64 - drawV s / 64 / (nI n).toInt64 * (nI n).toInt64).toInt = (drawV s).toInt / 64 % n := by
    rw [i64_rem (by rw [e1]; omega) (by rw [a2]; omega), e1, a2]
  have d2 := Int.emod_nonneg ((drawV s).toInt / 64) (show (n : Int) ≠ 0 by omega)
  have d3 := Int.emod_lt_of_pos ((drawV s).toInt / 64) (show (0 : Int) < n by omega)
  generalize (drawV s).toInt / 64 % n = m at d2 d3 e4
  refine ⟨m.toNat, by omega, ?_⟩
  rw [i32_eq, nI_toInt (by omega)]
  unfold drawR
  rw [Int64.toInt_toInt32, e4, Int.bmod_eq_of_le (by omega) (by omega)]
  omega
theorem nI_64ne {n : Nat} (h0 : 0 < n) (hn : n < 2147483648) : ¬ (nI n).toInt64 = 0 := by
  intro h
  have := congrArg Int64.toInt h
  rw [Int32.toInt_toInt64, nI_toInt hn] at this
  have e : (0 : Int64).toInt = 0 := rfl
  omega
def EqS (c c' : CC) (X : Nat) : Prop := (∀ k, k ≠ 121 → cI c' k X = cI c k X) ∧ (∀ k, k ≠ 122 → cL c' k X = cL c k X) ∧ (∀ k, cR c' k X = cR c k X) ∧ (∀ i, cA c' X i = cA c X i) ∧ (∀ i, cM c' X i = cM c X i) ∧ ∀ i, cP c' X i = cP c X i
def TXS (τ τ' : TS) : Prop := (∀ k, fC k = false → noisy k = false → tI τ' k = tI τ k) ∧ (∀ k, k ≠ 87 → tL τ' k = tL τ k) ∧ (∀ k i, aC k = false → tA τ' k i = tA τ k i) ∧ ∀ k i, k ≠ 126 → tM τ' k i = tM τ k i
/-- what the core's methods and draws leave alone -/
def FRS (X : Nat) (c c' : CC) (τ τ' : TS) : Prop := EqS c c' X ∧ (∀ a, a ≠ X → ¬ (a = X + 31 ∨ (X + 34 ≤ a ∧ a < X + 297) ∨ (X + 300 ≤ a ∧ a < X + 1670)) → Eq1 c c' a) ∧ TXS τ τ'
section ZGs
variable {g : CG} {c c' : CC} {τ τ' q : TS} {X V s lo hi n m : Nat} {v : VD} {w : Nat → Int32}
theorem FR.fs (h : FR X c c' τ τ') : FRS X c c' τ τ' := ⟨⟨h.1.1, fun k _ => h.1.2.1 k, h.1.2.2.1, h.1.2.2.2.1, h.1.2.2.2.2.1, h.1.2.2.2.2.2⟩, h.2.1, h.2.2.1, fun k _ => h.2.2.2.1 k, h.2.2.2.2.1, h.2.2.2.2.2⟩
theorem FRS.trans {c'' : CC} {τ'' : TS} (h : FRS X c c' τ τ') (h' : FRS X c' c'' τ' τ'') : FRS X c c'' τ τ'' :=
  ⟨⟨fun k hk => (h'.1.1 k hk).trans (h.1.1 k hk), fun k hk => (h'.1.2.1 k hk).trans (h.1.2.1 k hk), fun k => (h'.1.2.2.1 k).trans (h.1.2.2.1 k), fun k => (h'.1.2.2.2.1 k).trans (h.1.2.2.2.1 k), fun k => (h'.1.2.2.2.2.1 k).trans (h.1.2.2.2.2.1 k), fun k => (h'.1.2.2.2.2.2 k).trans (h.1.2.2.2.2.2 k)⟩,
   fun a a1 a2 => (h.2.1 a a1 a2).trans (h'.2.1 a a1 a2), fun k k1 k2 => (h'.2.2.1 k k1 k2).trans (h.2.2.1 k k1 k2), fun k hk => (h'.2.2.2.1 k hk).trans (h.2.2.2.1 k hk), fun k i hk => (h'.2.2.2.2.1 k i hk).trans (h.2.2.2.2.1 k i hk), fun k i hk => (h'.2.2.2.2.2 k i hk).trans (h.2.2.2.2.2 k i hk)⟩
theorem FRS.seed {a b : Int64} : FRS X c (uL c 122 X a) τ (sL τ 87 b) :=
  ⟨⟨fun k _ => rfl, fun k hk => by rw [cL_uL, if_neg (by omega)], fun k => rfl, fun k => rfl, fun k => rfl, fun k => rfl⟩, fun x x1 _ => (Eq1.refl c x).uL x1, fun k _ _ => rfl, fun k hk => by rw [tL_sL, if_neg hk], fun k i _ => rfl, fun k i _ => rfl⟩
theorem CORE.seed {a b : Int64} (h : CORE g c τ X V v lo hi) : CORE g (uL c 122 X a) (sL τ 87 b) X V v lo hi := by
  obtain ⟨h1, h2, h3, ⟨K, π, h4⟩, h5, h6, h7, h8⟩ := h
  have n : ∀ z, z ≠ X → Eq1 c (uL c 122 X a) z := fun z hz => (Eq1.refl c z).uL hz
  exact ⟨h1.of2 rfl (fun z z1 _ => n z z1), h2, h3.of (fun z z1 z2 => n z (by omega)), ⟨K, π, h4.of ⟨(n _ (by omega)).1 602, fun z z1 z2 => n z (by omega)⟩⟩, h5.of rfl rfl (fun _ _ _ => rfl), h6, h7.of rfl (fun z z1 z2 => n z (by omega)) rfl rfl (fun i => rfl), h8⟩
/-- the invariant of chance's loop, and its step's end -/
def CH (g : CG) (c : CC) (τ : TS) (X V : Nat) (v : VD) (lo hi m : Nat) (c' : CC) (q : TS) : Prop := CORE g c' q X V v lo hi ∧ FRS X c c' τ q ∧ cL c' 122 X = tL q 87 ∧ sd (tL q 87) ∧ tA q 62 0 = nI m
theorem CH.draw (h : CH g c τ X V v lo hi m c' q) : CH g c τ X V v lo hi m (uL c' 122 X (drawV (tL q 87))) (sL q 87 (drawV (tL q 87))) := by
  obtain ⟨h1, h2, h3, h4, h5⟩ := h
  exact ⟨h1.seed, h2.trans FRS.seed, by rw [cL_uL, if_pos ⟨rfl, rfl⟩, tL_sL, if_pos rfl], by rw [tL_sL, if_pos rfl]; exact drawV_sd h4, h5⟩
theorem CH.fr {c'' : CC} {q' : TS} {m' : Nat} (h : CH g c τ X V v lo hi m c' q) (k : CORE g c'' q' X V v lo hi) (f : FR X c' c'' q q') (e : tA q' 62 0 = nI m') : CH g c τ X V v lo hi m' c'' q' := by
  obtain ⟨h1, h2, h3, h4, h5⟩ := h
  exact ⟨k, h2.trans f.fs, by rw [f.1.2.1, f.2.2.2.1]; exact h3, by rw [f.2.2.2.1]; exact h4, e⟩
theorem chance_pass {x1 x2 x3 : Int32} (h : CH g c τ X V v lo hi m c' q) (hm : m < 999) : OK2 (Jc_X0_chance_115 g X x1 x2 x3 c') (Jt_chance_106 x1 x2 x3 q) (fun o p => ∃ c2 q2, o = .inl (x2, x3 + 1, c2) ∧ p = .inl (x2, x3 + 1, q2) ∧ CH g c τ X V v lo hi (m + 1) c2 q2) := by
  have p1 := h.1
  obtain ⟨⟨r, c2⟩, q2, e1, e2, r1, r2, r3, r4, r5⟩ := I_passN (n := m) p1.1 p1.2.1.2.2.1 p1.2.2.1 p1.2.2.2.2.1 p1.2.2.2.2.2.1 h.2.2.2.2 hm
  have fin := p1.now r2 r3 r1
  unfold Jc_X0_chance_115 Jt_chance_106
  rw [if_pos p1.1.1, p1.2.1.1, Option.bind_some, if_pos p1.2.1.2.2.1.1, e1, xbd_some, e2, Option.bind_some]
  exact OK2_some ⟨c2, q2, rfl, rfl, h.fr fin.1 fin.2 r5⟩
theorem chance_move {x1 x2 x3 s0 s1 : Int32} {j : Nat} (h : CH g c τ X V v lo hi m c' q) (hm : m < 999) (hj : j < vC v) : OK2 (Jc_X0_chance_79 g X x1 x2 x3 (nI j) s0 s1 c') (Jt_chance_72 x1 x2 x3 (nI j) s0 s1 q) (fun o p => ∃ c2 q2, o = .inl (x2 + 1, x3 + 1, c2) ∧ p = .inl (x2 + 1, x3 + 1, q2) ∧ CH g c τ X V v lo hi (m + 1) c2 q2) := by
  have p1 := h.1
  have hb := p1.1.2.2.2.2.2.1
  have hb1 := hb.1
  have hb2 := hb.2.1
  have hb3 := hb.2.2.2.2.1 (by omega)
  have hr := p1.1.b
  have hT0 := p1.2.2.2.2.1.1
  unfold Jc_X0_chance_79 Jt_chance_72 Jc_X0_chance_112 Jt_chance_103
  have e1 : nI (vW v) - nI 1 = nI (vW v - 1) := nI_m1 (by omega)
  rw [if_pos p1.1.1, p1.1.2.1, Option.bind_some, if_pos hr.1, hr.2.2.1, nl_0, nl_1, e1, C_is, xbd_some, T_rowsMany, xbd_some, hT0.2.2.1, e1, show (0 : Int64) = (nI 0).toInt64 from rfl, T_isIn32, xbd_some]
  cases hz : (decide (nI 0 ≤ s1 + s0) && decide (s1 + s0 ≤ nI (vW v - 1))) with
  | false =>
    rw [if_pos (show b32 false = nI 0 by decide), if_pos (show b32 false = nI 0 by decide)]
    exact chance_pass h hm
  | true =>
    rw [if_neg (show ¬ b32 true = nI 0 by decide), if_neg (show ¬ b32 true = nI 0 by decide)]
    simp only [Bool.and_eq_true, decide_eq_true_eq] at hz
    obtain ⟨r, hr1, hr2⟩ := nI_lto (x := s1 + s0) (n := vW v) (by omega) hz.1 (by have := hz.2; rw [i32_le, nI_toInt (by omega)] at this; rw [i32_lt, nI_toInt (by omega)]; omega)
    have e22 : (2 : Int32) + nI j = nI (2 + j) := by rw [nl_2, nI_add]
    rw [hr2, p1.2.1.1, Option.bind_some, if_pos p1.2.1.2.2.1.1, p1.2.1.2.2.1.2.2.1.1, Option.bind_some, if_pos p1.2.1.2.2.1.2.2.1.2.1, p1.2.1.2.2.1.2.2.1.2.2, if_pos (xin_nI (show j < 10 by omega) (by omega)), nI_clamp (show j < 2 ^ 31 by omega), e22, if_pos (xin_nI (show 2 + j < 303 by omega) (by omega)), nI_clamp (show 2 + j < 2 ^ 31 by omega)]
    have hk3 := KSt_row (k := j) (r := r) hb hj hr1 p1.2.2.1
    have fin := p1.now (c' := uA c' (X + 35 + 1) j (nI r)) (τ' := sA q 62 (2 + j) (nI r)) ((CF.refl _ _ c').uA (by omega)) ((TX.refl _ _ q).sA rfl) (by rw [tA_upd]; exact hk3)
    refine chance_pass (h.fr fin.1 fin.2 ?_) hm
    rw [tA_upd, pk_un (by omega)]; exact h.2.2.2.2
theorem chance_step {p : Int32} {i k : Nat} (h : CH g c τ X V v lo hi m c' q) (hik : i < k) (hk : k < 1000) (hm : m < 999) (hv : 0 < vC v) (hp : tI q 54 = vP v) : OK2 (Bc_X0_chance_25 g X (nI k) p (nI i) c') (Bt_chance_25 (nI k) p (nI i) q) (fun o r => ∃ p' c2 q2, o = .inl (p', nI (i + 1), c2) ∧ r = .inl (p', nI (i + 1), q2) ∧ CH g c τ X V v lo hi (m + 1) c2 q2) := by
  have p1 := h.1
  have hb := p1.1.2.2.2.2.2.1
  have hb1 := hb.1
  have h9 : ¬ nI k ≤ nI i := by rw [nI_leI (by omega) (by omega)]; omega
  have d1 := h.draw
  have d1c := d1.1
  unfold Bc_X0_chance_25 Bt_chance_25
  rw [if_neg h9, if_neg h9, if_pos p1.1.1, nl_100, C_draw p1.1.1 (nI_64ne (by omega) (by omega)), T_draw (nI_64ne (by omega) (by omega)), xbd_some, xbd_some, h.2.2.1, d1c.1.2.1, Option.bind_some, if_pos d1c.1.b.1, d1c.1.b.2.2.2.2.1, show tI (sL q 87 (drawV (tL q 87))) 54 = vP v from hp]
  by_cases hs : vP v ≤ drawR (tL q 87) (nI 100)
  · rw [if_pos hs, if_pos hs]
    refine OK2_mono (chance_pass d1 hm) ?_
    rintro o r ⟨c2, q2, rfl, rfl, h2⟩
    exact ⟨p, c2, q2, by rw [nl_1, nI_add], by rw [nl_1, nI_add], h2⟩
  · rw [if_neg hs, if_neg hs, C_columns d1c.1.1 d1c.1.2.1 d1c.1.b, T_columnMany, xbd_some, xbd_some, d1c.2.2.2.2.1.1.2.1, C_draw d1c.1.1 (nI_64ne hv (by omega)), T_draw (nI_64ne hv (by omega)), xbd_some, xbd_some, d1.2.2.1]
    have d2 := d1.draw
    have d2c := d2.1
    obtain ⟨j, hj, ej⟩ := drawR_in d1.2.2.2.1 hv (by omega)
    rw [ej, d2c.2.1.1, Option.bind_some, if_pos d2c.2.1.2.2.1.1, d2c.2.1.2.2.1.2.2.1.1, Option.bind_some, if_pos d2c.2.1.2.2.1.2.2.1.2.1, d2c.2.1.2.2.1.2.2.1.2.2, if_pos (xin_nI (show j < 10 by omega) (by omega)), T_rowOf (by omega), xbd_some, nl_2, C_draw d2c.1.1 (nI_64ne (by omega) (by omega)), T_draw (nI_64ne (by omega) (by omega)), xbd_some, xbd_some, d2.2.2.1, nI_clamp (show j < 2 ^ 31 by omega), d2c.2.2.1.1.2.2.1 j (by omega)]
    have d3 := d2.draw
    by_cases hz : drawR (tL (sL (sL q 87 (drawV (tL q 87))) 87 (drawV (tL (sL q 87 (drawV (tL q 87))) 87))) 87) (nI 2) = 0
    · rw [if_pos hz, if_pos hz]
      refine OK2_mono (chance_move d3 hm hj) ?_
      rintro o r ⟨c2, q2, rfl, rfl, h2⟩
      exact ⟨p + 1, c2, q2, by rw [nl_1, nI_add], by rw [nl_1, nI_add], h2⟩
    · rw [if_neg hz, if_neg hz]
      refine OK2_mono (chance_move d3 hm hj) ?_
      rintro o r ⟨c2, q2, rfl, rfl, h2⟩
      exact ⟨p + 1, c2, q2, by rw [nl_1, nI_add], by rw [nl_1, nI_add], h2⟩
theorem M_chance {x : Int32} (h : CORE g c τ X V v lo hi) (hs : cL c 122 X = tL τ 87) (hsd : sd (tL τ 87)) (hp : tI τ 54 = vP v) : OK2 (f_c_X0_chance g X x c) (f_t_chance x τ) (fun o r => o.1 = r.1 ∧ CORE g o.2 r.2 X V v lo hi ∧ FRS X c o.2 τ r.2 ∧ cL o.2 122 X = tL r.2 87 ∧ sd (tL r.2 87)) := by
  have hA := C_isAhead (x := x) (a := nI 1) (b := nI 100) h.iv
  have hB := T_isAhead (x := x) (a := nI 1) (b := nI 100) h.2.2.2.2.1
  obtain ⟨n0, hn0, hw⟩ := h.2.2.1.2.2.2.1
  unfold f_c_X0_chance f_t_chance
  rw [if_pos h.1.1, nl_1, nl_100, hA, hB, xbd_some, xbd_some]
  cases ha : aheadS v (tA τ 62) x (nI 1) (nI 100) with
  | false =>
    rw [if_pos (show b32 false = 0 by decide), if_pos (show b32 false = 0 by decide), nl_3, C_refuses h.1.1 h.2.1.2.2.2.2.2.2.1 (by omega), T_refuses (by omega), xbd_some, xbd_some]
    exact OK2_some ⟨rfl, (h.ref (k := 3) (by omega)).1, (h.ref (k := 3) (by omega)).2.fs, hs, hsd⟩
  | true =>
    rw [if_neg (show ¬ b32 true = 0 by decide), if_neg (show ¬ b32 true = 0 by decide)]
    have hv : 0 < vC v := by unfold aheadS at ha; simp only [Bool.and_eq_true, decide_eq_true_eq] at ha; exact ha.1.1
    obtain ⟨n, hn1, hn2, rfl, hn3⟩ := ahead_1 (by omega) hw hn0 ha
    obtain ⟨c1, q1, e1, e2, p1, p2, p3⟩ := M_keeps h
    rw [e1, e2, Option.bind_some, Option.bind_some]
    have h0 : CH g c τ X V v lo hi n0 c1 q1 := ⟨p1, p2.fs, by rw [p2.1.2.1, p2.2.2.2.1]; exact hs, by rw [p2.2.2.2.1]; exact hsd, by rw [p3]; exact hw⟩
    have hL : OK2 (itr (fun s_ : Int32 × Int32 × CC => Bc_X0_chance_25 g X (nI n) s_.1 s_.2.1 s_.2.2) 4096 (0, 0, c1)) (itr (fun s_ : Int32 × Int32 × TS => Bt_chance_25 (nI n) s_.1 s_.2.1 s_.2.2) 4096 (0, 0, q1)) (fun o r => o.1 = r.1 ∧ CH g c τ X V v lo hi (n0 + n) o.2 r.2) := by
      refine itr_two (fun i s t => ∃ p c' q, s = (p, nI i, c') ∧ t = (p, nI i, q) ∧ CH g c τ X V v lo hi (n0 + i) c' q) _ 0 n ?_ ?_ (by omega) (by omega) ⟨0, c1, q1, rfl, rfl, h0⟩
      · rintro i s t - hi ⟨p, c', q, rfl, rfl, h1⟩
        refine OK2_mono (chance_step (i := i) (k := n) (p := p) h1 hi (by omega) (by omega) hv ?_) ?_
        · rw [h1.2.1.2.2.1 54 rfl rfl]; exact hp
        · rintro o r ⟨p', c2, q2, rfl, rfl, h2⟩
          exact Or.inl ⟨_, _, rfl, rfl, p', c2, q2, rfl, rfl, h2⟩
      · rintro s t ⟨p, c', q, rfl, rfl, h1⟩
        show OK2 (Bc_X0_chance_25 g X (nI n) p (nI n) c') (Bt_chance_25 (nI n) p (nI n) q) _
        unfold Bc_X0_chance_25 Bt_chance_25
        have h9 : nI n ≤ nI n := by rw [nI_leI (by omega) (by omega)]; omega
        rw [if_pos h9, if_pos h9]
        exact OK2_some ⟨_, _, rfl, rfl, rfl, h1⟩
    obtain ⟨⟨a, c2⟩, ⟨b, q2⟩, e3, e4, r1, r2, r3, r4, r5, r6⟩ := hL
    rw [e3, e4, Option.bind_some, Option.bind_some]
    exact OK2_some ⟨r1, r2, r3, r4, r5⟩
end ZGs
