/-! PLAIN LAW: both together: later, sums, straight; lord, has -/
set_option maxRecDepth 100000
/-- both answer the same; thoughts leave noise -/
def RZ {α : Type} (X : Nat) (c : CC) (τ : TS) (o : α × CC) (q : α × TS) : Prop := o.1 = q.1 ∧ CZ X c o.2 ∧ TX fZ aZ τ q.2 ∧ ∃ K π, RKp o.2 (X + 103) K π
theorem CX.cz {g : CG} {c c' : CC} {X V lo hi : Nat} {v : VD} (h : CX g c X V v lo hi) (n : CZ X c c') : CX g c' X V v lo hi :=
  h.of (fun a ha => n a (by
    have := h.2.2.2.1
    rcases ha with e | ⟨e1, e2⟩
    · omega
    · have := this a e1 e2; omega))
theorem IV.cz {g : CG} {c c' : CC} {τ τ' : TS} {X V lo hi : Nat} {v : VD} (h : IV g c τ X V v lo hi) (n : CZ X c c') (m : TX fZ aZ τ τ') (k : ∃ K π, RKp c' (X + 103) K π) : IV g c' τ' X V v lo hi := by
  obtain ⟨h1, h2, h3, ⟨K, π, h4, h5⟩, ⟨h6, -⟩, h8, h9, h10⟩ := h
  have e : tA τ' 62 = tA τ 62 := funext (fun i => m.2.2.1 62 i rfl)
  have ks : KS (X + 35) c c' := ⟨(n (X + 35) (by omega)).1 602, fun a h1 h2 => n a (by omega)⟩
  refine ⟨h1.cz n, h2, ?_, ⟨K, π, h4.of ks, ?_⟩, ⟨h6, k⟩, h8.z m, by rw [m.1 70 rfl rfl]; exact h9, by rw [e]; exact h10⟩
  · rw [e]; exact h3.of (fun a h1 h2 => n a (by omega))
  · rw [e]; exact RKw.of h4 h5 ks (fun _ _ => rfl)
theorem RD.z {α : Type} {X : Nat} {c : CC} {τ : TS} {o : α × CC} {q : α × TS} (h : RD X c τ o q) (k : ∃ K π, RKp c (X + 103) K π) : RZ X c τ o q := by
  obtain ⟨K, π, k⟩ := k
  exact ⟨h.1, h.2.1.cz, h.2.2.tx, K, π, k.cn (by omega) h.2.1⟩
theorem T_back {τ q : TS} (h1 : ∀ i, i < 182 → tA q 63 i = tA τ 62 i) (h2 : ∀ j, 182 ≤ j → tA q 62 j = tA τ 62 j) (h3 : TX fY aY τ q) (h4 : tI τ 70 = nI 0) : OK (f_t_takesBack q) (fun q' => TX fZ aZ τ q') := by
  obtain ⟨q', e, p1, p2, p3⟩ := T_takesBack (τ := q)
  refine ⟨q', e, (h3.trans p3).yz (by rw [p2, h4]) (funext (fun i => ?_))⟩
  rw [p1]
  by_cases hi : i < 182
  · rw [if_pos hi]; exact h1 i hi
  · rw [if_neg hi]; exact h2 i (by omega)
theorem bendsN_b {v : VD} {w : Nat → Int32} {a : Nat} : ∀ k, ∃ m, m ≤ k ∧ bendsN v w a k = nI m
  | 0 => ⟨0, Nat.le_refl _, rfl⟩
  | k + 1 => by
    obtain ⟨m, hm, e⟩ := bendsN_b (v := v) (w := w) (a := a) k
    unfold bendsN
    rw [e]
    split
    · exact ⟨m + 1, by omega, nI_add _ _⟩
    · exact ⟨m, by omega, rfl⟩
section IJ
variable {g : CG} {c : CC} {τ : TS} {X V lo hi : Nat} {v : VD}
theorem ahead_n {x : Int32} {n K : Nat} {w : Nat → Int32} (hK : K < 1000) (hw : w 0 = nI n) (hn : n ≤ 999) (h : aheadS v w x (nI 0) (nI K) = true) : ∃ k, k ≤ K ∧ x = nI k ∧ n + k ≤ 999 := by
  unfold aheadS at h
  simp only [Bool.and_eq_true, decide_eq_true_eq, Bool.not_eq_true', decide_eq_false_iff_not] at h
  obtain ⟨⟨h0, h1, h2⟩, h3⟩ := h
  obtain ⟨k, hk, rfl⟩ := nI_lto (x := x) (n := K + 1) (by omega) h1 (by rw [i32_le, nI_toInt (by omega)] at h2; rw [i32_lt, nI_toInt (by omega)]; omega)
  refine ⟨k, by omega, rfl, ?_⟩
  rw [hw, nI_add, nI_ltI (by omega) (by omega)] at h3
  omega
theorem I_think {x : Int32} {K : Nat} (h : IV g c τ X V v lo hi) (hK : K < 1000) (ha : aheadS v (tA τ 62) x (nI 0) (nI K) = true) : ∃ k, k ≤ K ∧ x = nI k ∧ OK2 (f_c_X5_copy g (X + 103) (X + 35) c) (f_t_putsAside τ) (fun o q => o.1 = X + 103 ∧ OK2 (f_c_X5_seasons g (X + 103) x o.2) (f_t_seasonsGo x q) (fun o' q' => o'.1 = X + 103 ∧ (∃ n, TH g o'.2 q' X V v lo hi n) ∧ CZ X c o'.2 ∧ ∀ q2, TN q' q2 → OK (f_t_takesBack q2) (fun q3 => TX fZ aZ τ q3))) := by
  obtain ⟨n, hn, hw⟩ := h.2.2.2.2.2.2.2
  obtain ⟨k, hk, rfl, hnk⟩ := ahead_n hK hw hn ha
  refine ⟨k, hk, rfl, ?_⟩
  have h70 := h.2.2.2.2.2.2.1
  refine OK2_mono (I_aside h) ?_
  rintro ⟨r, c1⟩ q ⟨p1, p2, p3, p4, p5, -, p7, -⟩
  refine ⟨p1, OK2_mono (I_seasons (k := k) (p2 n hw) (by omega)) ?_⟩
  rintro ⟨r', c2⟩ q' ⟨s1, s2, s3, s4, s5, -⟩
  refine ⟨s1, ⟨_, s2⟩, (p3.cz).trans s3.cz, fun q2 hq => T_back (fun i hi => ?_) (fun j hj => ?_) ((p4.trans s4.sy).trans hq.tx) h70⟩
  · rw [hq.2.2.1, s4.2.2.1 63 i rfl]; exact p7 i hi
  · rw [hq.2.2.1, s5 j hj, p5]
theorem I_later {x y : Int32} (h : IV g c τ X V v lo hi) : OK2 (f_c_X0_later g X x y c) (f_t_later x y τ) (RZ X c τ) := by
  have hA := C_isAhead (x := y) (a := nI 0) (b := nI 60) h
  have hB := T_isAhead (x := y) (a := nI 0) (b := nI 60) h.2.2.2.2.2.1
  have hth := I_think (x := y) (K := 60) h (by omega)
  obtain ⟨h1, h2, h3, h4, h5, h6, h7⟩ := h
  have hb := h1.2.2.2.2.2.1
  have hb1 := hb.1
  unfold f_c_X0_later f_t_later Jc_X0_later_42
  rw [C_isColumn h1, T_isColumn h6.1 hb]
  simp only [h1.1, xbd_some, reduceIte, nl_0, nl_60, b32_0, hA, hB]
  split
  · exact OK2_some (RD.mk.z h5.2)
  · rename_i hz
    simp only [Bool.not_eq_false, Bool.and_eq_true, decide_eq_true_eq] at hz
    obtain ⟨j, hj, rfl⟩ := nI_lto (by omega) hz.1 hz.2
    split
    · exact OK2_some (RD.mk.z h5.2)
    · rename_i ha
      obtain ⟨k, hk, rfl, h9⟩ := hth (by simpa using ha)
      simp only [h2.1, h2.2, h5.1.1, Option.bind_some, reduceIte]
      obtain ⟨⟨r, c1⟩, q, e1, e2, rfl, ⟨r', c2⟩, q', e3, e4, rfl, ⟨n, ht⟩, s2, s3⟩ := h9
      obtain ⟨q3, e5, s4⟩ := s3 q' (TN.refl q')
      have e3' : f_c_X5_seasons g (X + 103) (nI k) c1 = some (X + 103, c2) := e3
      simp only [e1, e2, xbd_some, Option.bind_some, h5.1.1, e3', e4, reduceIte, h5.1.2.2.1, xin_nI (show j < 10 by omega) (by omega), nI_clamp (show j < 2 ^ 31 by omega), T_rowOf (show j < 301 by omega), e5]
      refine OK2_some ⟨?_, s2, s4, ht.2.2.2.1⟩
      exact ht.2.2.1.2.1.2.2.1 j (by omega)
theorem T_lordMany {τ' : TS} (h : TV τ' v) : f_t_lordMany τ' = some (nI (vN v), τ') := by
  unfold f_t_lordMany; rw [h.1.2.2.2.2.1]
def purS (w : Nat → Int32) : Nat → Int32
  | 0 => nI 0
  | k + 1 => purS w k + w (172 + 2 * k + 1)
theorem T_purseAll (h : TV τ v) (hb : VB v) : f_t_purseAll τ = some (purS (tA τ 62) (vN v), τ) := by
  have hn := hb.2.2.2.1
  unfold f_t_purseAll
  have e : itr (fun s_ : Int32 × Int32 × TS => Bt_purseAll_4 s_.1 s_.2.1 s_.2.2) 4096 (0, 0, τ) = some (purS (tA τ 62) (vN v), τ) := ?_
  · rw [e]; rfl
  refine itr_det (fun k => (purS (tA τ 62) k, nI k, τ)) (a := 0) (n := vN v) (r := (purS (tA τ 62) (vN v), τ)) (fun k _ hk => ?_) ?_ (by omega) (by omega)
  · show Bt_purseAll_4 (purS (tA τ 62) k) (nI k) τ = _
    unfold Bt_purseAll_4
    have h9 : ¬ nI (vN v) ≤ nI k := by rw [nI_leI (by omega) (by omega)]; omega
    simp only [T_lordMany h, xbd_some, h9, reduceIte, T_purseOf (show k < 5 by omega), nl_1, nI_add]
    rfl
  · show Bt_purseAll_4 (purS (tA τ 62) (vN v)) (nI (vN v)) τ = _
    unfold Bt_purseAll_4
    have h9 : nI (vN v) ≤ nI (vN v) := by rw [nI_leI (by omega) (by omega)]; omega
    simp only [T_lordMany h, xbd_some, h9, reduceIte]
theorem C_purseAll {w : Nat → Int32} (h1 : CX g c X V v lo hi) (h2 : gR g 110 X = some (X + 103)) (h3 : CT g c X (X + 103) v w) : itr (fun s_ : Int32 × Int32 × CC => Bc_X0_sums_70 g X s_.1 s_.2.1 s_.2.2) 4096 (0, 0, c) = some (purS w (vN v), c) := by
  have hb := h1.2.2.2.2.2.1
  have hn := hb.2.2.2.1
  refine itr_det (fun k => (purS w k, nI k, c)) (a := 0) (n := vN v) (r := (purS w (vN v), c)) (fun k _ hk => ?_) ?_ (by omega) (by omega)
  · show Bc_X0_sums_70 g X (purS w k) (nI k) c = _
    unfold Bc_X0_sums_70
    have h9 : ¬ nI (vN v) ≤ nI k := by rw [nI_leI (by omega) (by omega)]; omega
    simp only [C_lords h1.1 h1.2.1 h1.b, h1.1, xbd_some, h9, h2, h3.1.1, h3.1.2.2.2.1, Option.bind_some, reduceIte, xin_nI (show k < 5 by omega) (by omega), nI_clamp (show k < 2 ^ 31 by omega), (h3.2.1.2.2.2.2.2 k hk).2, nl_1, nI_add]
    rfl
  · show Bc_X0_sums_70 g X (purS w (vN v)) (nI (vN v)) c = _
    unfold Bc_X0_sums_70
    have h9 : nI (vN v) ≤ nI (vN v) := by rw [nI_leI (by omega) (by omega)]; omega
    simp only [C_lords h1.1 h1.2.1 h1.b, h1.1, xbd_some, h9, reduceIte]
theorem I_sums {x y : Int32} (h : IV g c τ X V v lo hi) : OK2 (f_c_X0_sums g X x y c) (f_t_sums x y τ) (RZ X c τ) := by
  have hA := C_isAhead (x := x) (a := nI 0) (b := nI 60) h
  have hB := T_isAhead (x := x) (a := nI 0) (b := nI 60) h.2.2.2.2.2.1
  have hth := I_think (x := x) (K := 60) h (by omega)
  obtain ⟨h1, h2, h3, h4, h5, h6, h7⟩ := h
  have hb := h1.2.2.2.2.2.1
  unfold f_c_X0_sums f_t_sums
  simp only [h1.1, xbd_some, reduceIte, nl_0, nl_60, b32_0, hA, hB, C_is, show ((0 : Int64)) = (nI 0).toInt64 from rfl, show ((2 : Int64)) = (nI 2).toInt64 from rfl, T_isIn32, nl_2]
  split
  · exact OK2_some (RD.mk.z h5.2)
  · rename_i ha
    obtain ⟨k, hk, rfl, h9⟩ := hth (by simpa using ha)
    split
    · exact OK2_some (RD.mk.z h5.2)
    · rename_i hz
      simp only [Bool.not_eq_false, Bool.and_eq_true, decide_eq_true_eq] at hz
      obtain ⟨j, hj, rfl⟩ := nI_lto (x := y) (n := 3) (by omega) hz.1 (by have := hz.2; rw [i32_le, nI_toInt (by omega)] at this; rw [i32_lt, nI_toInt (by omega)]; omega)
      simp only [h2.1, h2.2, h5.1.1, Option.bind_some, reduceIte]
      obtain ⟨⟨r, c1⟩, q, e1, e2, rfl, ⟨r', c2⟩, q', e3, e4, rfl, ⟨n, ht⟩, s2, s3⟩ := h9
      obtain ⟨q3, e5, s4⟩ := s3 q' (TN.refl q')
      have e3' : f_c_X5_seasons g (X + 103) (nI k) c1 = some (X + 103, c2) := e3
      have ep := C_purseAll ht.1 ht.2.1.2 ht.2.2.1
      simp only [nl_0] at ep
      simp only [e1, e2, xbd_some, Option.bind_some, h5.1.1, e3', e4, reduceIte, nI_leI (show 2 < 2147483648 by omega) (show j < 2147483648 by omega), nI_eq (show j < 2147483648 by omega) (show 0 < 2147483648 by omega), nI_eq (show j < 2147483648 by omega) (show 1 < 2147483648 by omega), nl_1, show xin (nI 1) 303 = true by decide, show (nI 1).toNatClampNeg = 1 by decide, ep, T_purseAll ht.2.2.2.2.1 hb]
      unfold Jt_sums_63
      rcases (show j = 0 ∨ j = 1 ∨ j = 2 by omega) with rfl | rfl | rfl
      · obtain ⟨⟨b, c3⟩, e6, b1, b2⟩ := C_bends ht.1 ht.2.2.1
        obtain ⟨⟨b', q4⟩, e7, b3, b4⟩ := T_bendMany ht.2.2.2.2.1 hb
        obtain ⟨q5, e8, s5⟩ := s3 q4 b4
        simp [e6, e7, e8, xbd_some]
        obtain ⟨K, π, hk⟩ := ht.2.2.2.1
        exact OK2_some ⟨b1.trans b3.symm, s2.trans b2.cz, s5, K, π, hk.cn (by omega) b2⟩
      · simp [e5]
        exact OK2_some ⟨ht.2.2.1.2.1.2.1, s2, s4, ht.2.2.2.1⟩
      · simp [e5, xbd_some]
        exact OK2_some ⟨rfl, s2, s4, ht.2.2.2.1⟩
end IJ
