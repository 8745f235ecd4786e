/-! PLAIN LAW: texts, names; letter -/
set_option maxRecDepth 100000
/-- a text in the component's heap -/
def Str (g : CG) (c : CC) (a : Nat) (L : List Nat) : Prop := gK g a = 19 ∧ cI c 1901 a = nI 0 ∧ L.length < 2000 ∧ ∃ b, gR g 1900 a = some b ∧ gK g b = 103 ∧ gN g b = L.length ∧ ∀ i, i < L.length → cA c b i = nI (L.getD i 0)
def lts (L : List Nat) : Prop := ∀ i, i < L.length → 97 ≤ L.getD i 0 ∧ L.getD i 0 ≤ 122
/-- a name as a number -/
def valN (L : List Nat) : Nat → Nat
  | 0 => 0
  | k + 1 => 27 * valN L k + (L.getD k 0 - 96)
theorem valN_b {L : List Nat} (h : lts L) : ∀ k, k ≤ L.length → valN L k < 27 ^ k ∧ (0 < k → 0 < valN L k)
  | 0, _ => ⟨by show 0 < 27 ^ 0; decide, fun h => absurd h (Nat.lt_irrefl 0)⟩
  | k + 1, hk => by
    obtain ⟨h1, -⟩ := valN_b h k (by omega)
    obtain ⟨h2, h3⟩ := h k (by omega)
    refine ⟨?_, fun _ => ?_⟩
    · show 27 * valN L k + (L.getD k 0 - 96) < 27 ^ (k + 1)
      rw [Nat.pow_succ]
      omega
    · show 0 < 27 * valN L k + (L.getD k 0 - 96)
      omega
theorem valN_lt {L : List Nat} (h : lts L) (h6 : L.length ≤ 6) {k : Nat} (hk : k ≤ L.length) : valN L k < 387420489 := by
  have h1 := (valN_b h k hk).1
  have h2 : 27 ^ k ≤ 27 ^ 6 := Nat.pow_le_pow_right (by omega) (by omega)
  have h3 : 27 ^ 6 = 387420489 := by decide
  omega
theorem valN_d {L : List Nat} (h : lts L) {k : Nat} (hk : k < L.length) : valN L (k + 1) / 27 = valN L k ∧ valN L (k + 1) % 27 = L.getD k 0 - 96 := by
  obtain ⟨h2, h3⟩ := h k hk
  show (27 * valN L k + (L.getD k 0 - 96)) / 27 = _ ∧ (27 * valN L k + (L.getD k 0 - 96)) % 27 = _
  omega
def nmL (L : List Nat) : Prop := lts L ∧ 1 ≤ L.length ∧ L.length ≤ 6
/-- lords by names -/
def NMb (g : CG) (c : CC) (V : Nat) (v : VD) (ν : Nat → List Nat) : Prop := ∃ L E, gR g 208 V = some L ∧ cR c 1801 L = some E ∧ ∀ k, k < vN v → nmL (ν k) ∧ ∃ o s, cP c E k = some o ∧ gR g 700 o = some s ∧ Str g c s (ν k)
def NMS (g : CG) (c : CC) (τ : TS) (V : Nat) (v : VD) (lo hi : Nat) : Prop := ∃ ν, (∀ g' c', AgG lo hi g g' → AgC lo hi c c' → NMb g' c' V v ν) ∧ ∀ k, k < vN v → tM τ 48 (5 + k) = lN (valN (ν k) (ν k).length)
theorem lg_pos {x : Int64} : (lg_cmp x 0 ≤ 0) ↔ ¬ (0 : Int64) < x := by
  rw [← lg_cmp_gt x 0]
  constructor
  · intro h z
    rw [i32_le] at h
    have z : (0 : Int32) < lg_cmp x 0 := z
    rw [i32_lt] at z
    omega
  · intro h
    rw [i32_le]
    have h : ¬ (0 : Int32) < lg_cmp x 0 := h
    rw [i32_lt] at h
    omega
section ZWs
variable {g : CG} {c c' : CC} {τ τ' q : TS} {X V s lo hi n m : Nat} {v : VD}
theorem C_len {L : List Nat} (h : Str g c s L) : f_c_J6_length g s c = some (nI L.length, c) := by
  obtain ⟨h1, h2, h3, b, b1, b2, b3, b4⟩ := h
  unfold f_c_J6_length f_c_J6_coder
  rw [if_pos h1, b1, Option.bind_some, if_pos b2, if_pos h1, xbd_some, h2, b3]
  have e : (nI 0).toInt8.toInt32 &&& 31 = (0 : Int32) := by decide
  rw [e, show Int32.ofNat L.length = nI L.length from rfl, pk_shrN (by omega) _ 0 (by decide), Nat.pow_zero, Nat.div_one]
theorem ch_id : ∀ x, x < 128 → ((((nI x &&& 255).toUInt32 % 65536).toInt32).toUInt32.toUInt16.toUInt32.toInt32).toUInt32.toUInt16.toUInt32.toInt32 = nI x := by decide +kernel
theorem C_chr {L : List Nat} {k : Nat} (h : Str g c s L) (hl : lts L) (hk : k < L.length) : f_c_J6_charAt g s (nI k) c = some (nI (L.getD k 0), c) := by
  obtain ⟨h1, h2, h3, b, b1, b2, b3, b4⟩ := h
  have hx := hl k hk
  unfold f_c_J6_charAt f_c_J6_isLatin1 f_c_J9_charAt f_c_J6_checkIndex f_c_J8_checkIndex
  rw [if_pos h1, if_pos h1, h2, if_pos (show nI 0 = 0 from rfl), xbd_some, if_neg (show ¬ (1 : Int32) = 0 by decide), b1, Option.bind_some, if_pos b2, b3, show Int32.ofNat L.length = nI L.length from rfl, if_neg (show ¬ nI k < 0 from nI_pos (by omega)), if_pos (show nI k < nI L.length by rw [nI_ltI (by omega) (by omega)]; exact hk), xbd_some, Option.bind_some, if_pos (xin_nI hk (by omega)), nI_clamp (show k < 2 ^ 31 by omega), b4 k hk, xbd_some, ch_id _ (by omega)]
theorem T_letter {L : List Nat} {k j : Nat} (hT : TV0 τ v) (hb : VB v) (hL : nmL L) (hj : j < vN v) (hM : tM τ 48 (5 + j) = lN (valN L L.length)) (hk : k < 6) : f_t_letter (nI j) (nI k) τ = some (if k < L.length then nI (L.getD k 0 - 96) else 0, τ) := by
  have hn := hb.2.2.2.1
  obtain ⟨hl, h1, h6⟩ := hL
  have e27 : (27 : Int64) = lN 27 := rfl
  have el : f_t_isLord (nI j) τ = some (nI 1, τ) := by
    unfold f_t_isLord f_t_lordMany
    rw [hT.2.2.2.2.1, xbd_some, show (0 : Int64) = (nI 0).toInt64 from rfl, nl_1, nI_m1 (by omega), T_isIn32, xbd_some]
    have a1 : nI 0 ≤ nI j := by rw [nI_leI (by omega) (by omega)]; omega
    have a2 : nI j ≤ nI (vN v - 1) := by rw [nI_leI (by omega) (by omega)]; omega
    rw [decide_eq_true a1, decide_eq_true a2]; rfl
  have ei : f_t_isIn (nI k).toInt64 0 5 τ = some (b32 true, τ) := by
    rw [show (0 : Int64) = (nI 0).toInt64 from rfl, show (5 : Int64) = (nI 5).toInt64 from rfl, T_isIn32]
    have a1 : nI 0 ≤ nI k := by rw [nI_leI (by omega) (by omega)]; omega
    have a2 : nI k ≤ nI 5 := by rw [nI_leI (by omega) (by omega)]; omega
    rw [decide_eq_true a1, decide_eq_true a2]; rfl
  have l1 : OK (itr (fun s_ : Int32 × Int64 × TS => Bt_letter_37 (nI k) (lN (valN L L.length)) s_.1 s_.2.1 s_.2.2) 4096 (0, lN (valN L L.length), τ)) (fun o => o = (nI L.length, τ)) := by
    refine itr_for (fun i s => s = (nI i, lN (valN L (L.length - i)), τ)) _ 0 L.length ?_ ?_ (by omega) (by omega) rfl
    · rintro i s - hi rfl
      obtain ⟨d, hd⟩ : ∃ d, L.length - i = d + 1 := ⟨L.length - i - 1, by omega⟩
      have hp := (valN_b hl (d + 1) (by omega)).2 (by omega)
      have hlt := valN_lt hl h6 (k := d + 1) (by omega)
      show OK (Bt_letter_37 (nI k) (lN (valN L L.length)) (nI i) (lN (valN L (L.length - i))) τ) _
      unfold Bt_letter_37
      rw [hd, if_neg (by rw [lg_pos, show (0 : Int64) = lN 0 from rfl, pk_lLT (by omega) (by omega)]; omega), e27, pk_lDiv (by omega) (by omega) (by omega), (valN_d hl (by omega)).1, nl_1, nI_add]
      exact OK_some (Or.inl ⟨_, rfl, by rw [show L.length - (i + 1) = d by omega]⟩)
    · rintro s rfl
      show OK (Bt_letter_37 (nI k) (lN (valN L L.length)) (nI L.length) (lN (valN L (L.length - L.length))) τ) _
      unfold Bt_letter_37
      rw [Nat.sub_self, if_pos (by rw [lg_pos]; show ¬ (0 : Int64) < lN 0; decide)]
      exact OK_some ⟨_, rfl, rfl⟩
  obtain ⟨o1, e1, rfl⟩ := l1
  unfold f_t_letter
  rw [el, xbd_some, if_neg (show ¬ nI 1 = 0 by decide), ei, xbd_some, if_neg (show ¬ b32 true = 0 by decide), nl_5, nI_add, if_pos (xin_nI (show 5 + j < 10 by omega) (by omega)), nI_clamp (show 5 + j < 2 ^ 31 by omega), hM, e1, Option.bind_some]
  show (if nI k < nI L.length then _ else _) = _
  by_cases hkl : k < L.length
  · have l2 : OK (itr (fun s_ : Int64 × Int32 × TS => Bt_letter_72 (nI k) s_.1 s_.2.1 s_.2.2) 4096 (lN (valN L L.length), nI (L.length - 1), τ)) (fun o => o = (lN (valN L (k + 1)), τ)) := by
      refine itr_for (fun i s => s = (lN (valN L (L.length - i)), nI (L.length - 1 - i), τ)) _ 0 (L.length - 1 - k) ?_ ?_ (by omega) (by omega) rfl
      · rintro i s - hi rfl
        obtain ⟨d, hd⟩ : ∃ d, L.length - i = d + 1 := ⟨L.length - i - 1, by omega⟩
        have hlt := valN_lt hl h6 (k := d + 1) (by omega)
        show OK (Bt_letter_72 (nI k) (lN (valN L (L.length - i))) (nI (L.length - 1 - i)) τ) _
        unfold Bt_letter_72
        rw [hd, if_neg (by rw [nI_leI (by omega) (by omega)]; omega), e27, pk_lDiv (by omega) (by omega) (by omega), (valN_d hl (by omega)).1, show L.length - 1 - i = L.length - 1 - (i + 1) + 1 by omega, pk_m1]
        exact OK_some (Or.inl ⟨_, rfl, by rw [show L.length - (i + 1) = d by omega]⟩)
      · rintro s rfl
        show OK (Bt_letter_72 (nI k) (lN (valN L (L.length - (L.length - 1 - k)))) (nI (L.length - 1 - (L.length - 1 - k))) τ) _
        unfold Bt_letter_72
        rw [if_pos (by rw [nI_leI (by omega) (by omega)]; omega), show L.length - (L.length - 1 - k) = k + 1 by omega]
        exact OK_some ⟨_, rfl, rfl⟩
    obtain ⟨o2, e2, rfl⟩ := l2
    have hlt := valN_lt hl h6 (k := k + 1) (by omega)
    have hd := hl k hkl
    rw [if_pos (by rw [nI_ltI (by omega) (by omega)]; exact hkl), if_pos hkl]
    show ((itr (fun s_ : Int64 × Int32 × TS => Bt_letter_72 (nI k) s_.1 s_.2.1 s_.2.2) 4096 (lN (valN L L.length), nI L.length - 1, τ)).bind fun b4 => some (((b4.1 - b4.1 / 27 * 27).toInt32, b4.2))) = _
    rw [nl_1, nI_m1 (by omega), e2, Option.bind_some]
    show some ((lN (valN L (k + 1)) - lN (valN L (k + 1)) / 27 * 27).toInt32, τ) = _
    rw [e27, pk_lRem (by omega) (by omega) (by omega), (valN_d hl hkl).2]
    congr 2
    rw [i32_eq, Int64.toInt_toInt32, pk_lT (by omega), nI_toInt (by omega), Int.bmod_eq_of_le (by omega) (by omega)]
  · rw [if_neg (by rw [nI_ltI (by omega) (by omega)]; exact hkl), if_neg hkl]
theorem I_letter {x y : Int32} (hx : CX g c X V v lo hi) (hT : TV τ v) (hN : NMS g c τ V v lo hi) : OK2 (f_c_X0_letter g X x y c) (f_t_letter x y τ) (RD X c τ) := by
  have hb := hx.2.2.2.2.2.1
  have hn := hb.2.2.2.1
  obtain ⟨ν, n1, n2⟩ := hN
  obtain ⟨L, E, m1, m2, m3⟩ := n1 g c (AgG.refl lo hi g) (fun a _ _ => Eq1.refl c a)
  have j1 : Jc_X0_letter_29 g c = some (-1, c) := rfl
  have el : f_t_isLord x τ = some (b32 (decide (nI 0 ≤ x) && decide (x < nI (vN v))), τ) := T_isLord hT.1 hb
  have ei : f_t_isIn y.toInt64 0 5 τ = some (b32 (decide (nI 0 ≤ y) && decide (y ≤ nI 5)), τ) := by
    rw [show (0 : Int64) = (nI 0).toInt64 from rfl, show (5 : Int64) = (nI 5).toInt64 from rfl, T_isIn32]
  by_cases hl : nI 0 ≤ x ∧ x < nI (vN v)
  · obtain ⟨j, hj, rfl⟩ := nI_lto (by omega) hl.1 hl.2
    have e1 : (decide (nI 0 ≤ nI j) && decide (nI j < nI (vN v))) = true := by simp [hl.1, hl.2]
    by_cases hy : nI 0 ≤ y ∧ y ≤ nI 5
    · obtain ⟨k, hk, rfl⟩ := nI_lto (x := y) (n := 6) (by omega) hy.1 (by have := hy.2; rw [i32_le, nI_toInt (by omega)] at this; rw [i32_lt, nI_toInt (by omega)]; omega)
      obtain ⟨o', c1, c2, -⟩ := C_lordOf hx.1 hx.2.1 hx.b hb hj
      obtain ⟨hnm, o, s', q1, q2, q3⟩ := m3 j hj
      have eo : o' = o := by
        obtain ⟨L2, E2, l1, l2, l3, l4, l5, l6, l7⟩ := hx.b.2.2.2.2.2.2.1
        obtain ⟨o2, o3, o4, -⟩ := l7 j hj
        have a1 : L2 = L := by rw [m1] at l1; exact (Option.some.inj l1).symm
        subst a1
        have a2 : E2 = E := by rw [m2] at l4; exact (Option.some.inj l4).symm
        subst a2
        have a3 : o2 = o := by rw [q1] at o3; exact (Option.some.inj o3).symm
        subst a3
        have h1 : ¬ nI j < 0 := nI_pos (by omega)
        have h2 : nI j < nI (vN v) := nI_lt hj (by omega)
        have h3 : xin (nI j) (gN g E2) = true := by
          unfold xin
          rw [nI_clamp (by omega)]
          simp only [nI_pos' (show j < 2 ^ 31 by omega), decide_true, Bool.true_and, decide_eq_true_eq]
          omega
        unfold f_c_X0_lordOf f_c_J2_get f_c_J11_checkIndex f_c_J8_checkIndex f_c_J2_elementData at c1
        simp only [hx.1, hx.2.1, hx.b.1, l1, l2, l3, l4, l5, h1, h2, h3, o3, o4, reduceIte, Option.bind_some, xbd_some, nI_clamp (show j < 2 ^ 31 by omega)] at c1
        cases c1
        rfl
      subst eo
      have hd := fun h : k < (ν j).length => hnm.1 k h
      rw [T_letter hT.1 hb hnm hj (n2 j hj) hk]
      unfold f_c_X0_letter f_c_X7_letter
      rw [if_pos hx.1, C_isLord hx, xbd_some, e1, if_neg (show ¬ b32 true = 0 by decide), nl_0, nl_5, C_is, xbd_some, decide_eq_true hy.1, decide_eq_true hy.2, if_neg (show ¬ b32 (true && true) = nI 0 by decide), c1, xbd_some, if_pos c2, if_pos c2, q2, Option.bind_some, if_pos q3.1, C_len q3, xbd_some]
      have h6 := hnm.2.2
      by_cases hkl : k < (ν j).length
      · rw [if_neg (by rw [nI_leI (by omega) (by omega)]; omega), C_chr q3 hnm.1 hkl, xbd_some, xbd_some, if_pos hkl]
        have := hd hkl
        have e9 : nI ((ν j).getD k 0) - 97 + 1 = nI ((ν j).getD k 0 - 96) := by
          rw [show (97 : Int32) = nI 97 from rfl, pk_sub (by omega), nl_1, nI_add]; congr 1; omega
        rw [e9]
        exact OK2_some RD.mk
      · rw [if_pos (by rw [nI_leI (by omega) (by omega)]; omega), xbd_some, if_neg hkl]
        exact OK2_some RD.mk
    · have ey : (decide (nI 0 ≤ y) && decide (y ≤ nI 5)) = false := by
        rw [Bool.eq_false_iff]; intro e; simp only [Bool.and_eq_true, decide_eq_true_eq] at e; exact hy e
      unfold f_c_X0_letter f_t_letter
      rw [if_pos hx.1, C_isLord hx, xbd_some, e1, if_neg (show ¬ b32 true = 0 by decide), nl_0, nl_5, C_is, xbd_some, ey, if_pos (show b32 false = nI 0 by decide), j1, el, xbd_some, e1, if_neg (show ¬ b32 true = nI 0 by decide), ei, xbd_some, ey, if_pos (show b32 false = nI 0 by decide)]
      exact OK2_some RD.mk
  · have e1 : (decide (nI 0 ≤ x) && decide (x < nI (vN v))) = false := by
      rw [Bool.eq_false_iff]; intro e; simp only [Bool.and_eq_true, decide_eq_true_eq] at e; exact hl e
    unfold f_c_X0_letter f_t_letter
    rw [if_pos hx.1, C_isLord hx, xbd_some, e1, if_pos (show b32 false = 0 by decide), j1, el, xbd_some, e1, if_pos (show b32 false = 0 by decide)]
    exact OK2_some RD.mk
end ZWs
