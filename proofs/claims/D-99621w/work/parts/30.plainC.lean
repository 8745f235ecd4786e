/-! PLAIN LAW: the component's columns move -/
set_option maxRecDepth 100000
/-- alike but for a state and the moment -/
def CF (X s : Nat) (c c' : CC) : Prop := ∀ a, a ≠ X + 31 → ¬ (s ≤ a ∧ a < s + 68) → Eq1 c c' a
theorem CF.refl (X s : Nat) (c : CC) : CF X s c c := fun a _ _ => Eq1.refl c a
theorem CF.trans {X s : Nat} {c c' c'' : CC} (h : CF X s c c') (h' : CF X s c' c'') : CF X s c c'' := fun a h1 h2 => (h a h1 h2).trans (h' a h1 h2)
theorem CN.cf {X s : Nat} {c c' : CC} (h : CN X c c') : CF X s c c' := fun a h1 _ => h a h1
theorem CF.uA {X s b i : Nat} {c c' : CC} {x : Int32} (h : CF X s c c') (hb : s ≤ b ∧ b < s + 68) : CF X s c (uA c' b i x) := fun a h1 h2 => (h a h1 h2).uA (fun e => h2 (by rw [e]; exact hb))
theorem CF.uI {X s b i : Nat} {c c' : CC} {x : Int32} (h : CF X s c c') (hb : s ≤ b ∧ b < s + 68) : CF X s c (uI c' i b x) := fun a h1 h2 => (h a h1 h2).uI (fun e => h2 (by rw [e]; exact hb))
theorem CF.uP {X s b i : Nat} {c c' : CC} {x : Option Nat} (h : CF X s c c') (hb : s ≤ b ∧ b < s + 68) : CF X s c (uP c' b i x) := fun a h1 h2 => (h a h1 h2).uP (fun e => h2 (by rw [e]; exact hb))
theorem CX.cf {g : CG} {c c' : CC} {X V s lo hi : Nat} {v : VD} (h : CX g c X V v lo hi) (hs : X + 35 ≤ s ∧ s + 68 ≤ X + 1671) (n : CF X s c c') : CX g c' X V v lo hi :=
  h.of (fun a ha => n a (by
    rcases ha with e | ⟨e1, e2⟩
    · omega
    · have := h.2.2.2.1 a e1 e2
      omega) (by
    rcases ha with e | ⟨e1, e2⟩
    · omega
    · have := h.2.2.2.1 a e1 e2
      omega))
/-- another state is as it was -/
theorem CT.cf {g : CG} {c c' : CC} {X s s' : Nat} {v : VD} {w : Nat → Int32} (h : CT g c X s v w) (hs : s + 68 ≤ s' ∨ s' + 68 ≤ s) (n : CF X s' c c') : CT g c' X s v w := h.of (fun a h1 h2 => n a (by have := h.2.2.2.1; omega) (by omega))
theorem near_eq {r b x : Nat} (hr : r < 10) (hb : b < 10) (hx : x < 10) : (¬ nI x < abs32 (nI r - nI b)) ↔ (-(nI x) ≤ nI b - nI r ∧ nI b - nI r ≤ nI x) := by
  have e1 : (nI r - nI b).toInt = (r : Int) - b := pk_sub_toInt (by omega) (by omega)
  have e2 : (nI b - nI r).toInt = (b : Int) - r := pk_sub_toInt (by omega) (by omega)
  have e3 : (-(nI x)).toInt = -(x : Int) := by
    rw [Int32.toInt_neg, nI_toInt (by omega)]
    exact Int.bmod_eq_of_le (by omega) (by omega)
  have e4 : (-(nI r - nI b)).toInt = (b : Int) - r := by
    rw [Int32.toInt_neg, e1]
    rw [Int.bmod_eq_of_le (by omega) (by omega)]
    omega
  unfold abs32
  by_cases h : nI 0 ≤ nI r - nI b
  · rw [if_pos h, i32_lt, i32_le, i32_le, e1, e2, e3, nI_toInt (by omega)]
    rw [i32_le, e1, nI_toInt (by omega)] at h
    omega
  · rw [if_neg h, i32_lt, i32_le, i32_le, e4, e2, e3, nI_toInt (by omega)]
    rw [i32_le, e1, nI_toInt (by omega)] at h
    omega
section CM
variable {g : CG} {c : CC} {X V s lo hi : Nat} {v : VD} {w : Nat → Int32}
theorem C_canGo {k : Nat} {x : Int32} (hx : CX g c X V v lo hi) (ht : CT g c X s v w) (hk : k < vC v) : f_c_X5_canGo g s (nI k) x c = some (b32 ((decide (nI 0 ≤ x) && decide (x < nI (vW v))) && nearS v w k x), c) := by
  obtain ⟨hX, hV, hv, hap, hmm, hb, hsb⟩ := id hx
  obtain ⟨hs, hR, hW, hsX⟩ := id ht
  have hc := hb.1
  have hw := hb.2.1
  have hx7 := hb.2.2.1
  have hw2 := (hb.2.2.2.2.1 (by omega)).2.1
  have e1 : nI (vW v) - nI 1 = nI (vW v - 1) := nI_m1 (by omega)
  have e2 : nI (vC v) - nI 1 = nI (vC v - 1) := nI_m1 (by omega)
  have e3 : (x ≤ nI (vW v - 1)) ↔ (x < nI (vW v)) := by
    rw [i32_le, i32_lt, nI_toInt (by omega), nI_toInt (by omega)]; omega
  unfold f_c_X5_canGo Jc_X5_canGo_50 Jc_X5_canGo_93 Jc_X5_canGo_89
  simp only [hs.1, hs.2.1, hs.2.2.1.1, hs.2.2.1.2.1, hs.2.2.1.2.2, hX, hV, hv.b.1, hv.b.2.2.1, hv.b.2.2.2.1, C_is, C_abs, C_columns hX hV hv.b, nl_0, nl_1, e1, e2, e3, b32_0, reduceIte, Option.bind_some, xbd_some]
  cases h9 : (decide (nI 0 ≤ x) && decide (x < nI (vW v))) with
  | false => rfl
  | true =>
    obtain ⟨r, hr, hxr⟩ : ∃ r, r < vW v ∧ x = nI r := by
      simp only [Bool.and_eq_true, decide_eq_true_eq] at h9
      obtain ⟨r, hr1, hr2⟩ := nI_of (x := x) (by rw [i32_lt]; have := h9.1; rw [i32_le] at this; exact Int.not_lt.mpr this)
      refine ⟨r, ?_, hr2⟩
      have := h9.2
      rw [hr2, nI_ltI hr1 (by omega)] at this
      exact this
    subst hxr
    obtain ⟨⟨bf, hbf, ebf⟩, -, bh, hbh, ebh⟩ := WR_beh hb hW.1 hk
    unfold nearS
    rw [ebf, ebh]
    have q1 := near_eq (r := r) (b := bf) (x := vX v) (by omega) (by omega) (by omega)
    have q2 := near_eq (r := r) (b := bh) (x := vX v) (by omega) (by omega) (by omega)
    have hkc : (nI k = nI (vC v - 1)) ↔ k + 1 = vC v := by rw [nI_eq (by omega) (by omega)]; omega
    have hk0 : (nI k = nI 0) ↔ k = 0 := nI_eq (by omega) (by omega)
    simp only [Bool.true_eq_false, Bool.true_and, reduceIte, hkc, hk0]
    have hback : (if k + 1 = vC v then (some (nI 1, c) : Option (Int32 × CC)) else if xin (nI k + nI 1) 10 = true then (if nI (vX v) < abs32 (nI r - cA c (s + 1) (nI k + nI 1).toNatClampNeg) then some (nI 0, c) else some (nI 1, c)) else none) = some (b32 (decide (k + 1 = vC v) || (decide (-(nI (vX v)) ≤ nI bh - nI r) && decide (nI bh - nI r ≤ nI (vX v)))), c) := by
      by_cases hl : k + 1 = vC v
      · simp only [hl, reduceIte, decide_true, Bool.true_or]; rfl
      · have hl2 : cA c (s + 1) (k + 1) = nI bh := by
          rw [hR.2.2.1 (k + 1) (by omega), ← ebh]
          unfold behindS
          rw [if_neg hl]
        simp only [hl, reduceIte, decide_false, Bool.false_or, nI_add, xin_nI (show k + 1 < 10 by omega) (by omega), nI_clamp (show k + 1 < 2 ^ 31 by omega), hl2]
        by_cases h8 : nI (vX v) < abs32 (nI r - nI bh)
        · have h7 : ¬ (-(nI (vX v)) ≤ nI bh - nI r ∧ nI bh - nI r ≤ nI (vX v)) := fun q => (q2.mpr q) h8
          rw [if_pos h8, show (decide (-(nI (vX v)) ≤ nI bh - nI r) && decide (nI bh - nI r ≤ nI (vX v))) = false by simpa using h7]
          rfl
        · have h7 := q2.mp h8
          rw [if_neg h8, show (decide (-(nI (vX v)) ≤ nI bh - nI r) && decide (nI bh - nI r ≤ nI (vX v))) = true by simpa using h7]
          rfl
    by_cases h0 : k = 0
    · simp only [h0, reduceIte, decide_true, Bool.true_or, Bool.true_and] at hback ⊢
      exact hback
    · have hl3 : cA c (s + 1) (k - 1) = nI bf := by
        rw [hR.2.2.1 (k - 1) (by omega), ← ebf]
        rfl
      simp only [h0, reduceIte, decide_false, Bool.false_or, nI_m1 (show 1 ≤ k by omega), xin_nI (show k - 1 < 10 by omega) (show 10 < 2147483648 by omega), nI_clamp (show k - 1 < 2 ^ 31 by omega), hl3]
      by_cases h8 : nI (vX v) < abs32 (nI r - nI bf)
      · have h7 : ¬ (-(nI (vX v)) ≤ nI bf - nI r ∧ nI bf - nI r ≤ nI (vX v)) := fun q => (q1.mpr q) h8
        rw [if_pos h8, show (decide (-(nI (vX v)) ≤ nI bf - nI r) && decide (nI bf - nI r ≤ nI (vX v))) = false by simpa using h7]
        rfl
      · have h7 := q1.mp h8
        rw [if_neg h8, show (decide (-(nI (vX v)) ≤ nI bf - nI r) && decide (nI bf - nI r ≤ nI (vX v))) = true by simpa using h7, Bool.true_and]
        exact hback
/-- the row in the component, whose 'none' is the row as it is -/
def bst (R : Nat) (b : Int32) : Int32 := if b = -nI 1 then nI R else b
theorem C_mv {k R : Nat} {x b : Int32} {m : Int64} (hx : CX g c X V v lo hi) (ht : CT g c X s v w) (hk : k < vC v) (hR : w (2 + k) = nI R) (hlt : ¬ nI R + nI 1 < x) : OK (Bc_X5_moves_19 g s (nI k) (bst R b) m x c) (fun o => ∃ c', o = .inl (bst R (mvS v w k x (b, m)).1, (mvS v w k x (b, m)).2, x + nI 2, c') ∧ CN X c c') := by
  obtain ⟨hX, hV, hv, hap, hmm, hb, hsb⟩ := id hx
  obtain ⟨hs, hRS, hW, hsX⟩ := id ht
  have hc := hb.1
  have hw := hb.2.1
  unfold Bc_X5_moves_19 Jc_X5_moves_68 mvS
  simp only [hs.1, hs.2.2.1.1, hs.2.2.1.2.1, hs.2.2.1.2.2, hRS.2.2.1 k (by omega), hR, xin_nI (show k < 10 by omega) (show 10 < 2147483648 by omega), nI_clamp (show k < 2 ^ 31 by omega), nl_0, nl_1, nl_2, hlt, C_canGo hx ht hk, b32_0, reduceIte, Option.bind_some, xbd_some]
  cases h9 : ((decide (nI 0 ≤ x) && decide (x < nI (vW v))) && nearS v w k x) with
  | false =>
    simp only [Bool.false_and, Bool.false_eq_true, reduceIte]
    exact ⟨_, rfl, c, rfl, CN.refl X c⟩
  | true =>
    simp only [Bool.true_and, Bool.true_eq_false, reduceIte]
    obtain ⟨r, hr, hxr⟩ : ∃ r, r < vW v ∧ x = nI r := by
      simp only [Bool.and_eq_true, decide_eq_true_eq] at h9
      obtain ⟨r, hr1, hr2⟩ := nI_of (x := x) (by rw [i32_lt]; have := h9.1.1; rw [i32_le] at this; exact Int.not_lt.mpr this)
      refine ⟨r, ?_, hr2⟩
      have := h9.1.2
      rw [hr2, nI_ltI hr1 (by omega)] at this
      exact this
    subst hxr
    simp only [nI_clamp (show r < 2 ^ 31 by omega)]
    refine OK_bd (C_eats hx ht hk hr) (fun q c' hq => ?_)
    have hq1 : q = _ := hq.1
    have hg := lg_cmp_gt (eatsS v w k r) m
    rw [nl_0] at hg
    simp only [hq1, hg]
    by_cases h7 : m < eatsS v w k r
    · simp only [h7, reduceIte, decide_true]
      refine OK_bd (C_eats (hx.cn hq.2) (ht.cn hq.2) hk hr) (fun q2 c2 hq2 => ?_)
      have hq3 : q2 = _ := hq2.1
      rw [hq3]
      refine ⟨_, rfl, c2, ?_, hq.2.trans hq2.2⟩
      have e : bst R (nI r) = nI r := by
        unfold bst
        rw [if_neg]
        intro h
        have := congrArg Int32.toInt h
        rw [nI_toInt (by omega), Int32.toInt_neg, nI_toInt (by omega)] at this
        rw [Int.bmod_eq_of_le (by omega) (by omega)] at this
        omega
      rw [e]
    · simp only [h7, reduceIte, decide_false, Bool.false_eq_true]
      exact ⟨_, rfl, c', rfl, hq.2⟩
theorem RS_row {c' : CC} {nl k : Nat} {x : Int32} (h : RS c' s nl w) (hk : k < 10) : RS (uA c' (s + 1) k x) s nl (upd w (2 + k) x) := by
  obtain ⟨h1, h2, h3, h4, h5, h6⟩ := h
  refine ⟨by rw [cI_uA, pk_un (by omega)]; exact h1, by rw [cI_uA, pk_un (by omega)]; exact h2, fun i hi => ?_, fun i r hi hr => ?_, fun i r hi hr => ?_, fun j hj => ⟨?_, ?_⟩⟩
  · rw [cA_uA]
    by_cases e : i = k
    · subst e; rw [if_pos ⟨rfl, rfl⟩, pk_us]
    · rw [if_neg (fun q => e q.2), pk_un (by omega)]; exact h3 i hi
  · rw [cA_uA, if_neg (by omega), pk_un (by omega)]; exact h4 i r hi hr
  · rw [cA_uA, if_neg (by omega), pk_un (by omega)]; exact h5 i r hi hr
  · rw [cA_uA, if_neg (by omega), pk_un (by omega)]; exact (h6 j hj).1
  · rw [cA_uA, if_neg (by omega), pk_un (by omega)]; exact (h6 j hj).2
theorem C_moves {k : Nat} (hx : CX g c X V v lo hi) (ht : CT g c X s v w) (hk : k < vC v) : OK (f_c_X5_moves g s (nI k) c) (fun c' => CT g c' X s v (moveS v w k) ∧ CF X s c c' ∧ (∀ j, cA c' (s + 67) j = cA c (s + 67) j) ∧ cI c' 602 s = cI c 602 s ∧ (∀ a, s + 26 ≤ a → a < s + 67 → Eq1 c c' a)) := by
  obtain ⟨hX, hV, hv, hap, hmm, hb, hsb⟩ := id hx
  obtain ⟨hs, hRS, hW, hsX⟩ := id ht
  have hc := hb.1
  have hw := hb.2.1
  obtain ⟨R, hR, ew⟩ := hW.1 k hk
  unfold f_c_X5_moves
  simp only [hs.1, hs.2.2.1.1, hs.2.2.1.2.1, hs.2.2.1.2.2, hRS.2.2.1 k (by omega), ew, xin_nI (show k < 10 by omega) (show 10 < 2147483648 by omega), nI_clamp (show k < 2 ^ 31 by omega), nl_1, reduceIte, Option.bind_some]
  have a1 : ¬ nI R + nI 1 < nI R - nI 1 := by
    rw [nI_add, i32_lt, nI_toInt (by omega), i32_sub (by rw [nI_toInt (by omega), nI_toInt (by omega)]; omega) (by rw [nI_toInt (by omega), nI_toInt (by omega)]; omega), nI_toInt (by omega), nI_toInt (by omega)]; omega
  have a2 : nI R - nI 1 + nI 2 = nI R + nI 1 := by
    rw [i32_eq, nI_add, i32_add, i32_sub] <;> (try rw [nI_toInt (by omega)]) <;> (try rw [nI_toInt (by omega)]) <;> (try rw [nI_toInt (by omega)]) <;> (try rw [i32_sub]) <;> (try rw [nI_toInt (by omega)]) <;> (try rw [nI_toInt (by omega)]) <;> (try rw [nI_toInt (by omega)]) <;> omega
  obtain ⟨o1, e1, c1, rfl, n1⟩ := C_mv (b := -nI 1) (m := 0) (x := nI R - nI 1) hx ht hk ew a1
  obtain ⟨o2, e2, c2, rfl, n2⟩ := C_mv (c := c1) (b := (mvS v w k (nI R - nI 1) (-nI 1, 0)).1) (m := (mvS v w k (nI R - nI 1) (-nI 1, 0)).2) (x := nI R + nI 1) (hx.cn n1) (ht.cn n1) hk ew (by rw [i32_lt]; omega)
  have nn : CN X c c2 := n1.trans n2
  have ht2 := ht.cn nn
  have e3 : Bc_X5_moves_19 g s (nI k) (bst R (mv2 v w k).1) (mv2 v w k).2 (nI R + nI 1 + nI 2) c2 = some (.inr (bst R (mv2 v w k).1, c2)) := by
    unfold Bc_X5_moves_19
    simp only [hs.1, hs.2.2.1.1, hs.2.2.1.2.1, hs.2.2.1.2.2, ht2.2.1.2.2.1 k (by omega), ew, xin_nI (show k < 10 by omega) (show 10 < 2147483648 by omega), nI_clamp (show k < 2 ^ 31 by omega), nl_1, reduceIte, Option.bind_some]
    rw [if_pos]
    rw [nI_add, nI_add, nI_ltI (by omega) (by omega)]
    omega
  have hl : itr (fun s_ : Int32 × Int64 × Int32 × CC => Bc_X5_moves_19 g s (nI k) s_.1 s_.2.1 s_.2.2.1 s_.2.2.2) 4096 (nI R, 0, nI R - nI 1, c) = some (bst R (mv2 v w k).1, c2) := by
    rw [itr_inl (n := 4095) (a' := (bst R (mvS v w k (nI R - nI 1) (-nI 1, 0)).1, (mvS v w k (nI R - nI 1) (-nI 1, 0)).2, nI R - nI 1 + nI 2, c1)) e1]
    rw [a2]
    rw [itr_inl (n := 4094) (a' := (bst R (mv2 v w k).1, (mv2 v w k).2, nI R + nI 1 + nI 2, c2)) (by unfold mv2; rw [ew]; exact e2)]
    exact itr_inr (n := 4093) e3
  rw [hl, Option.bind_some]
  have hmove : RS (uA c2 (s + 1) k (bst R (mv2 v w k).1)) s (vN v) (moveS v w k) := by
    have h9 := RS_row (k := k) (x := bst R (mv2 v w k).1) ht2.2.1 (by omega)
    have e9 : upd w (2 + k) (bst R (mv2 v w k).1) = moveS v w k := by
      unfold moveS bst
      by_cases h0 : (mv2 v w k).1 = -nI 1
      · rw [if_pos h0, if_pos h0]
        funext j
        unfold upd
        by_cases hj : j = 2 + k
        · rw [if_pos hj, hj, ew]
        · rw [if_neg hj]
      · rw [if_neg h0, if_neg h0]
    rw [e9] at h9
    exact h9
  refine ⟨_, rfl, ⟨hs, hmove, ?_, hsX⟩, nn.cf.uA (by omega), fun j => ?_, ?_, fun a h1 h2 => ?_⟩
  · refine ⟨moveS_WR hb hW.1, ?_, fun j hj => ?_, fun j hj => ?_, fun j hj => ?_⟩
    · rw [moveS_out (by omega)]; exact hW.2.1
    · rw [moveS_out (by omega)]; exact hW.2.2.1 j hj
    · rw [moveS_out (by omega)]; exact hW.2.2.2.1 j hj
    · rw [moveS_out (by omega), moveS_out (by omega)]; exact hW.2.2.2.2 j hj
  · rw [cA_uA, if_neg (by omega)]; exact (nn (s + 67) (by omega)).2.2.2.1 j
  · rw [cI_uA]; exact (nn s (by omega)).1 602
  · exact (nn a (by omega)).uA (by omega)
end CM
