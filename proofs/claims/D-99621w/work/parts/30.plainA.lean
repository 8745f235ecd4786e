/-! PLAIN LAW: the component eats, bends -/
set_option maxRecDepth 100000
def AgG (lo hi : Nat) (g g' : CG) : Prop := ∀ a, lo ≤ a → a < hi → gT g' a = gT g a ∧ gN g' a = gN g a ∧ (∀ k, gR g' k a = gR g k a) ∧ ∀ i, gA g' a i = gA g a i
def AgC (lo hi : Nat) (c c' : CC) : Prop := ∀ a, lo ≤ a → a < hi → Eq1 c c' a
theorem AgG.refl (lo hi : Nat) (g : CG) : AgG lo hi g g := fun _ _ _ => ⟨rfl, rfl, fun _ => rfl, fun _ => rfl⟩
theorem AgG.trans {lo hi : Nat} {g g' g'' : CG} (h : AgG lo hi g g') (h' : AgG lo hi g' g'') : AgG lo hi g g'' := fun a h1 h2 => ⟨(h' a h1 h2).1.trans (h a h1 h2).1, (h' a h1 h2).2.1.trans (h a h1 h2).2.1, fun k => ((h' a h1 h2).2.2.1 k).trans ((h a h1 h2).2.2.1 k), fun i => ((h' a h1 h2).2.2.2 i).trans ((h a h1 h2).2.2.2 i)⟩
theorem AgC.trans {lo hi : Nat} {c c' c'' : CC} (h : AgC lo hi c c') (h' : AgC lo hi c' c'') : AgC lo hi c c'' := fun a h1 h2 => (h a h1 h2).trans (h' a h1 h2)
/-- a valley whose cells lie between lo and hi -/
def RV (g : CG) (c : CC) (V : Nat) (v : VD) (lo hi : Nat) : Prop := ∀ g' c', AgG lo hi g g' → AgC lo hi c c' → RVb g' c' V v
theorem RV.b {g : CG} {c : CC} {V lo hi : Nat} {v : VD} (h : RV g c V v lo hi) : RVb g c V v := h g c (AgG.refl _ _ _) (fun a _ _ => Eq1.refl c a)
theorem RV.of {g : CG} {c c' : CC} {V lo hi : Nat} {v : VD} (h : RV g c V v lo hi) (e : AgC lo hi c c') : RV g c' V v lo hi := fun g' c'' h1 h2 => h g' c'' h1 (e.trans h2)
def Apart (X lo hi : Nat) : Prop := ∀ a, lo ≤ a → a < hi → a ≠ X ∧ (a < X + 27 ∨ X + 1671 ≤ a)
def MM (g : CG) (X : Nat) : Prop := gR g 106 X = some (X + 30) ∧ gT g (X + 30) = 5 ∧ gR g 500 (X + 30) = some (X + 31) ∧ gT g (X + 31) = 101 ∧ gN g (X + 31) = 18
def SB (v : VD) : Prop := ∀ k, k < 80 → ∃ n, n ≤ 9 ∧ vS v k = nI n
def WB (v : VD) (w : Nat → Int32) : Prop := WR v w ∧ (∃ n, n ≤ 5000 ∧ w 0 = nI n) ∧ (∀ k, k < 80 → ∃ n, n ≤ 100 ∧ w (12 + k) = nI n) ∧ (∀ k, k < 80 → ∃ n, n ≤ 99 ∧ w (92 + k) = nI n) ∧ ∀ k, k < vN v → (w (172 + 2 * k) = nI 0 ∨ w (172 + 2 * k) = nI 1) ∧ ∃ n, n ≤ 999 ∧ w (172 + 2 * k + 1) = nI n
def CX (g : CG) (c : CC) (X V : Nat) (v : VD) (lo hi : Nat) : Prop := gT g X = 1 ∧ cR c 100 X = some V ∧ RV g c V v lo hi ∧ Apart X lo hi ∧ MM g X ∧ VB v ∧ SB v
def CT (g : CG) (c : CC) (X s : Nat) (v : VD) (w : Nat → Int32) : Prop := StG g s X ∧ RS c s (vN v) w ∧ WB v w ∧ X + 35 ≤ s ∧ s + 68 ≤ X + 1671
/-- alike but for the moment -/
def CN (X : Nat) (c c' : CC) : Prop := ∀ a, a ≠ X + 31 → Eq1 c c' a
theorem CN.refl (X : Nat) (c : CC) : CN X c c := fun a _ => Eq1.refl c a
theorem CN.trans {X : Nat} {c c' c'' : CC} (h : CN X c c') (h' : CN X c' c'') : CN X c c'' := fun a ha => (h a ha).trans (h' a ha)
theorem CN.uM {X i : Nat} {c c' : CC} {x : Int64} (h : CN X c c') : CN X c (uM c' (X + 31) i x) := fun a ha => (h a ha).uM ha
theorem CX.of {g : CG} {c c' : CC} {X V lo hi : Nat} {v : VD} (h : CX g c X V v lo hi) (e : ∀ a, (a = X ∨ (lo ≤ a ∧ a < hi)) → Eq1 c c' a) : CX g c' X V v lo hi :=
  ⟨h.1, by rw [(e X (Or.inl rfl)).2.2.1]; exact h.2.1, h.2.2.1.of (fun a h1 h2 => e a (Or.inr ⟨h1, h2⟩)), h.2.2.2⟩
theorem CX.cn {g : CG} {c c' : CC} {X V lo hi : Nat} {v : VD} (h : CX g c X V v lo hi) (n : CN X c c') : CX g c' X V v lo hi :=
  h.of (fun a ha => n a (by
    rcases ha with e | ⟨e1, e2⟩
    · omega
    · have := h.2.2.2.1 a e1 e2
      omega))
theorem CT.of {g : CG} {c c' : CC} {X s : Nat} {v : VD} {w : Nat → Int32} (h : CT g c X s v w) (e : ∀ a, s ≤ a → a < s + 68 → Eq1 c c' a) : CT g c' X s v w := ⟨h.1, h.2.1.of e, h.2.2⟩
theorem CT.cn {g : CG} {c c' : CC} {X s : Nat} {v : VD} {w : Nat → Int32} (h : CT g c X s v w) (n : CN X c c') : CT g c' X s v w := h.of (fun a h1 _ => n a (by have := h.2.2.2.1; omega))
theorem clip_sm {x : Int32} (h1 : -1000000 ≤ x.toInt) (h2 : x.toInt ≤ 1000000) : clip x.toInt64 = x.toInt64 := by
  have e1 : ((1000000 : Int64)).toInt = 1000000 := by decide
  have e2 : ((-1000000 : Int64)).toInt = -1000000 := by decide
  unfold clip
  rw [if_neg (by rw [Int64.lt_iff_toInt_lt, Int32.toInt_toInt64, e1]; omega), if_neg (by rw [Int64.lt_iff_toInt_lt, Int32.toInt_toInt64, e2]; omega)]
theorem clip_nI {n : Nat} (h : n ≤ 1000000) : clip (nI n).toInt64 = (nI n).toInt64 := clip_sm (by rw [nI_toInt (by omega)]; omega) (by rw [nI_toInt (by omega)]; omega)
theorem offS_b {v : VD} {w : Nat → Int32} (hb : VB v) {k : Nat} (hk : k < vN v) : ∃ n, n ≤ 99 ∧ offS v w k = nI n := by
  obtain ⟨a, b, p, j, z, -, -, -, -, h5, h6, -⟩ := hb.2.2.2.2.2.2 k hk
  unfold offS
  split
  · exact ⟨p, by omega, h5⟩
  · exact ⟨0, by omega, rfl⟩
theorem payN_b {v : VD} {w : Nat → Int32} {x : Int32} (hb : VB v) : ∀ k, k ≤ vN v → ∃ n, n ≤ 99 * k ∧ payN v w x k = nI n
  | 0, _ => ⟨0, by omega, rfl⟩
  | k + 1, h => by
    obtain ⟨n, hn, e⟩ := payN_b (v := v) (w := w) (x := x) hb k (by omega)
    obtain ⟨q, hq, eq⟩ := offS_b (w := w) hb (show k < vN v by omega)
    rw [payN]
    split
    · exact ⟨n + q, by omega, by rw [e, eq, nI_add]⟩
    · exact ⟨n, by omega, e⟩
theorem turnB_b {v : VD} {c x y z : Nat} (hx : x < 10) (hy : y < 10) (hz : z < 10) : ∃ n, n ≤ 40 ∧ turnB v c (nI x) (nI y) (nI z) = nI n := by
  unfold turnB
  split
  · unfold abs32
    have e : (nI x + nI z - nI 2 * nI y).toInt = (x : Int) + z - 2 * y := by
      rw [nI_add, pk_mul, pk_sub_toInt (by omega) (by omega)]
      omega
    by_cases h : 2 * y ≤ x + z
    · have e2 : nI x + nI z - nI 2 * nI y = nI (x + z - 2 * y) := by rw [nI_add, pk_mul, pk_sub h]
      rw [e2, if_pos (nI_le (Nat.zero_le _) (by omega))]
      exact ⟨_, by omega, rfl⟩
    · have h0 : ¬ nI 0 ≤ nI x + nI z - nI 2 * nI y := by rw [i32_le, e, nI_toInt (by omega)]; omega
      rw [if_neg h0]
      refine ⟨2 * y - (x + z), by omega, ?_⟩
      rw [i32_eq, nI_toInt (by omega), Int32.toInt_neg, e]
      rw [Int.bmod_eq_of_le (by omega) (by omega)]
      omega
  · exact ⟨0, by omega, rfl⟩
theorem WR_beh {v : VD} {w : Nat → Int32} (hb : VB v) (h : WR v w) {k : Nat} (hk : k < vC v) : (∃ x, x < vW v ∧ beforeS w k = nI x) ∧ (∃ y, y < vW v ∧ w (2 + k) = nI y) ∧ ∃ z, z < vW v ∧ behindS v w k = nI z := by
  refine ⟨h (k - 1) (by omega), h k hk, ?_⟩
  unfold behindS
  split
  · exact h k hk
  · exact h (k + 1) (by omega)
theorem turnS_b {v : VD} {w : Nat → Int32} (hb : VB v) (h : WR v w) {k : Nat} (hk : k < vC v) : ∃ n, n ≤ 40 ∧ turnS v w k = nI n := by
  have := hb.2.1
  obtain ⟨⟨x, hx, ex⟩, ⟨y, hy, ey⟩, z, hz, ez⟩ := WR_beh hb h hk
  unfold turnS
  rw [ex, ey, ez]
  exact turnB_b (by omega) (by omega) (by omega)
section CE
variable {g : CG} {c : CC} {X V s lo hi : Nat} {v : VD} {w : Nat → Int32}
theorem C_eats {k r : Nat} (hx : CX g c X V v lo hi) (ht : CT g c X s v w) (hk : k < vC v) (hr : r < vW v) : OK (f_c_X5_eats g s (nI k) (nI r) c) (fun o => o.1 = eatsS v w k r ∧ CN X c o.2) := by
  obtain ⟨hX, hV, hv, hap, ⟨m1, m2, m3, m4, m5⟩, hb, hsb⟩ := id hx
  obtain ⟨hs, hR, hW, hsX, -⟩ := id ht
  have hc := hb.1
  have hw := hb.2.1
  obtain ⟨so, s1, s2, s3, s4⟩ := hv.b.2.2.2.2.2.1
  obtain ⟨t1, t2, t3⟩ := s4 k (by omega)
  obtain ⟨a1, a2, a3, a4⟩ := hs.2.2.2.2.2.1
  obtain ⟨b1, b2, b3, b4⟩ := hs.2.2.2.2.2.2.1
  have ik : xin (nI k) 10 = true := xin_nI (by omega) (by omega)
  have ir : xin (nI r) 8 = true := xin_nI (by omega) (by omega)
  have ck : (nI k).toNatClampNeg = k := nI_clamp (by omega)
  have cr : (nI r).toNatClampNeg = r := nI_clamp (by omega)
  have hoff : ∀ k, k < vN v → w (172 + 2 * k) = nI 0 ∨ w (172 + 2 * k) = nI 1 := fun k hk => (hW.2.2.2.2 k hk).1
  unfold f_c_X5_eats eatsS
  cases hF : vF v with
  | none =>
    have hF2 := hv.b.2.2.2.2.2.2.2.1
    rw [hF] at hF2
    simp only at hF2
    simp only [hs.1, hs.2.1, hX, hV, hv.b.1, hF2, C_pay hs hX hV hv.b hb hR hoff, C_turn hs hX hV hv.b hb hR hk, s1, s2, s3, t1, t2, t3 r (by omega), a1, a2, a3, (a4 k (by omega)).1, (a4 k (by omega)).2.1, (a4 k (by omega)).2.2, hR.2.2.2.1 k r (by omega) (by omega), ik, ir, ck, cr, reduceIte, Option.bind_some, xbd_some]
    exact ⟨_, rfl, rfl, CN.refl X c⟩
  | some F =>
    have hF2 := hv.b.2.2.2.2.2.2.2.1
    rw [hF] at hF2
    simp only at hF2
    obtain ⟨honly, e, he, -⟩ := hF2
    have hne : ¬ (cR c 209 V = none) := by rw [he]; intro h; cases h
    -- the moment's places
    have i0 : ∀ j, j < 18 → xin (nI j) 18 = true := fun j hj => xin_nI hj (by omega)
    have q0 : ∀ j, j < 18 → (nI j).toNatClampNeg = j := fun j hj => nI_clamp (by omega)
    have st : ∀ c', CN X c c' → f_c_X5_turn g s (nI k) c' = some (turnS v w k, c') ∧ f_c_X5_pay g s (nI k) c' = some (payS v w (nI k), c') ∧ cR c' 100 X = some V ∧ cI c' 600 s = w 0 ∧ cA c' (gA g so k) r = vS v (8 * k + r) ∧ cA c' (s + 5 + k) r = w (12 + (8 * k + r)) ∧ cA c' (s + 16 + k) r = w (92 + (8 * k + r)) ∧ cR c' 209 V = some e ∧ ValC g c' e F := by
      intro c' hn
      have hx' := hx.cn hn
      have ht' := ht.cn hn
      have hvb := hx'.2.2.1.b
      obtain ⟨so', u1, -, -, u4⟩ := hvb.2.2.2.2.2.1
      have hso : so' = so := Option.some.inj (u1.symm.trans s1)
      subst hso
      have hF3 := hvb.2.2.2.2.2.2.2.1
      rw [hF] at hF3
      simp only at hF3
      obtain ⟨-, e', he', hval⟩ := hF3
      have hVne : V ≠ X + 31 := by
        intro h
        have h1 := hv.b.1
        rw [h, m4] at h1
        cases h1
      have hee : e' = e := by
        rw [(hn V hVne).2.2.1, he] at he'
        exact (Option.some.inj he').symm
      subst hee
      exact ⟨C_turn hs hX hx'.2.1 hvb hb ht'.2.1 hk, C_pay hs hX hx'.2.1 hvb hb ht'.2.1 hoff, hx'.2.1, ht'.2.1.1, (u4 k (by omega)).2.2 r (by omega), ht'.2.1.2.2.2.1 k r (by omega) (by omega), ht'.2.1.2.2.2.2.1 k r (by omega) (by omega), he', hval⟩
    simp only [nl_0, nl_1, nl_2, nl_3, nl_4, nl_5, nl_6, nl_7]
    have n2 : CN X c (uM (uM c (X + 31) 0 (nI k).toInt64) (X + 31) 1 (nI r).toInt64) := ((CN.refl X c).uM).uM
    have S2 := st _ n2
    generalize hc2 : uM (uM c (X + 31) 0 (nI k).toInt64) (X + 31) 1 (nI r).toInt64 = c2 at *
    have n3 : CN X c (uM (uM c2 (X + 31) 2 (turnS v w k).toInt64) (X + 31) 3 (w 0).toInt64) := (n2.uM).uM
    have S3 := st _ n3
    have S3a := st _ (n2.uM (i := 2) (x := (turnS v w k).toInt64))
    generalize hc3 : uM (uM c2 (X + 31) 2 (turnS v w k).toInt64) (X + 31) 3 (w 0).toInt64 = c3 at *
    have n4 : CN X c (uM c3 (X + 31) 4 (vS v (8 * k + r)).toInt64) := n3.uM
    have S4 := st _ n4
    have n5 : CN X c (uM (uM c3 (X + 31) 4 (vS v (8 * k + r)).toInt64) (X + 31) 5 (w (12 + (8 * k + r))).toInt64) := n4.uM
    have S5 := st _ n5
    generalize hc5 : uM (uM c3 (X + 31) 4 (vS v (8 * k + r)).toInt64) (X + 31) 5 (w (12 + (8 * k + r))).toInt64 = c5 at *
    have S6 := st _ (n5.uM (i := 6) (x := (payS v w (nI k)).toInt64))
    have n7 : CN X c (uM (uM c5 (X + 31) 6 (payS v w (nI k)).toInt64) (X + 31) 7 (w (92 + (8 * k + r))).toInt64) := (n5.uM).uM
    have S7 := st _ n7
    generalize hc7 : uM (uM c5 (X + 31) 6 (payS v w (nI k)).toInt64) (X + 31) 7 (w (92 + (8 * k + r))).toInt64 = c7 at *
    have hat := S7.2.2.2.2.2.2.2.2 (X + 30) (X + 31) m2 m3 m4 m5
    simp only [hs.1, hs.2.1, hX, hV, hv.b.1, hne, m1, m2, m3, m4, m5, i0 0 (by omega), i0 1 (by omega), i0 2 (by omega), i0 3 (by omega), i0 4 (by omega), i0 5 (by omega), i0 6 (by omega), i0 7 (by omega), q0 0 (by omega), q0 1 (by omega), q0 2 (by omega), q0 3 (by omega), q0 4 (by omega), q0 5 (by omega), q0 6 (by omega), q0 7 (by omega), hc2, S2.1, S3a.2.2.2.1, hc3, S3.2.2.1, s1, s2, s3, ik, ck, t1, t2, ir, cr, S3.2.2.2.2.1, a1, a2, a3, (a4 k (by omega)).1, (a4 k (by omega)).2.1, (a4 k (by omega)).2.2, S4.2.2.2.2.2.1, hc5, S5.2.1, b1, b2, b3, (b4 k (by omega)).1, (b4 k (by omega)).2.1, (b4 k (by omega)).2.2, S6.2.2.2.2.2.2.1, hc7, S7.2.2.1, S7.2.2.2.2.2.2.2.1, hat, reduceIte, Option.bind_some, xbd_some]
    refine ⟨_, rfl, ?_, n7⟩
    refine honly _ _ (fun j hj _ => ?_)
    have hj8 : j < 8 := by
      simp only [okE, Bool.or_eq_true, Bool.and_eq_true, decide_eq_true_eq] at hj
      omega
    obtain ⟨tn, htn, et⟩ := turnS_b hb hW.1 hk
    obtain ⟨pn, hpn, ep⟩ := payN_b (w := w) (x := nI k) hb (vN v) (Nat.le_refl _)
    obtain ⟨sn, hsn, es⟩ := hW.2.1
    obtain ⟨bn, hbn, eb⟩ := hsb (8 * k + r) (by omega)
    obtain ⟨wn, hwn, ew⟩ := hW.2.2.1 (8 * k + r) (by omega)
    obtain ⟨en, hen, ee⟩ := hW.2.2.2.1 (8 * k + r) (by omega)
    have hvn := hb.2.2.2.1
    have ep' : payS v w (nI k) = nI pn := ep
    rw [← hc7, ← hc5, ← hc3, ← hc2]
    simp only [cM_uM, envE]
    rcases (by omega : j = 0 ∨ j = 1 ∨ j = 2 ∨ j = 3 ∨ j = 4 ∨ j = 5 ∨ j = 6 ∨ j = 7) with h | h | h | h | h | h | h | h <;> subst h <;> simp
    · exact clip_nI (by omega)
    · exact clip_nI (by omega)
    · rw [et]; exact clip_nI (by omega)
    · rw [es]; exact clip_nI (by omega)
    · rw [eb]; exact clip_nI (by omega)
    · rw [ew]; exact clip_nI (by omega)
    · rw [ep']; exact clip_nI (by omega)
    · rw [ee]; exact clip_nI (by omega)
end CE
