/-! PLAIN LAW: the twin reads a test as the relation says -/
set_option maxRecDepth 100000
/-- it stands behind facts, some signs wait -/
def endT (d : Nat) (n : Nat) (B : Nat → Nat) (kx : Nat) (good : Nat → Prop) (o : Nat) (W tot : List Nat) (τ : TS) (p' lo : Nat) (K : TS → Prop) : Prop := ∃ a' τ' out1 pend, sk B n a' = sk B n p' ∧ lo ≤ a' ∧ out1 ++ pend = tot ∧ (∀ y ∈ pend, good y) ∧ TA d τ' n B kx a' o 0 (W ++ pend.reverse) out1 ∧ TY inQ aQ τ τ' ∧ ∀ r, LtB n τ' a' r → K r
/-- the relation's fault is a word that begins too soon; the twin ends there without a fault -/
def softT (d : Nat) (n : Nat) (B : Nat → Nat) (o : Nat) (W : List Nat) (τ : TS) (k q : Nat) (K : TS → Prop) : Prop := k = 1 ∧ ¬ 25 ∈ W ∧ ltB (cur B n q) = true ∧ ∃ r W2 out2, K r ∧ TY inQ aQ τ r ∧ TQs r n B q o 0 W2 out2 ∧ out2.length + W2.length + d ≤ q
def faultT (d : Nat) (n : Nat) (B : Nat → Nat) (o : Nat) (W : List Nat) (τ : TS) (k q : Nat) (K : TS → Prop) : Prop := badT τ k q K ∨ softT d n B o W τ k q K
def stopT (W : List Nat) : Prop := W = [] ∨ ∃ W', W = W' ++ [25]
def waT (W : List Nat) : Prop := ∀ u ∈ W, 10 ≤ u
/-- what the twin does where the relation holds: tests -/
def tesP (d : Nat) (n : Nat) (B : Nat → Nat) (kx : Nat) : PRel := fun m o p acc r =>
  (m = 9 → ∀ τ a W out, TA d τ n B kx a o 0 W out → sk B n a = sk B n p → waT W →
    (∀ k q, r = .inl (k, q) → badT τ k q (LtA n τ a)) ∧
    (∀ cs p', r = .inr (cs, p') → ∃ a' τ', sk B n a' = sk B n p' ∧ a < a' ∧ TA d τ' n B kx a' o 0 W (out ++ cs) ∧ TY inQ aQ τ τ' ∧ ∀ r, LtE n τ' a' W.length r → LtA n τ a r)) ∧
  (m = 7 → ∀ τ a W out, TA d τ n B kx a o 0 W out → sk B n a = sk B n p → waT W → topIs W 10 = false → topIs W 12 = false →
    (∀ k q, r = .inl (k, q) → faultT d n B o W τ k q (LtA n τ a)) ∧
    (∀ cs p', r = .inr (cs, p') → hW B n (sk B n p') (txtL.getD 19 []) = false ∧ endT d n B kx (fun y => y = 10) o W (out ++ cs) τ p' (a + 1) (LtA n τ a))) ∧
  (m = 8 → ∀ τ a W out out1 pend, TA d τ n B kx a o 0 (W ++ pend.reverse) out1 → out1 ++ pend = out ++ acc → (∀ y ∈ pend, y = 10) → sk B n a = sk B n p → waT W → topIs W 10 = false → topIs W 12 = false →
    (∀ k q, r = .inl (k, q) → faultT d n B o W τ k q (LtB n τ a)) ∧
    (∀ cs p', r = .inr (cs, p') → hW B n (sk B n p') (txtL.getD 19 []) = false ∧ endT d n B kx (fun y => y = 10) o W (out ++ cs) τ p' a (LtB n τ a))) ∧
  (m = 5 → ∀ τ a W out, TA d τ n B kx a o 0 W out → sk B n a = sk B n p → waT W → stopT W →
    (∀ k q, r = .inl (k, q) → faultT d n B o W τ k q (LtA n τ a)) ∧
    (∀ cs p', r = .inr (cs, p') → hW B n (sk B n p') (txtL.getD 19 []) = false ∧ hW B n (sk B n p') (txtL.getD 20 []) = false ∧ endT d n B kx (fun y => y = 10 ∨ y = 11) o W (out ++ cs) τ p' (a + 1) (LtA n τ a))) ∧
  (m = 6 → ∀ τ a W out out1 pend, TA d τ n B kx a o 0 (W ++ pend.reverse) out1 → out1 ++ pend = out ++ acc → (∀ y ∈ pend, y = 10 ∨ y = 11) → sk B n a = sk B n p → waT W → stopT W → hW B n (sk B n p) (txtL.getD 19 []) = false →
    (∀ k q, r = .inl (k, q) → faultT d n B o W τ k q (LtB n τ a)) ∧
    (∀ cs p', r = .inr (cs, p') → hW B n (sk B n p') (txtL.getD 19 []) = false ∧ hW B n (sk B n p') (txtL.getD 20 []) = false ∧ endT d n B kx (fun y => y = 10 ∨ y = 11) o W (out ++ cs) τ p' a (LtB n τ a)))
section ZZZ
variable {τ τ' τ1 q : TS} {d n a p o bs kx : Nat} {B : Nat → Nat} {W W0 cs out acc out1 pend : List Nat} {L : List Nat} {R : PRel} {r : Res}
theorem badT.via {k q : Nat} {K1 K : TS → Prop} (t : TY inQ aQ τ τ1) (hk : ∀ r, K1 r → K r) (h : badT τ1 k q K1) : badT τ k q K := by
  obtain ⟨h1, h2, r, h3, h4, h5⟩ := h
  exact ⟨h1, h2, r, h3, t.trans h4, hk r h5⟩
theorem faultT.via {k q : Nat} {W1 : List Nat} {K1 K : TS → Prop} (t : TY inQ aQ τ τ1) (hk : ∀ r, K1 r → K r) (hW : 25 ∈ W → 25 ∈ W1) (h : faultT d n B o W1 τ1 k q K1) : faultT d n B o W τ k q K := by
  rcases h with h | ⟨h1, h2, h3, r, W2, out2, h4, h5, h6⟩
  · exact Or.inl (h.via t hk)
  · exact Or.inr ⟨h1, fun z => h2 (hW z), h3, r, W2, out2, hk r h4, t.trans h5, h6⟩
theorem endT.via {good : Nat → Prop} {tot : List Nat} {p' lo lo1 : Nat} {K1 K : TS → Prop} (t : TY inQ aQ τ τ1) (hk : ∀ r, K1 r → K r) (hl : lo ≤ lo1) (h : endT d n B kx good o W tot τ1 p' lo1 K1) : endT d n B kx good o W tot τ p' lo K := by
  obtain ⟨a', τ', out1, pend, h1, h2, h3, h4, h5, h6, h7⟩ := h
  exact ⟨a', τ', out1, pend, h1, by omega, h3, h4, h5, t.trans h6, fun r z => hk r (h7 r z)⟩
theorem stopT.top {y : Nat} (h : stopT W) (hy : y ≠ 25) : topIs W y = false := by
  rcases h with rfl | ⟨W', rfl⟩
  · rfl
  · rw [topIs_app]; exact decide_eq_false (fun e => hy e.symm)
theorem waT.app {y : Nat} (h : waT W) (hy : 10 ≤ y) : waT (W ++ [y]) := fun u hu => by
  simp only [List.mem_append, List.mem_singleton] at hu
  rcases hu with hu | hu
  · exact h u hu
  · omega
theorem notall : (txtL.getD 18 [] == txtL.getD 17 []) = false := by decide
theorem hW_al (h : alB B p = true) : hW B n p L = false := by
  unfold hW okW
  rw [h]
  simp
theorem hW_no (h : ltB (cur B n p) = false ∨ (okW B n p = true ∧ wd B n p ≠ L)) : hW B n p L = false := by
  rcases h with h | ⟨h1, h2⟩
  · unfold hW okW
    rw [h]; rfl
  · exact hW_f (fun _ => h2)
theorem tes_9 (hk2 : kx ≤ 2) (hR1 : ∀ m o p acc r, R m o p acc r → Parse B n kx m o p acc r) (hR : ∀ m o p acc r, R m o p acc r → tesP d n B kx m o p acc r) (z : faS B n R o (sk B n p) r) (h : TA d τ n B kx a o 0 W out) (hsk : sk B n a = sk B n p) (hw : waT W) :
    (∀ k q, r = .inl (k, q) → badT τ k q (LtA n τ a)) ∧
    (∀ cs p', r = .inr (cs, p') → ∃ a' τ', sk B n a' = sk B n p' ∧ a < a' ∧ TA d τ' n B kx a' o 0 W (out ++ cs) ∧ TY inQ aQ τ τ' ∧ ∀ r, LtE n τ' a' W.length r → LtA n τ a r) := by
  rw [← hsk] at z
  obtain ⟨ha, hn⟩ := h.le
  have cnt := h.2.2.2
  have g := sk_g (B := B) ha
  have hi := sk_i (B := B) ha
  have hl1 : out.length + (W.length + 1) ≤ 1680 := by omega
  have hlen : ∀ y : Nat, (W ++ [y]).length = W.length + 1 := fun y => by simp
  have t0 : TY inQ aQ τ (sI τ 2 (nI (sk B n a))) := (TY.refl inQ aQ τ).sI (Or.inl rfl)
  have hA0 : TA d (sI τ 2 (nI (sk B n a))) n B kx (sk B n a) o 0 W out := h.next h.1.skip t0 (by omega)
  rcases z with ⟨hc, z⟩ | ⟨c1, c2, rfl⟩ | ⟨ho, hwd, z⟩ | ⟨ho, hwd, rfl⟩ | ⟨hc, hno, z⟩
  · -- a square
    have c := cur_lt hc (by omega)
    obtain ⟨τ1, e1, t1, f6, fn⟩ := T_A_sq h.1 hc hl1
    rcases z with ⟨e6, rfl⟩ | ⟨e6, z⟩
    · refine ⟨fun k q e => ?_, fun cs p' e => by cases e⟩
      have e : (4, sk B n a) = (k, q) := by injection e
      cases e
      have hf := f6 e6
      exact ⟨by omega, by omega, τ1, hf.w, t1, LtA.bad e1 (hf.bad (by omega) (by omega))⟩
    · have hT := fn (by omega)
      have hA : TA d τ1 n B kx (sk B n a + 1) (o + 1) 0 (W ++ [25]) out := h.next hT t1 (by rw [hlen]; omega)
      have step : ∀ r, LtA n τ1 (sk B n a + 1) r → LtA n τ a r := fun r hr => LtA.step e1 (by omega) (by omega) hr
      rcases z with ⟨f, zz, rfl⟩ | ⟨cs1, p1, zz, z⟩
      · have ih := (hR _ _ _ _ _ zz).2.2.2.1 rfl τ1 (sk B n a + 1) (W ++ [25]) out hA rfl (hw.app (by omega)) (Or.inr ⟨W, rfl⟩)
        refine ⟨fun k q e => ?_, fun cs p' e => by cases e⟩
        have e : f = (k, q) := by injection e
        subst e
        rcases ih.1 k q rfl with hb | ⟨-, hb, -⟩
        · exact hb.via t1 step
        · exact absurd (by simp) hb
      · have ih := (hR _ _ _ _ _ zz).2.2.2.1 rfl τ1 (sk B n a + 1) (W ++ [25]) out hA rfl (hw.app (by omega)) (Or.inr ⟨W, rfl⟩)
        obtain ⟨n1, n2, a', τ', out1, pend, i1, i2, i3, i4, i5, i6, i7⟩ := ih.2 cs1 p1 rfl
        have g' := sk_g (B := B) i5.le.1
        have cnt2 := i5.2.2.2
        rw [List.length_append, List.length_reverse, hlen] at cnt2
        have e3 := congrArg List.length i3
        rw [List.length_append] at e3
        rw [← i1] at n1 n2
        rcases z with ⟨z1, rfl⟩ | ⟨z1, rfl⟩
        · rw [← i1] at z1
          obtain ⟨τ2, j1, j2, j3⟩ := T_TB_close i5.1 (fun y hy => by have := i4 y hy; omega) z1
          rw [i3] at j1
          refine ⟨fun k q e => (by cases e), fun cs p' e => ?_⟩
          have e : (cs1, sk B n p1 + 1) = (cs, p') := by injection e
          cases e
          exact ⟨sk B n a' + 1, τ2, by rw [i1], by omega, h.next j1 ((t1.trans i6).trans j2) (by omega), (t1.trans i6).trans j2, fun r hr => step r (i7 r (j3 r hr))⟩
        · rw [← i1] at z1
          obtain ⟨r', j1, j2, j3⟩ := T_TB_bad i5.1 i5.2.1 z1 n1 n2 (by simp)
          refine ⟨fun k q e => ?_, fun cs p' e => by cases e⟩
          have e : (1, sk B n p1) = (k, q) := by injection e
          cases e
          rw [i1] at j1
          exact ⟨by omega, by omega, r', j1.w, (t1.trans i6).trans j2, step r' (i7 r' j3)⟩
  · -- a word too soon
    have hl := ltB_b c1
    obtain ⟨u1, -⟩ := T_factSum (R := Parse B n kx) (r := .inl (1, sk B n a)) hk2 hA0 hi hw (hW_al c2) (fun _ _ _ _ _ k => k) (Or.inl ⟨_, Parse_al hi c1 c2, rfl⟩)
    obtain ⟨k1, k2, r', e2, v1, v2⟩ := u1 1 (sk B n a) rfl
    refine ⟨fun k q e => ?_, fun cs p' e => by cases e⟩
    have e : (1, sk B n a) = (k, q) := by injection e
    cases e
    exact ⟨k1, k2, r', v1, t0.trans v2, T_A_ill h.1 h.2.1 (by omega) (hW_al c2) e2 (v1.bad k1 k2)⟩
  · -- not
    obtain ⟨w1, w2, -⟩ := okW_gt ho
    obtain ⟨τ1, e1, t1, f6, fn⟩ := T_A_not h.1 h.2.1 (by rw [hW_t ho, decide_eq_true hwd]) hl1
    rcases z with ⟨e6, rfl⟩ | ⟨e6, z⟩
    · refine ⟨fun k q e => ?_, fun cs p' e => by cases e⟩
      have e : (4, sk B n a) = (k, q) := by injection e
      cases e
      have hf := f6 e6
      exact ⟨by omega, by omega, τ1, hf.w, t1, LtA.bad e1 (hf.bad (by omega) (by omega))⟩
    · have hT := fn (by omega)
      have hA : TA d τ1 n B kx (we B n (sk B n a)) (o + 1) 0 (W ++ [12]) out := h.next hT t1 (by rw [hlen]; omega)
      have step : ∀ r, LtA n τ1 (we B n (sk B n a)) r → LtA n τ a r := fun r hr => LtA.step e1 (by omega) (by omega) hr
      rcases z with ⟨f, zz, rfl⟩ | ⟨cs1, p1, zz, rfl⟩
      · have ih := (hR _ _ _ _ _ zz).1 rfl τ1 (we B n (sk B n a)) (W ++ [12]) out hA rfl (hw.app (by omega))
        refine ⟨fun k q e => ?_, fun cs p' e => by cases e⟩
        have e : f = (k, q) := by injection e
        subst e
        exact (ih.1 k q rfl).via t1 step
      · have ih := (hR _ _ _ _ _ zz).1 rfl τ1 (we B n (sk B n a)) (W ++ [12]) out hA rfl (hw.app (by omega))
        obtain ⟨a', τ', i1, i2, i3, i4, i5⟩ := ih.2 cs1 p1 rfl
        obtain ⟨τ2, j3, j4, j5⟩ := T_E_not i3.1
        refine ⟨fun k q e => (by cases e), fun cs p' e => ?_⟩
        have e : (cs1 ++ [12], p1) = (cs, p') := by injection e
        cases e
        rw [List.append_assoc] at j3
        have cnt3 := i3.2.2.2
        rw [List.length_append, hlen] at cnt3
        exact ⟨a', τ2, i1, by omega, h.next j3 ((t1.trans i4).trans j4) (by rw [List.length_append, List.length_append]; simp; omega), (t1.trans i4).trans j4, fun r hr => step r (i5 r (j5 r hr))⟩
  · -- all
    obtain ⟨w1, w2, -⟩ := okW_gt ho
    obtain ⟨r', e1, f1, f2⟩ := T_factAll hA0 hi (by rw [hW_t ho, decide_eq_true hwd])
    have hnot : hW B n (sk B n a) (txtL.getD 17 []) = false := hW_f (fun _ => by rw [hwd]; exact ne_beq notall)
    refine ⟨fun k q e => (by cases e), fun cs p' e => ?_⟩
    have e : ([13], we B n (sk B n a)) = (cs, p') := by injection e
    cases e
    exact ⟨we B n (sk B n a), r', rfl, by omega, f1, t0.trans f2, fun r hr => T_A_good h.1 h.2.1 (okW_91 ho).1 hnot e1 (by omega) w2 (by omega) hr⟩
  · -- two sums
    have hn1 : hW B n (sk B n a) (txtL.getD 17 []) = false := by
      rcases hno with e | ⟨e1, e2, e3⟩
      · exact hW_no (Or.inl e)
      · exact hW_no (Or.inr ⟨e1, e2⟩)
    have hn2 : hW B n (sk B n a) (txtL.getD 18 []) = false := by
      rcases hno with e | ⟨e1, e2, e3⟩
      · exact hW_no (Or.inl e)
      · exact hW_no (Or.inr ⟨e1, e3⟩)
    obtain ⟨u1, u2⟩ := T_factSum hk2 hA0 hi hw hn2 hR1 z
    refine ⟨fun k q e => ?_, fun cs p' e => ?_⟩
    · obtain ⟨k1, k2, r', e2, v1, v2⟩ := u1 k q e
      exact ⟨k1, k2, r', v1, t0.trans v2, T_A_ill h.1 h.2.1 hc hn1 e2 (v1.bad k1 k2)⟩
    · obtain ⟨a', r', e2, v1, v2, v3, v4⟩ := u2 cs p' e
      exact ⟨a', r', v1, by omega, v3, t0.trans v4, fun r hr => T_A_good h.1 h.2.1 hc hn1 e2 (by omega) v3.le.1 (by omega) hr⟩
/-- a word too soon behind facts -/
theorem tes_soon (h : TA d τ n B kx a o 0 (W ++ pend.reverse) out1) (hp : ∀ y ∈ pend, y ≠ 25) (c1 : ltB (cur B n (sk B n a)) = true) (c2 : alB B (sk B n a) = true) : faultT d n B o W τ 1 (sk B n a) (LtB n τ a) := by
  have hl := ltB_b c1
  by_cases e : 25 ∈ W
  · obtain ⟨r', j1, j2, j3⟩ := T_TB_bad h.1 h.2.1 (by omega) (hW_al c2) (hW_al c2) (by simp [e])
    exact Or.inl ⟨by omega, by omega, r', j1.w, j2, j3⟩
  · have e2 : ¬ 25 ∈ W ++ pend.reverse := by
      simp only [List.mem_append, List.mem_reverse]
      rintro (z | z)
      · exact e z
      · exact hp 25 z rfl
    exact Or.inr ⟨rfl, e, c1, _, _, _, T_TB_end h.1 h.2.1 (hW_al c2) (hW_al c2) e2, (TY.refl inQ aQ τ).sI (Or.inl rfl), h.1.skip, by have := h.2.2.2; have := (sk_g (B := B) h.le.1).1; omega⟩
theorem tes_7 (hR : ∀ m o p acc r, R m o p acc r → tesP d n B kx m o p acc r) (z : gon R 9 o p r (fun cs p1 => R 8 o p1 cs r)) (h : TA d τ n B kx a o 0 W out) (hsk : sk B n a = sk B n p) (hw : waT W) (h0 : topIs W 10 = false) (h2 : topIs W 12 = false) :
    (∀ k q, r = .inl (k, q) → faultT d n B o W τ k q (LtA n τ a)) ∧
    (∀ cs p', r = .inr (cs, p') → hW B n (sk B n p') (txtL.getD 19 []) = false ∧ endT d n B kx (fun y => y = 10) o W (out ++ cs) τ p' (a + 1) (LtA n τ a)) := by
  rcases z with ⟨f, zz, rfl⟩ | ⟨cs1, p1, zz, z⟩
  · have ih := (hR _ _ _ _ _ zz).1 rfl τ a W out h hsk hw
    exact ⟨fun k q e => by
      have e : f = (k, q) := by injection e
      subst e
      exact Or.inl (ih.1 k q rfl), fun cs p' e => by cases e⟩
  · obtain ⟨a', τ', i1, i2, i3, i4, i5⟩ := ((hR _ _ _ _ _ zz).1 rfl τ a W out h hsk hw).2 cs1 p1 rfl
    have step : ∀ r, LtB n τ' a' r → LtA n τ a r := fun r hr => i5 r (T_E_no i3.1 h2 hr)
    have ih := (hR _ _ _ _ _ z).2.2.1 rfl τ' a' W out (out ++ cs1) [] (by rw [List.reverse_nil, List.append_nil]; exact i3) (List.append_nil _) (fun y hy => by cases hy) i1 hw h0 h2
    exact ⟨fun k q e => (ih.1 k q e).via i4 step id, fun cs p' e => ⟨(ih.2 cs p' e).1, (ih.2 cs p' e).2.via i4 step (by omega)⟩⟩
theorem tes_8 (hR : ∀ m o p acc r, R m o p acc r → tesP d n B kx m o p acc r) (z : rsw B n R 9 8 (txtL.getD 19 []) 10 o p acc r) (h : TA d τ n B kx a o 0 (W ++ pend.reverse) out1) (hout : out1 ++ pend = out ++ acc) (hp : ∀ y ∈ pend, y = 10) (hsk : sk B n a = sk B n p) (hw : waT W) (h0 : topIs W 10 = false) (h2 : topIs W 12 = false) :
    (∀ k q, r = .inl (k, q) → faultT d n B o W τ k q (LtB n τ a)) ∧
    (∀ cs p', r = .inr (cs, p') → hW B n (sk B n p') (txtL.getD 19 []) = false ∧ endT d n B kx (fun y => y = 10) o W (out ++ cs) τ p' a (LtB n τ a)) := by
  unfold rsw at z
  rw [← hsk] at z
  obtain ⟨ha, hn⟩ := h.le
  have g := sk_g (B := B) ha
  have cnt := h.2.2.2
  rw [List.length_append, List.length_reverse] at cnt
  have hlen : ∀ y : Nat, (W ++ [y]).length = W.length + 1 := fun y => by simp
  rcases z with ⟨c1, c2, rfl⟩ | ⟨ho, hwd, z⟩ | ⟨hno, rfl⟩
  · refine ⟨fun k q e => ?_, fun cs p' e => by cases e⟩
    have e : (1, sk B n a) = (k, q) := by injection e
    cases e
    exact tes_soon h (fun y hy => by have := hp y hy; omega) c1 c2
  · obtain ⟨w1, w2, -⟩ := okW_gt ho
    obtain ⟨τ1, t1, t2, t3⟩ := T_TB_and h.1 h.2.1 hp h0 (by rw [hW_t ho, decide_eq_true hwd]) (by rw [List.length_append]; omega)
    have hA : TA d τ1 n B kx (we B n (sk B n a)) o 0 (W ++ [10]) (out1 ++ pend) := h.next t1 t2 (by rw [hlen, List.length_append]; omega)
    rcases z with ⟨f, zz, rfl⟩ | ⟨cs1, p1, zz, z⟩
    · have ih := (hR _ _ _ _ _ zz).1 rfl τ1 (we B n (sk B n a)) (W ++ [10]) (out1 ++ pend) hA rfl (hw.app (by omega))
      exact ⟨fun k q e => by
        have e : f = (k, q) := by injection e
        subst e
        exact Or.inl ((ih.1 k q rfl).via t2 t3), fun cs p' e => by cases e⟩
    · obtain ⟨a', τ', i1, i2, i3, i4, i5⟩ := ((hR _ _ _ _ _ zz).1 rfl τ1 (we B n (sk B n a)) (W ++ [10]) (out1 ++ pend) hA rfl (hw.app (by omega))).2 cs1 p1 rfl
      have step : ∀ r, LtB n τ' a' r → LtB n τ a r := fun r hr => t3 r (i5 r (T_E_no i3.1 (by rw [topIs_app]; rfl) hr))
      have ih := (hR _ _ _ _ _ z).2.2.1 rfl τ' a' W out (out1 ++ pend ++ cs1) [10] i3 (by rw [hout]; simp [List.append_assoc]) (fun y hy => by simp at hy; omega) i1 hw h0 h2
      exact ⟨fun k q e => (ih.1 k q e).via (t2.trans i4) step id, fun cs p' e => ⟨(ih.2 cs p' e).1, (ih.2 cs p' e).2.via (t2.trans i4) step (by omega)⟩⟩
  · refine ⟨fun k q e => (by cases e), fun cs p' e => ?_⟩
    have e : (acc, sk B n a) = (cs, p') := by injection e
    cases e
    have hi := sk_i (B := B) ha
    rw [hi]
    exact ⟨hW_no hno, a, τ, out1, pend, hi.symm, Nat.le_refl _, hout, hp, h, TY.refl _ _ τ, fun r hr => hr⟩
theorem tes_5 (hR : ∀ m o p acc r, R m o p acc r → tesP d n B kx m o p acc r) (z : gon R 7 o p r (fun cs p1 => R 6 o p1 cs r)) (h : TA d τ n B kx a o 0 W out) (hsk : sk B n a = sk B n p) (hw : waT W) (hs : stopT W) :
    (∀ k q, r = .inl (k, q) → faultT d n B o W τ k q (LtA n τ a)) ∧
    (∀ cs p', r = .inr (cs, p') → hW B n (sk B n p') (txtL.getD 19 []) = false ∧ hW B n (sk B n p') (txtL.getD 20 []) = false ∧ endT d n B kx (fun y => y = 10 ∨ y = 11) o W (out ++ cs) τ p' (a + 1) (LtA n τ a)) := by
  rcases z with ⟨f, zz, rfl⟩ | ⟨cs1, p1, zz, z⟩
  · have ih := (hR _ _ _ _ _ zz).2.1 rfl τ a W out h hsk hw (hs.top (by omega)) (hs.top (by omega))
    exact ⟨fun k q e => by
      have e : f = (k, q) := by injection e
      subst e
      exact ih.1 k q rfl, fun cs p' e => by cases e⟩
  · obtain ⟨c1, a', τ', out1, pend, i1, i2, i3, i4, i5, i6, i7⟩ := ((hR _ _ _ _ _ zz).2.1 rfl τ a W out h hsk hw (hs.top (by omega)) (hs.top (by omega))).2 cs1 p1 rfl
    have ih := (hR _ _ _ _ _ z).2.2.2.2 rfl τ' a' W out out1 pend i5 i3 (fun y hy => Or.inl (i4 y hy)) i1 hw hs c1
    exact ⟨fun k q e => (ih.1 k q e).via i6 i7 id, fun cs p' e => ⟨(ih.2 cs p' e).1, (ih.2 cs p' e).2.1, (ih.2 cs p' e).2.2.via i6 i7 (by omega)⟩⟩
theorem tes_6 (hR : ∀ m o p acc r, R m o p acc r → tesP d n B kx m o p acc r) (z : rsw B n R 7 6 (txtL.getD 20 []) 11 o p acc r) (h : TA d τ n B kx a o 0 (W ++ pend.reverse) out1) (hout : out1 ++ pend = out ++ acc) (hp : ∀ y ∈ pend, y = 10 ∨ y = 11) (hsk : sk B n a = sk B n p) (hw : waT W) (hs : stopT W) (hna : hW B n (sk B n p) (txtL.getD 19 []) = false) :
    (∀ k q, r = .inl (k, q) → faultT d n B o W τ k q (LtB n τ a)) ∧
    (∀ cs p', r = .inr (cs, p') → hW B n (sk B n p') (txtL.getD 19 []) = false ∧ hW B n (sk B n p') (txtL.getD 20 []) = false ∧ endT d n B kx (fun y => y = 10 ∨ y = 11) o W (out ++ cs) τ p' a (LtB n τ a)) := by
  unfold rsw at z
  rw [← hsk] at z hna
  obtain ⟨ha, hn⟩ := h.le
  have g := sk_g (B := B) ha
  have cnt := h.2.2.2
  rw [List.length_append, List.length_reverse] at cnt
  have hlen : ∀ y : Nat, (W ++ [y]).length = W.length + 1 := fun y => by simp
  rcases z with ⟨c1, c2, rfl⟩ | ⟨ho, hwd, z⟩ | ⟨hno, rfl⟩
  · refine ⟨fun k q e => ?_, fun cs p' e => by cases e⟩
    have e : (1, sk B n a) = (k, q) := by injection e
    cases e
    exact tes_soon h (fun y hy => by have := hp y hy; omega) c1 c2
  · obtain ⟨w1, w2, -⟩ := okW_gt ho
    obtain ⟨τ1, t1, t2, t3⟩ := T_TB_or h.1 h.2.1 hp (hs.top (by omega)) (hs.top (by omega)) (by rw [hW_t ho, decide_eq_true hwd]) (by rw [List.length_append]; omega)
    have hA : TA d τ1 n B kx (we B n (sk B n a)) o 0 (W ++ [11]) (out1 ++ pend) := h.next t1 t2 (by rw [hlen, List.length_append]; omega)
    rcases z with ⟨f, zz, rfl⟩ | ⟨cs1, p1, zz, z⟩
    · have ih := (hR _ _ _ _ _ zz).2.1 rfl τ1 (we B n (sk B n a)) (W ++ [11]) (out1 ++ pend) hA rfl (hw.app (by omega)) (by rw [topIs_app]; rfl) (by rw [topIs_app]; rfl)
      exact ⟨fun k q e => by
        have e : f = (k, q) := by injection e
        subst e
        exact (ih.1 k q rfl).via t2 t3 (fun z => by simp [z]), fun cs p' e => by cases e⟩
    · obtain ⟨c1, a', τ', out2, pend2, i1, i2, i3, i4, i5, i6, i7⟩ := ((hR _ _ _ _ _ zz).2.1 rfl τ1 (we B n (sk B n a)) (W ++ [11]) (out1 ++ pend) hA rfl (hw.app (by omega)) (by rw [topIs_app]; rfl) (by rw [topIs_app]; rfl)).2 cs1 p1 rfl
      have eW : W ++ [11] ++ pend2.reverse = W ++ (pend2 ++ [11]).reverse := by simp [List.append_assoc]
      rw [eW] at i5
      have step : ∀ r, LtB n τ' a' r → LtB n τ a r := fun r hr => t3 r (i7 r hr)
      have ih := (hR _ _ _ _ _ z).2.2.2.2 rfl τ' a' W out out2 (pend2 ++ [11]) i5 (by rw [← List.append_assoc, i3, hout]; simp [List.append_assoc]) (fun y hy => by
        simp only [List.mem_append, List.mem_singleton] at hy
        rcases hy with hy | hy
        · exact Or.inl (i4 y hy)
        · exact Or.inr hy) i1 hw hs c1
      exact ⟨fun k q e => (ih.1 k q e).via (t2.trans i6) step id, fun cs p' e => ⟨(ih.2 cs p' e).1, (ih.2 cs p' e).2.1, (ih.2 cs p' e).2.2.via (t2.trans i6) step (by omega)⟩⟩
  · refine ⟨fun k q e => (by cases e), fun cs p' e => ?_⟩
    have e : (acc, sk B n a) = (cs, p') := by injection e
    cases e
    have hi := sk_i (B := B) ha
    rw [hi]
    exact ⟨hna, hW_no hno, a, τ, out1, pend, hi.symm, Nat.le_refl _, hout, hp, h, TY.refl _ _ τ, fun r hr => hr⟩
/-- the twin reads tests as the relation says -/
theorem tes_all (hk2 : kx ≤ 2) {m : Nat} (z : Parse B n kx m o p acc r) : tesP d n B kx m o p acc r := by
  refine Parse.ind (Q := tesP d n B kx) (fun m o p acc r z => ?_) z
  have hR : ∀ m o p acc r, (Parse B n kx m o p acc r ∧ tesP d n B kx m o p acc r) → tesP d n B kx m o p acc r := fun _ _ _ _ _ k => k.2
  have hR1 : ∀ m o p acc r, (Parse B n kx m o p acc r ∧ tesP d n B kx m o p acc r) → Parse B n kx m o p acc r := fun _ _ _ _ _ k => k.1
  unfold PStp at z
  rcases z with ⟨rfl, z⟩ | ⟨rfl, z⟩ | ⟨rfl, z⟩ | ⟨rfl, z⟩ | ⟨rfl, z⟩ | ⟨rfl, z⟩ | ⟨rfl, z⟩ | ⟨rfl, z⟩ | ⟨rfl, z⟩ | ⟨rfl, z⟩
  iterate 5 exact ⟨(fun e => by cases e), (fun e => by cases e), (fun e => by cases e), (fun e => by cases e), fun e => by cases e⟩
  · exact ⟨(fun e => by cases e), (fun e => by cases e), (fun e => by cases e), fun _ τ a W out h1 h2 h3 h4 => tes_5 hR z h1 h2 h3 h4, fun e => by cases e⟩
  · exact ⟨(fun e => by cases e), (fun e => by cases e), (fun e => by cases e), (fun e => by cases e), fun _ τ a W out out1 pend h1 h2 h3 h4 h5 h6 h7 => tes_6 hR z h1 h2 h3 h4 h5 h6 h7⟩
  · exact ⟨(fun e => by cases e), fun _ τ a W out h1 h2 h3 h4 h5 => tes_7 hR z h1 h2 h3 h4 h5, (fun e => by cases e), (fun e => by cases e), fun e => by cases e⟩
  · exact ⟨(fun e => by cases e), (fun e => by cases e), fun _ τ a W out out1 pend h1 h2 h3 h4 h5 h6 h7 => tes_8 hR z h1 h2 h3 h4 h5 h6 h7, (fun e => by cases e), fun e => by cases e⟩
  · exact ⟨fun _ τ a W out h1 h2 h3 => tes_9 hk2 hR1 hR z h1 h2 h3, (fun e => by cases e), (fun e => by cases e), (fun e => by cases e), fun e => by cases e⟩
theorem T_dropT {Q : List Nat} (h : TQs τ n B a o 0 Q.reverse cs) : OK (itr (fun s_ : TS => Bt_qTest_110 s_) 4096 τ) (fun q => TQs q n B a o 0 [] (cs ++ Q) ∧ TY inQ aQ τ q) := by
  obtain ⟨q, e, q1, q2⟩ := dropsQ (W0 := []) (good := fun x => True) (D := fun s_ => Bt_qTest_110 s_) (fun τ' W x cs' h' hx => by
    obtain ⟨q, e, q1, q2⟩ := T_qDrops h' (by omega)
    obtain ⟨t1, t2, t3, t4⟩ := h'.top
    show OK (Bt_qTest_110 τ') _
    unfold Bt_qTest_110
    rw [if_pos h'.1.2.1, t1, if_neg (by show ¬ _ ≤ nI 0; rw [nI_leI (by omega) (by omega)]; omega), e, Option.bind_some]
    exact OK_some ⟨q, rfl, q1, q2⟩) Q τ cs (fun _ _ => trivial) h
  have hlen : Q.length ≤ 1680 := by
    have := h.2.2.2.2.2.1
    simp at this
    omega
  refine ⟨q, ?_, q1, q2⟩
  rw [show 4096 = (4095 - Q.length) + 1 + Q.length by omega, e ((4095 - Q.length) + 1)]
  refine itr_inr ?_
  show Bt_qTest_110 q = _
  unfold Bt_qTest_110
  rw [if_pos q1.1.2.1, q1.2.2.2.1.1, if_pos (by decide)]
/-- the whole test -/
theorem T_qTest (hk2 : kx ≤ 2) (z : Parse B n kx 5 o p [] r) (h : TA d τ n B kx a o 0 [] out) (hsk : sk B n a = sk B n p) :
    (∀ k q, r = .inl (k, q) → 0 < k ∧ k < 100 ∧ ∃ r', f_t_qTest τ = some r' ∧ TY inQ aQ τ r' ∧ (TFw r' k q ∨ (k = 1 ∧ ltB (cur B n q) = true ∧ ∃ out', TQs r' n B q o 0 [] out' ∧ out'.length + d ≤ q))) ∧
    (∀ cs p', r = .inr (cs, p') → ∃ a' r', f_t_qTest τ = some r' ∧ sk B n a' = sk B n p' ∧ a < a' ∧ TA d r' n B kx a' o 0 [] (out ++ cs) ∧ TY inQ aQ τ r') := by
  obtain ⟨ha, hn⟩ := h.le
  have ih := (tes_all (d := d) hk2 z).2.2.2.1 rfl τ a [] out h hsk (fun u hu => by cases hu) (Or.inl rfl)
  have go : ∀ r', LtA n τ a r' → f_t_qTest τ = itr (fun s_ : TS => Bt_qTest_110 s_) 4096 r' := fun r' hr => by
    have e := hr 4096 (by omega)
    unfold ltN at e
    unfold f_t_qTest
    rw [e, Option.bind_some, bind_id']
  constructor
  · intro k q e
    rcases ih.1 k q e with ⟨b1, b2, r', b3, b4, b5⟩ | ⟨b1, b2, b3, r', W2, out2, b4, b5, b6, b7⟩
    · refine ⟨b1, b2, r', ?_, b4, Or.inl b3⟩
      rw [go r' b5]
      refine itr_inr ?_
      show Bt_qTest_110 r' = _
      unfold Bt_qTest_110
      rw [if_neg (b3.bad b1 b2)]
    · obtain ⟨q', e1, q1, q2⟩ := T_dropT (Q := W2.reverse) (by rw [List.reverse_reverse]; exact b6)
      exact ⟨by omega, by omega, q', by rw [go r' b4, e1], b5.trans q2, Or.inr ⟨b1, b3, _, q1, by rw [List.length_append, List.length_reverse]; omega⟩⟩
  · intro cs p' e
    obtain ⟨n1, n2, a', τ', out1, pend, i1, i2, i3, i4, i5, i6, i7⟩ := ih.2 cs p' e
    rw [← i1] at n1 n2
    have h25 : ¬ 25 ∈ ([] : List Nat) ++ pend.reverse := by
      simp only [List.nil_append, List.mem_reverse]
      intro z
      have := i4 25 z
      omega
    have z1 := T_TB_end i5.1 i5.2.1 n1 n2 h25
    have hsp := i5.1.skip
    obtain ⟨q, e1, q1, q2⟩ := T_dropT (Q := pend) (by rw [List.nil_append] at hsp; exact hsp)
    rw [i3] at q1
    have tq : TY inQ aQ τ q := (i6.trans ((TY.refl inQ aQ τ').sI (Or.inl rfl))).trans q2
    have g' := sk_g (B := B) i5.le.1
    have cnt := i5.2.2.2
    rw [List.length_append, List.length_reverse] at cnt
    have e3 := congrArg List.length i3
    rw [List.length_append] at e3
    have el : ([] : List Nat).length = 0 := rfl
    rw [el] at cnt
    exact ⟨sk B n a', q, by rw [go _ (i7 _ z1), e1], by rw [sk_i i5.le.1, i1], by omega, h.next q1 tq (by rw [el]; omega), tq⟩
end ZZZ
