/-! PLAIN LAW: the twin reads a sum as the relation says -/
set_option maxRecDepth 100000
/-- the twin reads: with its words, the kind of text, and no more codes than bytes -/
def TA (d : Nat) (τ : TS) (n : Nat) (B : Nat → Nat) (kx a o bs : Nat) (W out : List Nat) : Prop := TQs τ n B a o bs W out ∧ TW τ ∧ tI τ 61 = nI kx ∧ out.length + W.length + d ≤ a
def badB (τ : TS) (k q : Nat) (K : TS → Prop) : Prop := 0 < k ∧ k < 100 ∧ ∃ r, TF r k q ∧ TY inQ aQ τ r ∧ K r
/-- it stands behind parts, some signs wait -/
def endB (d : Nat) (x : Int32) (n : Nat) (B : Nat → Nat) (kx : Nat) (good : Nat → Prop) (o bs : Nat) (W tot : List Nat) (τ : TS) (p' lo : Nat) (K : TS → Prop) : Prop := ∃ a' τ' out1 pend, sk B n a' = sk B n p' ∧ lo ≤ a' ∧ out1 ++ pend = tot ∧ (∀ y ∈ pend, good y) ∧ TA d τ' n B kx a' o bs (W ++ pend.reverse) out1 ∧ TY inQ aQ τ τ' ∧ ∀ r, LpB x n τ' a' r → K r
def lowT (bs : Nat) (W : List Nat) : Prop := W.length = bs ∨ ∃ W' b, W = W' ++ [b] ∧ b < 60
section ZZU
variable {τ τ' τ1 q r : TS} {d n a p o bs kx : Nat} {B : Nat → Nat} {W W0 cs out : List Nat} {L : List Nat} {x : Int32}
theorem TA.le (h : TA d τ n B kx a o bs W out) : a ≤ n ∧ n ≤ 1600 := ⟨h.1.1.1.2.2.2.2, h.1.1.1.2.1⟩
theorem TA.next {a' o' bs' : Nat} {W' out' : List Nat} (h : TA d τ n B kx a o bs W out) (h' : TQs τ' n B a' o' bs' W' out') (t : TY inQ aQ τ τ') (hc : out'.length + W'.length + d ≤ a') : TA d τ' n B kx a' o' bs' W' out' := ⟨h', h.2.1.tx t, by rw [t.2]; exact h.2.2.1, hc⟩
theorem badB.via {k q : Nat} {K1 K : TS → Prop} (t : TY inQ aQ τ τ1) (hk : ∀ r, K1 r → K r) (h : badB τ1 k q K1) : badB τ k q K := by
  obtain ⟨h1, h2, r, h3, h4, h5⟩ := h
  exact ⟨h1, h2, r, h3, t.trans h4, hk r h5⟩
theorem endB.via {good : Nat → Prop} {tot : List Nat} {p' lo lo1 : Nat} {K1 K : TS → Prop} (t : TY inQ aQ τ τ1) (hk : ∀ r, K1 r → K r) (hl : lo ≤ lo1) (h : endB d x n B kx good o bs W tot τ1 p' lo1 K1) : endB d x n B kx good o bs W tot τ p' lo K := by
  obtain ⟨a', τ', out1, pend, h1, h2, h3, h4, h5, h6, h7⟩ := h
  exact ⟨a', τ', out1, pend, h1, by omega, h3, h4, h5, t.trans h6, fun r z => hk r (h7 r z)⟩
theorem ask_mm : ∀ k, k < 18 → ∀ t, t < 2 → (askL.getD k [] == txtL.getD (15 + t) []) = false := by decide
theorem ask_look : ∀ k, k < 18 → alw 2 k = true → ∀ j, j < 2 → (lookL.getD j [] == askL.getD k []) = false := by decide
theorem ne_beq {u v : List Nat} (h : (u == v) = false) : u ≠ v := by
  intro e
  rw [e] at h
  simp at h
theorem dg_lt {p : Nat} (h : dgB (cur B n p) = true) : cur B n p ≠ 40 ∧ okW B n p = false := by
  have := dgB_b h
  refine ⟨by omega, ?_⟩
  unfold okW
  have e : ltB (cur B n p) = false := by
    unfold ltB
    simp
    omega
  rw [e]; rfl
theorem lt_dg {p : Nat} (h : okW B n p = true) : dgB (cur B n p) = false := by
  cases e : dgB (cur B n p) with
  | false => rfl
  | true => rw [(dg_lt e).2] at h; cases h
theorem numA_no {p : Nat} (h : dgB (cur B n p) = false) : numA B n p = .inl (1, p) := by
  unfold numA numR
  rw [if_pos (Or.inl h)]
end ZZU
/-- what the twin does where the relation holds -/
def simP (d : Nat) (x : Int32) (n : Nat) (B : Nat → Nat) (kx : Nat) : PRel := fun m o p acc r =>
  (m = 4 → ∀ τ a bs W out, TA d τ n B kx a o bs W out → sk B n a = sk B n p → bs ≤ W.length →
    (∀ k q, r = .inl (k, q) → badB τ k q (LpA x n τ a)) ∧
    (∀ cs p', r = .inr (cs, p') → ∃ a' τ', sk B n a' = sk B n p' ∧ a < a' ∧ TA d τ' n B kx a' o bs W (out ++ cs) ∧ TY inQ aQ τ τ' ∧ ∀ r, LpE x n τ' a' W.length r → LpA x n τ a r)) ∧
  (m = 2 → ∀ τ a bs W out, TA d τ n B kx a o bs W out → sk B n a = sk B n p → bs ≤ W.length → lowT bs W → topIs W 3 = false → topIs W 4 = false →
    (∀ k q, r = .inl (k, q) → badB τ k q (LpA x n τ a)) ∧
    (∀ cs p', r = .inr (cs, p') → cur B n (sk B n p') ≠ 42 ∧ cur B n (sk B n p') ≠ 47 ∧ endB d x n B kx (fun y => y = 3 ∨ y = 4) o bs W (out ++ cs) τ p' (a + 1) (LpA x n τ a))) ∧
  (m = 3 → ∀ τ a bs W out out1 pend, TA d τ n B kx a o bs (W ++ pend.reverse) out1 → out1 ++ pend = out ++ acc → (∀ y ∈ pend, y = 3 ∨ y = 4) → sk B n a = sk B n p → bs ≤ W.length → topIs W 3 = false → topIs W 4 = false →
    (∀ k q, r = .inl (k, q) → badB τ k q (LpB x n τ a)) ∧
    (∀ cs p', r = .inr (cs, p') → cur B n (sk B n p') ≠ 42 ∧ cur B n (sk B n p') ≠ 47 ∧ endB d x n B kx (fun y => y = 3 ∨ y = 4) o bs W (out ++ cs) τ p' a (LpB x n τ a))) ∧
  (m = 0 → ∀ τ a bs W out, TA d τ n B kx a o bs W out → sk B n a = sk B n p → bs ≤ W.length → stopB bs W → (∀ y, 1 ≤ y → y ≤ 4 → topIs W y = false) →
    (∀ k q, r = .inl (k, q) → badB τ k q (LpA x n τ a)) ∧
    (∀ cs p', r = .inr (cs, p') → noSg B n (sk B n p') ∧ endB d x n B kx (fun y => 1 ≤ y ∧ y ≤ 4) o bs W (out ++ cs) τ p' (a + 1) (LpA x n τ a))) ∧
  (m = 1 → ∀ τ a bs W out out1 pend, TA d τ n B kx a o bs (W ++ pend.reverse) out1 → out1 ++ pend = out ++ acc → (∀ y ∈ pend, 1 ≤ y ∧ y ≤ 4) → sk B n a = sk B n p → bs ≤ W.length → (∀ y, 1 ≤ y → y ≤ 4 → topIs W y = false) → cur B n (sk B n p) ≠ 42 → cur B n (sk B n p) ≠ 47 →
    (∀ k q, r = .inl (k, q) → badB τ k q (LpB x n τ a)) ∧
    (∀ cs p', r = .inr (cs, p') → noSg B n (sk B n p') ∧ endB d x n B kx (fun y => 1 ≤ y ∧ y ≤ 4) o bs W (out ++ cs) τ p' a (LpB x n τ a)))
section ZZU2
variable {τ τ' τ1 q : TS} {d n a p o bs kx : Nat} {B : Nat → Nat} {W W0 cs out acc : List Nat} {L : List Nat} {x : Int32} {R : PRel} {r : Res}
theorem sim_at (hR : ∀ m o p acc r, R m o p acc r → simP d x n B kx m o p acc r) (hk2 : kx ≤ 2) (z : atS B n kx R o (sk B n p) r) (h : TA d τ n B kx a o bs W out) (hsk : sk B n a = sk B n p) (hb : bs ≤ W.length) :
    (∀ k q, r = .inl (k, q) → badB τ k q (LpA x n τ a)) ∧
    (∀ cs p', r = .inr (cs, p') → ∃ a' τ', sk B n a' = sk B n p' ∧ a < a' ∧ TA d τ' n B kx a' o bs W (out ++ cs) ∧ TY inQ aQ τ τ' ∧ ∀ r, LpE x n τ' a' W.length r → LpA x n τ a r) := by
  rw [← hsk] at z
  obtain ⟨ha, hn⟩ := h.le
  have hcnt := h.2.2.2
  have g := sk_g (B := B) ha
  have hl1 : out.length + (W.length + 1) ≤ 1680 := by omega
  have hl2 : out.length + 1 + W.length ≤ 1680 := by omega
  have hlen : ∀ y : Nat, (W ++ [y]).length = W.length + 1 := fun y => by simp
  have st : ∀ y : Nat, 20 ≤ y → y ≤ 24 → stopB bs (W ++ [y]) := fun y h1 h2 => brS hb h1 h2
  have tp : ∀ y : Nat, 20 ≤ y → ∀ u, 1 ≤ u → u ≤ 4 → topIs (W ++ [y]) u = false := fun y h1 u _ h4 => by rw [topIs_app]; exact decide_eq_false (by omega)
  have p20 : ∀ {pend : List Nat}, (∀ y ∈ pend, 1 ≤ y ∧ y ≤ 4) → ∀ y ∈ pend, y < 20 := fun hp y hy => by have := hp y hy; omega
  have numcase : (okW B n (sk B n a) = true → ∀ k, k < 18 → askL.getD k [] = wd B n (sk B n a) → alw kx k = false) → noOp B n kx (sk B n a) → r = numA B n (sk B n a) → (∀ k q, r = .inl (k, q) → badB τ k q (LpA x n τ a)) ∧
    (∀ cs p', r = .inr (cs, p') → ∃ a' τ', sk B n a' = sk B n p' ∧ a < a' ∧ TA d τ' n B kx a' o bs W (out ++ cs) ∧ TY inQ aQ τ τ' ∧ ∀ r, LpE x n τ' a' W.length r → LpA x n τ a r) := by
    intro hp2 hno hr
    obtain ⟨n1, n2⟩ := T_A_num (x := x) h.1 h.2.1 h.2.2.1 hk2 hp2 hno hl2
    refine ⟨fun k q e => ?_, fun cs p' e => ?_⟩
    · obtain ⟨r', t1, t2, t3, t4, t5⟩ := n1 k q (hr ▸ e)
      exact ⟨t2, t3, r', t1, t4, t5⟩
    · have e9 : numA B n (sk B n a) = .inr (cs, p') := hr ▸ e
      obtain ⟨t1, τ1, t2, t3, t4⟩ := n2 cs p' e9
      have hgt : a < p' := by
        unfold numA at e9
        cases hh : numR B n (sk B n a) 0 9999 with
        | inl f => rw [hh] at e9; cases e9
        | inr f =>
          rw [hh] at e9
          obtain ⟨v, ee⟩ := f
          have e9 : ([1000 + v], ee) = (cs, p') := by injection e9
          have e8 : ee = p' := by injection e9
          subst e8
          unfold numR at hh
          by_cases c1 : dgB (cur B n (sk B n a)) = false ∨ alB B (sk B n a) = true
          · rw [if_pos c1] at hh; cases hh
          · rw [if_neg c1] at hh
            by_cases c2 : 4 < de B n (sk B n a) - sk B n a
            · rw [if_pos c2] at hh; cases hh
            · rw [if_neg c2] at hh
              by_cases c3 : 0 ≤ dv B (sk B n a) (de B n (sk B n a) - sk B n a) ∧ dv B (sk B n a) (de B n (sk B n a) - sk B n a) ≤ 9999
              · rw [if_pos c3] at hh
                have hh : (dv B (sk B n a) (de B n (sk B n a) - sk B n a), de B n (sk B n a)) = (v, ee) := by injection hh
                have e7 : de B n (sk B n a) = ee := by injection hh
                have c4 : dgB (cur B n (sk B n a)) = true := by
                  cases hd : dgB (cur B n (sk B n a)) with
                  | false => exact absurd (Or.inl hd) c1
                  | true => rfl
                unfold cur at c4
                by_cases c5 : sk B n a < n
                · rw [if_pos c5] at c4
                  have := de_b (B := B) (n := n) c5 c4
                  have := (de_g (B := B) (n := n) (a := sk B n a + 1) (by omega)).1
                  omega
                · rw [if_neg c5] at c4; exact absurd c4 (by decide)
              · rw [if_neg c3] at hh; cases hh
      exact ⟨p', τ1, rfl, hgt, h.next t2 t3 (by rw [List.length_append, t1]; omega), t3, fun r hr => t4 r hr (by omega)⟩
  rcases z with ⟨hc, z⟩ | ⟨hd, hr⟩ | ⟨c1, c2, c3, hr⟩ | ⟨ho, z⟩
  · -- a bracket
    have c := cur_lt hc (by omega)
    obtain ⟨τ1, e1, t1, f6, fn⟩ := T_A_round h.1 h.2.1 h.2.2.1 hk2 hc hl1
    rcases z with ⟨e6, rfl⟩ | ⟨e6, z⟩
    · refine ⟨fun k q e => ?_, fun cs p' e => by cases e⟩
      have e : (4, sk B n a) = (k, q) := by injection e
      cases e
      have hf := f6 e6
      exact ⟨by omega, by omega, τ1, hf, t1, LpA.bad e1 (hf.bad (by omega) (by omega))⟩
    · have hT := fn (by omega)
      have hA : TA d τ1 n B kx (sk B n a + 1) (o + 1) bs (W ++ [20]) out := h.next hT t1 (by rw [hlen]; omega)
      have step : ∀ r, LpA x n τ1 (sk B n a + 1) r → LpA x n τ a r := fun r hr => LpA.step e1 (by omega) (by omega) hr
      rcases z with ⟨f, zz, rfl⟩ | ⟨cs1, p1, zz, z⟩
      · have ih := (hR _ _ _ _ _ zz).2.2.2.1 rfl τ1 (sk B n a + 1) bs (W ++ [20]) out hA rfl (by rw [hlen]; omega) (st 20 (by omega) (by omega)) (tp 20 (by omega))
        exact ⟨fun k q e => by
          have e : f = (k, q) := by injection e
          subst e
          exact (ih.1 k q rfl).via t1 step, fun cs p' e => by cases e⟩
      · have ih := (hR _ _ _ _ _ zz).2.2.2.1 rfl τ1 (sk B n a + 1) bs (W ++ [20]) out hA rfl (by rw [hlen]; omega) (st 20 (by omega) (by omega)) (tp 20 (by omega))
        obtain ⟨ns, a', τ', out1, pend, i1, i2, i3, i4, i5, i6, i7⟩ := ih.2 cs1 p1 rfl
        have g' := sk_g (B := B) i5.le.1
        rcases z with ⟨z1, rfl⟩ | ⟨z1, rfl⟩
        · rw [← i1] at z1
          obtain ⟨τ2, j1, j2, j3⟩ := T_B_close (x := x) (b := 20) i5.1 hb (p20 i4) (Or.inl rfl) z1
          refine ⟨fun k q e => (by cases e), fun cs p' e => ?_⟩
          have e : (cs1, sk B n p1 + 1) = (cs, p') := by injection e
          cases e
          rw [i3, show brC 20 = [] from rfl, List.append_nil] at j1
          have cnt := i5.2.2.2
          rw [List.length_append, List.length_reverse, hlen] at cnt
          have e3 := congrArg List.length i3
          rw [List.length_append] at e3
          exact ⟨sk B n a' + 1, τ2, by rw [i1], by omega, h.next j1 ((t1.trans i6).trans j2) (by omega), (t1.trans i6).trans j2, fun r hr => step r (i7 r (j3 r hr))⟩
        · rw [← i1] at z1 ns
          obtain ⟨r', j1, j2, j3⟩ := T_B_bad (x := x) (b := 20) i5.1 (p20 i4) ns hb (Or.inl rfl) z1
          refine ⟨fun k q e => ?_, fun cs p' e => by cases e⟩
          have e : (1, sk B n p1) = (k, q) := by injection e
          cases e
          rw [i1] at j1
          exact ⟨by omega, by omega, r', j1, (t1.trans i6).trans j2, step r' (i7 r' j3)⟩
  · -- a number
    obtain ⟨d1, d2⟩ := dg_lt hd
    exact numcase (fun e => by rw [d2] at e; cases e) ⟨d1, fun e => by rw [d2] at e; cases e⟩ hr
  · exact numcase (fun e => by rw [c3] at e; cases e) ⟨c1, fun e => by rw [c3] at e; cases e⟩ (by rw [hr, numA_no c2])
  · -- a word
    obtain ⟨w1, w2, w3⟩ := okW_gt ho
    rcases z with ⟨k, k1, k2, k3, hr⟩ | ⟨e2, j, j1, j2, z⟩ | ⟨t, ht, hw, z⟩ | ⟨z1, z2, z3, hr⟩
    · -- a part
      have hno : noOp B n kx (sk B n a) := ⟨(okW_40 ho).1, fun _ => ⟨fun t ht => by rw [← k2]; exact ne_beq (ask_mm k k1 t ht), fun e j hj => by
        subst e
        rw [← k2]; exact ne_beq (ask_look k k1 k3 j hj)⟩⟩
      obtain ⟨τ1, t1, t2, t3⟩ := T_A_part (x := x) h.1 h.2.1 h.2.2.1 hk2 ho k1 k2 k3 hno hl2
      subst hr
      refine ⟨fun k q e => (by cases e), fun cs p' e => ?_⟩
      have e : ([40 + k], we B n (sk B n a)) = (cs, p') := by injection e
      cases e
      exact ⟨we B n (sk B n a), τ1, rfl, by omega, h.next t1 t2 (by rw [List.length_append]; simp; omega), t2, t3⟩
    · -- of a number
      subst e2
      obtain ⟨τ1, e1, t1, f6, fn⟩ := T_A_of h.1 h.2.1 h.2.2.1 ho j1 j2 hl1
      rcases z with ⟨e6, rfl⟩ | ⟨e6, z⟩
      · refine ⟨fun k q e => ?_, fun cs p' e => by cases e⟩
        have e : (4, sk B n a) = (k, q) := by injection e
        cases e
        have hf := f6 e6
        exact ⟨by omega, by omega, τ1, hf, t1, LpA.bad e1 (hf.bad (by omega) (by omega))⟩
      · have hT := fn (by omega)
        have hA : TA d τ1 n B 2 (we B n (sk B n a)) (o + 1) bs (W ++ [60 + j]) out := h.next hT t1 (by rw [hlen]; omega)
        have step : ∀ r, LpA x n τ1 (we B n (sk B n a)) r → LpA x n τ a r := fun r hr => LpA.step e1 (by omega) (by omega) hr
        rcases z with ⟨f, zz, rfl⟩ | ⟨cs1, p1, zz, z⟩
        · have ih := (hR _ _ _ _ _ zz).1 rfl τ1 (we B n (sk B n a)) bs (W ++ [60 + j]) out hA rfl (by rw [hlen]; omega)
          exact ⟨fun k q e => by
            have e : f = (k, q) := by injection e
            subst e
            exact (ih.1 k q rfl).via t1 step, fun cs p' e => by cases e⟩
        · have ih := (hR _ _ _ _ _ zz).1 rfl τ1 (we B n (sk B n a)) bs (W ++ [60 + j]) out hA rfl (by rw [hlen]; omega)
          obtain ⟨a', τ', i1, i2, i3, i4, i5⟩ := ih.2 cs1 p1 rfl
          obtain ⟨τ2, j3, j4, j5⟩ := T_E_of (x := x) i3.1 hb (by omega)
          subst z
          refine ⟨fun k q e => (by cases e), fun cs p' e => ?_⟩
          have e : (cs1 ++ [60 + j], p1) = (cs, p') := by injection e
          cases e
          rw [List.append_assoc] at j3
          have cnt := i3.2.2.2
          rw [List.length_append, hlen] at cnt
          exact ⟨a', τ2, i1, by omega, h.next j3 ((t1.trans i4).trans j4) (by rw [List.length_append, List.length_append]; simp; omega), (t1.trans i4).trans j4, fun r hr => step r (i5 r (j5 r hr))⟩
    · -- min, max
      obtain ⟨τ1, e1, t1, m1, m2, m3⟩ := T_A_mm h.1 h.2.1 h.2.2.1 hk2 ho ht hw hl1
      have gw := sk_g (B := B) w2
      rcases z with ⟨hc, rfl⟩ | ⟨hc, z⟩
      · refine ⟨fun k q e => ?_, fun cs p' e => by cases e⟩
        have e : (1, sk B n (we B n (sk B n a))) = (k, q) := by injection e
        cases e
        have hf := m1 hc
        exact ⟨by omega, by omega, τ1, hf, t1, LpA.bad e1 (hf.bad (by omega) (by omega))⟩
      · have c := cur_lt hc (by omega)
        rcases z with ⟨e6, rfl⟩ | ⟨e6, z⟩
        · refine ⟨fun k q e => ?_, fun cs p' e => by cases e⟩
          have e : (4, sk B n (we B n (sk B n a))) = (k, q) := by injection e
          cases e
          have hf := m2 hc e6
          exact ⟨by omega, by omega, τ1, hf, t1, LpA.bad e1 (hf.bad (by omega) (by omega))⟩
        · have hT := m3 hc (by omega)
          generalize sk B n (we B n (sk B n a)) = s2 at *
          have hA : TA d τ1 n B kx (s2 + 1) (o + 1) bs (W ++ [21 + t]) out := h.next hT t1 (by rw [hlen]; omega)
          have step : ∀ r, LpA x n τ1 (s2 + 1) r → LpA x n τ a r := fun r hr => LpA.step e1 (by omega) (by omega) hr
          rcases z with ⟨f, zz, rfl⟩ | ⟨cs1, p1, zz, z⟩
          · have ih := (hR _ _ _ _ _ zz).2.2.2.1 rfl τ1 (s2 + 1) bs (W ++ [21 + t]) out hA rfl (by rw [hlen]; omega) (st _ (by omega) (by omega)) (tp _ (by omega))
            exact ⟨fun k q e => by
              have e : f = (k, q) := by injection e
              subst e
              exact (ih.1 k q rfl).via t1 step, fun cs p' e => by cases e⟩
          · have ih := (hR _ _ _ _ _ zz).2.2.2.1 rfl τ1 (s2 + 1) bs (W ++ [21 + t]) out hA rfl (by rw [hlen]; omega) (st _ (by omega) (by omega)) (tp _ (by omega))
            obtain ⟨ns, a', τ', out1, pend, i1, i2, i3, i4, i5, i6, i7⟩ := ih.2 cs1 p1 rfl
            have g' := sk_g (B := B) i5.le.1
            rw [← i1] at ns
            obtain ⟨b1, b2⟩ := T_B_next (x := x) i5.1 ht (p20 i4) ns hb
            have cnt := i5.2.2.2
            rw [List.length_append, List.length_reverse, hlen] at cnt
            have e3 := congrArg List.length i3
            rw [List.length_append] at e3
            rcases z with ⟨z1, z⟩ | ⟨z1, rfl⟩
            · rw [← i1] at z1 z
              have c2 := cur_lt z1 (by omega)
              obtain ⟨τ2, j1, j2, j3⟩ := b2 z1
              rw [i3] at j1
              have hA2 : TA d τ2 n B kx (sk B n a' + 1) (o + 1) bs (W ++ [23 + t]) (out ++ cs1) := i5.next j1 j2 (by rw [hlen]; omega)
              have t2 := (t1.trans i6).trans j2
              have step2 : ∀ r, LpA x n τ2 (sk B n a' + 1) r → LpA x n τ a r := fun r hr => step r (i7 r (j3 r hr))
              rcases z with ⟨f, zz, rfl⟩ | ⟨cs2, p3, zz, z⟩
              · have ih2 := (hR _ _ _ _ _ zz).2.2.2.1 rfl τ2 (sk B n a' + 1) bs (W ++ [23 + t]) (out ++ cs1) hA2 rfl (by rw [hlen]; omega) (st _ (by omega) (by omega)) (tp _ (by omega))
                exact ⟨fun k q e => by
                  have e : f = (k, q) := by injection e
                  subst e
                  exact (ih2.1 k q rfl).via t2 step2, fun cs p' e => by cases e⟩
              · have ih2 := (hR _ _ _ _ _ zz).2.2.2.1 rfl τ2 (sk B n a' + 1) bs (W ++ [23 + t]) (out ++ cs1) hA2 rfl (by rw [hlen]; omega) (st _ (by omega) (by omega)) (tp _ (by omega))
                obtain ⟨ns2, a2, τ3, out2, pend2, k1, k2, k3, k4, k5, k6, k7⟩ := ih2.2 cs2 p3 rfl
                have g2 := sk_g (B := B) k5.le.1
                rw [← k1] at ns2
                have hbb : 23 + t = 20 ∨ 23 + t = 23 ∨ 23 + t = 24 := by omega
                rcases z with ⟨z2, rfl⟩ | ⟨z2, rfl⟩
                · rw [← k1] at z2
                  obtain ⟨τ4, l1, l2, l3⟩ := T_B_close (x := x) k5.1 hb (p20 k4) hbb z2
                  refine ⟨fun k q e => (by cases e), fun cs p' e => ?_⟩
                  have e : (cs1 ++ cs2 ++ [5 + t], sk B n p3 + 1) = (cs, p') := by injection e
                  cases e
                  have eb : brC (23 + t) = [5 + t] := by
                    rcases (show t = 0 ∨ t = 1 by omega) with rfl | rfl <;> rfl
                  rw [k3, eb] at l1
                  have cnt2 := k5.2.2.2
                  rw [List.length_append, List.length_reverse, hlen] at cnt2
                  have e4 := congrArg List.length k3
                  rw [List.length_append, List.length_append] at e4
                  have ea : out ++ cs1 ++ cs2 ++ [5 + t] = out ++ (cs1 ++ cs2 ++ [5 + t]) := by simp [List.append_assoc]
                  rw [ea] at l1
                  refine ⟨sk B n a2 + 1, τ4, by rw [k1], by omega, h.next l1 ((t2.trans k6).trans l2) ?_, (t2.trans k6).trans l2, fun r hr => step2 r (k7 r (l3 r hr))⟩
                  rw [← ea, List.length_append, List.length_append]
                  simp only [List.length_append, List.length_singleton] at e4 ⊢
                  omega
                · rw [← k1] at z2
                  obtain ⟨r', l1, l2, l3⟩ := T_B_bad (x := x) k5.1 (p20 k4) ns2 hb hbb z2
                  refine ⟨fun k q e => ?_, fun cs p' e => by cases e⟩
                  have e : (1, sk B n p3) = (k, q) := by injection e
                  cases e
                  rw [k1] at l1
                  exact ⟨by omega, by omega, r', l1, (t2.trans k6).trans l2, step2 r' (k7 r' l3)⟩
            · rw [← i1] at z1
              obtain ⟨r', j1, j2, j3⟩ := b1 z1
              refine ⟨fun k q e => ?_, fun cs p' e => by cases e⟩
              have e : (1, sk B n p1) = (k, q) := by injection e
              cases e
              rw [i1] at j1
              exact ⟨by omega, by omega, r', j1, (t1.trans i6).trans j2, step r' (i7 r' j3)⟩
    · -- none of these
      exact numcase (fun _ => z1) ⟨(okW_40 ho).1, fun _ => ⟨z3, z2⟩⟩ (by rw [hr, numA_no (lt_dg ho)])
end ZZU2
