/-! PLAIN LAW: the twin reads a fact -/
set_option maxRecDepth 100000
def TFw (τ : TS) (k p : Nat) : Prop := tI τ 5 = nI k ∧ tI τ 6 = nI p
def badT (τ : TS) (k q : Nat) (K : TS → Prop) : Prop := 0 < k ∧ k < 100 ∧ ∃ r, TFw r k q ∧ TY inQ aQ τ r ∧ K r
section ZZY
variable {τ τ' τ1 q : TS} {d n a p o bs kx : Nat} {B : Nat → Nat} {W W0 cs out acc out1 pend : List Nat} {L : List Nat} {R : PRel} {r : Res}
theorem TF.w {k : Nat} (h : TF τ k p) : TFw τ k p := ⟨h.1, h.2.1⟩
theorem TFw.bad {k : Nat} (h : TFw τ k p) (hk : 0 < k) (hk2 : k < 100) : tI τ 5 ≠ 0 := by
  rw [h.1]
  show ¬ nI k = nI 0
  rw [nI_eq (by omega) (by omega)]; omega
theorem T_qCodeBad {k : Nat} {v : Int32} (h : TF τ k p) : ∃ q, f_t_qCode v τ = some q ∧ TFw q k p ∧ TY inQ aQ τ q := by
  obtain ⟨h1, h2, c, hc, h3⟩ := h
  refine ⟨sI (sA τ 120 c v) 121 (nI (c + 1)), ?_, ⟨by rw [tI_sI, if_neg (by omega)]; exact h1, by rw [tI_sI, if_neg (by omega)]; exact h2⟩, ((TY.refl inQ aQ τ).sA rfl).sI (Or.inl rfl)⟩
  unfold f_t_qCode
  rw [h3, if_pos (xin_nI (show c < 1700 by omega) (by omega)), nI_clamp (show c < 2 ^ 31 by omega), tI_sA, h3, nl_1, nI_add]
theorem topIs_wa {y : Nat} (h : ∀ u ∈ W, 10 ≤ u) (hy : y ≤ 4) : topIs W y = false := by
  unfold topIs
  by_cases e : 0 < W.length
  · have hm : W.getD (W.length - 1) 0 ∈ W := by
      rw [List.getD_eq_getElem?_getD, List.getElem?_eq_getElem (show W.length - 1 < W.length by omega)]
      exact List.getElem_mem _
    have := h _ hm
    rw [decide_eq_false (show ¬ W.getD (W.length - 1) 0 = y by omega), Bool.and_false]
  · rw [decide_eq_false e, Bool.false_and]
theorem Parse_al (hp : sk B n p = p) (h1 : ltB (cur B n p) = true) (h2 : alB B p = true) : Parse B n kx 0 o p [] (.inl (1, p)) := by
  have hl := ltB_b h1
  have p4 : Parse B n kx 4 o p [] (.inl (1, p)) := Parse.step (Or.inr (Or.inr (Or.inr (Or.inr (Or.inl ⟨rfl, by
    rw [hp]
    refine Or.inr (Or.inr (Or.inl ⟨by omega, ?_, ?_, rfl⟩))
    · unfold dgB; simp; omega
    · unfold okW; rw [h2]; simp⟩)))))
  have p2 : Parse B n kx 2 o p [] (.inl (1, p)) := Parse.step (Or.inr (Or.inr (Or.inl ⟨rfl, Or.inl ⟨_, p4, rfl⟩⟩)))
  exact Parse.step (Or.inl ⟨rfl, Or.inl ⟨_, p2, rfl⟩⟩)
/-- all -/
theorem T_factAll (h : TA d τ n B kx a o 0 W out) (hp : sk B n a = a) (hh : hW B n a (txtL.getD 18 []) = true) : ∃ r', f_t_qFact τ = some r' ∧ TA d r' n B kx (we B n a) o 0 W (out ++ [13]) ∧ TY inQ aQ τ r' := by
  obtain ⟨ha, hn⟩ := h.le
  have ho := (hW_okW hh).1
  obtain ⟨w1, w2, -⟩ := okW_gt ho
  have cnt := h.2.2.2
  have hwo := h.1.word (okW_l ho).1 (okW_l ho).2
  have tx1 : TY inQ aQ τ (sI (sI τ 2 (nI (we B n a))) 4 (nI (we B n a))) := ((TY.refl inQ aQ τ).sI (Or.inl rfl)).sI (Or.inl rfl)
  obtain ⟨q, e, q1, q2⟩ := T_qCode (v := 13) hwo (by omega)
  refine ⟨q, ?_, h.next q1 (tx1.trans q2) (by rw [List.length_append]; simp; omega), tx1.trans q2⟩
  unfold f_t_qFact
  rw [T_takesH h.1 hp h.2.1.2.2.2.2.2.2.1, if_pos hh, xbd_some, if_neg (by decide), show (13 : Int32) = nI 13 from rfl, e, Option.bind_some]
def cmpC (x : Nat) : Nat := if x = 60 then 7 else if x = 62 then 8 else 9
theorem T_cmp63 {x a1 : Nat} (hk2 : kx ≤ 2) (hx : x = 60 ∨ x = 62 ∨ x = 61) (h : TA d τ n B kx a1 o 0 W out) (hp : sk B n a1 = a1) (hw : ∀ u ∈ W, 10 ≤ u) (hc : cur B n a1 = x) {r2 : Res} (z : Parse B n kx 0 o (a1 + 1) [] r2) :
    (∀ k q, r2 = .inl (k, q) → 0 < k ∧ k < 100 ∧ ∃ r', Jt_qFact_63 (nI x) τ = some r' ∧ TFw r' k q ∧ TY inQ aQ τ r') ∧
    (∀ cs p', r2 = .inr (cs, p') → ∃ a' r', Jt_qFact_63 (nI x) τ = some r' ∧ sk B n a' = sk B n p' ∧ a1 < a' ∧ TA d r' n B kx a' o 0 W (out ++ cs ++ [cmpC x]) ∧ TY inQ aQ τ r') := by
  have c := cur_lt hc (by omega)
  have hsg := h.1.sign c.1 (by rw [c.2]; rcases hx with rfl | rfl | rfl <;> rfl) (by rw [c.2]; rcases hx with rfl | rfl | rfl <;> rfl)
  have t0 : TY inQ aQ τ (sI τ 2 (nI (a1 + 1))) := (TY.refl inQ aQ τ).sI (Or.inl rfl)
  have hA : TA (d + 1) (sI τ 2 (nI (a1 + 1))) n B kx (a1 + 1) o 0 W out := ⟨hsg, h.2.1.tx t0, by rw [t0.2]; exact h.2.2.1, by have := h.2.2.2; omega⟩
  obtain ⟨s1, s2⟩ := T_qSums hk2 z hA rfl (fun y _ h4 => topIs_wa hw h4)
  have j : ∀ q, f_t_qSums (sI τ 2 (nI (a1 + 1))) = some q → Jt_qFact_63 (nI x) τ = f_t_qCode (nI (cmpC x)) q := fun q e => by
    unfold Jt_qFact_63
    rw [h.1.1.1.2.2.2.1, show nI a1 + 1 = nI (a1 + 1) by rw [nl_1, nI_add], e, Option.bind_some]
    rcases hx with rfl | rfl | rfl
    · rw [if_pos (show nI 60 = 60 from rfl), bind_id']; rfl
    · rw [if_neg (show ¬ nI 62 = 60 by decide), if_pos (show nI 62 = 62 from rfl), bind_id']; rfl
    · rw [if_neg (show ¬ nI 61 = 60 by decide), if_neg (show ¬ nI 61 = 62 by decide), bind_id']; rfl
  constructor
  · intro k q e
    obtain ⟨k1, k2, r', e1, f1, f2⟩ := s1 k q e
    obtain ⟨q', e2, g1, g2⟩ := T_qCodeBad (v := nI (cmpC x)) f1
    exact ⟨k1, k2, q', by rw [j r' e1, e2], g1, (t0.trans f2).trans g2⟩
  · intro cs p' e
    obtain ⟨a', r', e1, f1, f2, f3, f4⟩ := s2 cs p' e
    have cnt := f3.2.2.2
    obtain ⟨ha, hn⟩ := f3.le
    have cnt0 := h.2.2.2
    obtain ⟨q', e2, g1, g2⟩ := T_qCode (v := cmpC x) f3.1 (by omega)
    exact ⟨a', q', by rw [j r' e1, e2], f1, by omega, h.next g1 ((t0.trans f4).trans g2) (by rw [List.length_append]; simp only [List.length_singleton]; omega), (t0.trans f4).trans g2⟩
end ZZY
section ZZY2
variable {τ τ' τ1 q : TS} {d n a p o bs kx : Nat} {B : Nat → Nat} {W W0 cs out acc out1 pend : List Nat} {L : List Nat} {R : PRel} {r : Res}
/-- a sum, a sign, a sum -/
theorem T_factSum (hk2 : kx ≤ 2) (h : TA d τ n B kx a o 0 W out) (hp : sk B n a = a) (hw : ∀ u ∈ W, 10 ≤ u) (hh : hW B n a (txtL.getD 18 []) = false) (hR : ∀ m o p acc r, R m o p acc r → Parse B n kx m o p acc r)
    (z : gon R 0 o a r (fun cs p1 =>
    (cur B n (sk B n p1) ≠ 60 ∧ cur B n (sk B n p1) ≠ 62 ∧ cur B n (sk B n p1) ≠ 61 ∧ r = .inl (1, sk B n p1)) ∨
    ((cur B n (sk B n p1) = 60 ∨ cur B n (sk B n p1) = 62 ∨ cur B n (sk B n p1) = 61) ∧ gon R 0 o (sk B n p1 + 1) r (fun cs2 p2 => r = .inr (cs ++ cs2 ++ [if cur B n (sk B n p1) = 60 then 7 else if cur B n (sk B n p1) = 62 then 8 else 9], p2))))) :
    (∀ k q, r = .inl (k, q) → 0 < k ∧ k < 100 ∧ ∃ r', f_t_qFact τ = some r' ∧ TFw r' k q ∧ TY inQ aQ τ r') ∧
    (∀ cs p', r = .inr (cs, p') → ∃ a' r', f_t_qFact τ = some r' ∧ sk B n a' = sk B n p' ∧ a < a' ∧ TA d r' n B kx a' o 0 W (out ++ cs) ∧ TY inQ aQ τ r') := by
  have hnl : f_t_takes 97 τ = some (0, τ) := by rw [T_takesH h.1 hp h.2.1.2.2.2.2.2.2.1, if_neg (by rw [hh]; decide)]
  have tw : ∀ y, 1 ≤ y → y ≤ 4 → topIs W y = false := fun y _ h4 => topIs_wa hw h4
  rcases z with ⟨f, zz, rfl⟩ | ⟨cs1, p1, zz, z⟩
  · obtain ⟨s1, -⟩ := T_qSums hk2 (hR _ _ _ _ _ zz) h rfl tw
    refine ⟨fun k q e => ?_, fun cs p' e => by cases e⟩
    have e : f = (k, q) := by injection e
    subst e
    obtain ⟨k1, k2, r', e1, f1, f2⟩ := s1 k q rfl
    refine ⟨k1, k2, r', ?_, f1.w, f2⟩
    unfold f_t_qFact
    rw [hnl, xbd_some, if_pos rfl, e1, Option.bind_some, if_neg (f1.bad k1 k2)]
  · obtain ⟨-, s2⟩ := T_qSums hk2 (hR _ _ _ _ _ zz) h rfl tw
    obtain ⟨a', r1, e1, f1, f2, f3, f4⟩ := s2 cs1 p1 rfl
    obtain ⟨ha, hn⟩ := f3.le
    have g' := sk_g (B := B) ha
    have hsp := f3.1.skip
    have t1 : TY inQ aQ r1 (sI r1 2 (nI (sk B n a'))) := (TY.refl inQ aQ r1).sI (Or.inl rfl)
    have hA : TA d (sI r1 2 (nI (sk B n a'))) n B kx (sk B n a') o 0 W (out ++ cs1) := f3.next hsp t1 (by have := f3.2.2.2; omega)
    rw [← f1] at z
    have hc256 := hsp.1.cur_le (p := sk B n a')
    have hne : ∀ y, y < 256 → cur B n (sk B n a') ≠ y → ¬ chI (cur B n (sk B n a')) = nI y := fun y hy e => by rw [ch_ne hc256 hy]; exact e
    have j0 : f_t_qFact τ = if chI (cur B n (sk B n a')) = 60 then Jt_qFact_63 (chI (cur B n (sk B n a'))) (sI r1 2 (nI (sk B n a'))) else if chI (cur B n (sk B n a')) = 62 then Jt_qFact_63 (chI (cur B n (sk B n a'))) (sI r1 2 (nI (sk B n a'))) else if chI (cur B n (sk B n a')) = 61 then Jt_qFact_63 (chI (cur B n (sk B n a'))) (sI r1 2 (nI (sk B n a'))) else some (sI (sI (sI r1 2 (nI (sk B n a'))) 5 1) 6 (nI (sk B n a'))) := by
      unfold f_t_qFact
      rw [hnl, xbd_some, if_pos rfl, e1, Option.bind_some, if_pos f3.1.1.2.1, f3.1.1.look.1, xbd_some, T_fail hsp.1.2.1, Option.bind_some, hsp.1.1.2.2.2.1]
    rcases z with ⟨c1, c2, c3, rfl⟩ | ⟨hc, z⟩
    · refine ⟨fun k q e => ?_, fun cs p' e => by cases e⟩
      have e : (1, sk B n a') = (k, q) := by injection e
      cases e
      refine ⟨by omega, by omega, _, ?_, (TF.mk (k := 1) (c := (out ++ cs1).length) (p := sk B n a') (τ := sI r1 2 (nI (sk B n a'))) hsp.2.2.2.2.1.1 (by have := hsp.2.2.2.2.2.1; omega)).w, ((f4.trans t1).sI (Or.inl rfl)).sI (Or.inl rfl)⟩
      rw [j0, if_neg (show ¬ _ = (60 : Int32) from hne 60 (by omega) c1), if_neg (show ¬ _ = (62 : Int32) from hne 62 (by omega) c2), if_neg (show ¬ _ = (61 : Int32) from hne 61 (by omega) c3)]; rfl
    · generalize hx : cur B n (sk B n a') = x at *
      have ej : f_t_qFact τ = Jt_qFact_63 (nI x) (sI r1 2 (nI (sk B n a'))) := by
        rw [j0]
        rcases hc with rfl | rfl | rfl
        · rw [if_pos (by decide)]; rfl
        · rw [if_neg (by decide), if_pos (by decide)]; rfl
        · rw [if_neg (by decide), if_neg (by decide), if_pos (by decide)]; rfl
      rcases z with ⟨f, zz, rfl⟩ | ⟨cs2, p2, zz, rfl⟩
      · obtain ⟨u1, -⟩ := T_cmp63 hk2 hc hA (sk_i ha) hw hx (hR _ _ _ _ _ zz)
        refine ⟨fun k q e => ?_, fun cs p' e => by cases e⟩
        have e : f = (k, q) := by injection e
        subst e
        obtain ⟨k1, k2, r', e2, v1, v2⟩ := u1 k q rfl
        exact ⟨k1, k2, r', by rw [ej, e2], v1, (f4.trans t1).trans v2⟩
      · obtain ⟨-, u2⟩ := T_cmp63 hk2 hc hA (sk_i ha) hw hx (hR _ _ _ _ _ zz)
        refine ⟨fun k q e => (by cases e), fun cs p' e => ?_⟩
        have e : (cs1 ++ cs2 ++ [if x = 60 then 7 else if x = 62 then 8 else 9], p2) = (cs, p') := by injection e
        cases e
        obtain ⟨a2, r', e2, v1, v2, v3, v4⟩ := u2 cs2 p2 rfl
        refine ⟨a2, r', by rw [ej, e2], v1, by omega, ?_, (f4.trans t1).trans v4⟩
        have ea : out ++ cs1 ++ cs2 ++ [cmpC x] = out ++ (cs1 ++ cs2 ++ [if x = 60 then 7 else if x = 62 then 8 else 9]) := by
          unfold cmpC; simp [List.append_assoc]
        rw [ea] at v3; exact v3
end ZZY2
