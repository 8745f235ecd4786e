/-! PLAIN LAW: the twin reads a sum as the relation says: rows of parts; the whole sum -/
set_option maxRecDepth 100000
section ZZV
variable {τ τ' τ1 q : TS} {d n a p o bs kx : Nat} {B : Nat → Nat} {W W0 cs out acc out1 pend : List Nat} {L : List Nat} {x : Int32} {R : PRel} {r : Res}
theorem stop_low (h : stopB bs W) : lowT bs W := by
  rcases h with h | ⟨W', b, h1, -, -, h2⟩
  · exact Or.inl h
  · exact Or.inr ⟨W', b, h1, by omega⟩
theorem sim_2 (hR : ∀ m o p acc r, R m o p acc r → simP d x n B kx m o p acc r) (z : gon R 4 o p r (fun cs p1 => R 3 o p1 cs r)) (h : TA d τ n B kx a o bs W out) (hsk : sk B n a = sk B n p) (hb : bs ≤ W.length) (hl : lowT bs W) (h3 : topIs W 3 = false) (h4 : topIs W 4 = false) :
    (∀ k q, r = .inl (k, q) → badB τ k q (LpA x n τ a)) ∧
    (∀ cs p', r = .inr (cs, p') → cur B n (sk B n p') ≠ 42 ∧ cur B n (sk B n p') ≠ 47 ∧ endB d x n B kx (fun y => y = 3 ∨ y = 4) o bs W (out ++ cs) τ p' (a + 1) (LpA x n τ a)) := by
  rcases z with ⟨f, zz, rfl⟩ | ⟨cs1, p1, zz, z⟩
  · have ih := (hR _ _ _ _ _ zz).1 rfl τ a bs W out h hsk hb
    exact ⟨fun k q e => by
      have e : f = (k, q) := by injection e
      subst e
      exact ih.1 k q rfl, fun cs p' e => by cases e⟩
  · obtain ⟨a', τ', i1, i2, i3, i4, i5⟩ := ((hR _ _ _ _ _ zz).1 rfl τ a bs W out h hsk hb).2 cs1 p1 rfl
    have step : ∀ r, LpB x n τ' a' r → LpA x n τ a r := fun r hr => i5 r (T_E_end i3.1 hb hl hr)
    have ih := (hR _ _ _ _ _ z).2.2.1 rfl τ' a' bs W out (out ++ cs1) [] (by rw [List.reverse_nil, List.append_nil]; exact i3) (List.append_nil _) (fun y hy => by cases hy) i1 hb h3 h4
    exact ⟨fun k q e => (ih.1 k q e).via i4 step, fun cs p' e => ⟨(ih.2 cs p' e).1, (ih.2 cs p' e).2.1, (ih.2 cs p' e).2.2.via i4 step (by omega)⟩⟩
theorem sim_3 (hR : ∀ m o p acc r, R m o p acc r → simP d x n B kx m o p acc r) (z : rst B n R 4 3 42 47 3 4 o p acc r) (h : TA d τ n B kx a o bs (W ++ pend.reverse) out1) (hout : out1 ++ pend = out ++ acc) (hp : ∀ y ∈ pend, y = 3 ∨ y = 4) (hsk : sk B n a = sk B n p) (hb : bs ≤ W.length) (h3 : topIs W 3 = false) (h4 : topIs W 4 = false) :
    (∀ k q, r = .inl (k, q) → badB τ k q (LpB x n τ a)) ∧
    (∀ cs p', r = .inr (cs, p') → cur B n (sk B n p') ≠ 42 ∧ cur B n (sk B n p') ≠ 47 ∧ endB d x n B kx (fun y => y = 3 ∨ y = 4) o bs W (out ++ cs) τ p' a (LpB x n τ a)) := by
  unfold rst at z
  rw [← hsk] at z
  obtain ⟨ha, hn⟩ := h.le
  have g := sk_g (B := B) ha
  have cnt := h.2.2.2
  rw [List.length_append, List.length_reverse] at cnt
  have hlen : ∀ y : Nat, (W ++ [y]).length = W.length + 1 := fun y => by simp
  rcases z with ⟨hc, z⟩ | ⟨c1, c2, rfl⟩
  · obtain ⟨τ1, t1, t2, t3⟩ := T_B_34 (x := x) h.1 hb hp h3 h4 hc (by rw [List.length_append]; omega)
    have c : sk B n a < n := by rcases hc with e | e <;> exact (cur_lt e (by omega)).1
    generalize hcc : (if cur B n (sk B n a) = 42 then 3 else 4) = c3 at *
    have hc3 : c3 = 3 ∨ c3 = 4 := by rw [← hcc]; split <;> simp
    have hA : TA d τ1 n B kx (sk B n a + 1) o bs (W ++ [c3]) (out1 ++ pend) := h.next t1 t2 (by rw [hlen, List.length_append]; omega)
    have hlow : lowT bs (W ++ [c3]) := Or.inr ⟨W, c3, rfl, by omega⟩
    rcases z with ⟨f, zz, rfl⟩ | ⟨cs1, p1, zz, z⟩
    · have ih := (hR _ _ _ _ _ zz).1 rfl τ1 (sk B n a + 1) bs (W ++ [c3]) (out1 ++ pend) hA rfl (by rw [hlen]; omega)
      exact ⟨fun k q e => by
        have e : f = (k, q) := by injection e
        subst e
        exact (ih.1 k q rfl).via t2 t3, fun cs p' e => by cases e⟩
    · obtain ⟨a', τ', i1, i2, i3, i4, i5⟩ := ((hR _ _ _ _ _ zz).1 rfl τ1 (sk B n a + 1) bs (W ++ [c3]) (out1 ++ pend) hA rfl (by rw [hlen]; omega)).2 cs1 p1 rfl
      have step : ∀ r, LpB x n τ' a' r → LpB x n τ a r := fun r hr => t3 r (i5 r (T_E_end i3.1 (by rw [hlen]; omega) hlow hr))
      have ih := (hR _ _ _ _ _ z).2.2.1 rfl τ' a' bs W out (out1 ++ pend ++ cs1) [c3] i3 (by rw [hout]; simp [List.append_assoc]) (fun y hy => by simp at hy; omega) i1 hb h3 h4
      exact ⟨fun k q e => (ih.1 k q e).via (t2.trans i4) step, fun cs p' e => ⟨(ih.2 cs p' e).1, (ih.2 cs p' e).2.1, (ih.2 cs p' e).2.2.via (t2.trans i4) step (by omega)⟩⟩
  · refine ⟨fun k q e => (by cases e), fun cs p' e => ?_⟩
    have e : (acc, sk B n a) = (cs, p') := by injection e
    cases e
    have hi := sk_i (B := B) ha
    rw [hi]
    exact ⟨c1, c2, a, τ, out1, pend, hi.symm, Nat.le_refl _, hout, hp, h, TY.refl _ _ τ, fun r hr => hr⟩
theorem sim_0 (hR : ∀ m o p acc r, R m o p acc r → simP d x n B kx m o p acc r) (z : gon R 2 o p r (fun cs p1 => R 1 o p1 cs r)) (h : TA d τ n B kx a o bs W out) (hsk : sk B n a = sk B n p) (hb : bs ≤ W.length) (hs : stopB bs W) (ht : ∀ y, 1 ≤ y → y ≤ 4 → topIs W y = false) :
    (∀ k q, r = .inl (k, q) → badB τ k q (LpA x n τ a)) ∧
    (∀ cs p', r = .inr (cs, p') → noSg B n (sk B n p') ∧ endB d x n B kx (fun y => 1 ≤ y ∧ y ≤ 4) o bs W (out ++ cs) τ p' (a + 1) (LpA x n τ a)) := by
  rcases z with ⟨f, zz, rfl⟩ | ⟨cs1, p1, zz, z⟩
  · have ih := (hR _ _ _ _ _ zz).2.1 rfl τ a bs W out h hsk hb (stop_low hs) (ht 3 (by omega) (by omega)) (ht 4 (by omega) (by omega))
    exact ⟨fun k q e => by
      have e : f = (k, q) := by injection e
      subst e
      exact ih.1 k q rfl, fun cs p' e => by cases e⟩
  · obtain ⟨c1, c2, a', τ', out1, pend, i1, i2, i3, i4, i5, i6, i7⟩ := ((hR _ _ _ _ _ zz).2.1 rfl τ a bs W out h hsk hb (stop_low hs) (ht 3 (by omega) (by omega)) (ht 4 (by omega) (by omega))).2 cs1 p1 rfl
    have ih := (hR _ _ _ _ _ z).2.2.2.2 rfl τ' a' bs W out out1 pend i5 i3 (fun y hy => by have := i4 y hy; omega) i1 hb ht c1 c2
    exact ⟨fun k q e => (ih.1 k q e).via i6 i7, fun cs p' e => ⟨(ih.2 cs p' e).1, (ih.2 cs p' e).2.via i6 i7 (by omega)⟩⟩
theorem sim_1 (hR : ∀ m o p acc r, R m o p acc r → simP d x n B kx m o p acc r) (z : rst B n R 2 1 43 45 1 2 o p acc r) (h : TA d τ n B kx a o bs (W ++ pend.reverse) out1) (hout : out1 ++ pend = out ++ acc) (hp : ∀ y ∈ pend, 1 ≤ y ∧ y ≤ 4) (hsk : sk B n a = sk B n p) (hb : bs ≤ W.length) (ht : ∀ y, 1 ≤ y → y ≤ 4 → topIs W y = false) (c1 : cur B n (sk B n p) ≠ 42) (c2 : cur B n (sk B n p) ≠ 47) :
    (∀ k q, r = .inl (k, q) → badB τ k q (LpB x n τ a)) ∧
    (∀ cs p', r = .inr (cs, p') → noSg B n (sk B n p') ∧ endB d x n B kx (fun y => 1 ≤ y ∧ y ≤ 4) o bs W (out ++ cs) τ p' a (LpB x n τ a)) := by
  unfold rst at z
  rw [← hsk] at z c1 c2
  obtain ⟨ha, hn⟩ := h.le
  have g := sk_g (B := B) ha
  have cnt := h.2.2.2
  rw [List.length_append, List.length_reverse] at cnt
  have hlen : ∀ y : Nat, (W ++ [y]).length = W.length + 1 := fun y => by simp
  rcases z with ⟨hc, z⟩ | ⟨c3, c4, rfl⟩
  · obtain ⟨τ1, t1, t2, t3⟩ := T_B_12 (x := x) h.1 hb hp ht hc (by rw [List.length_append]; omega)
    have c : sk B n a < n := by rcases hc with e | e <;> exact (cur_lt e (by omega)).1
    generalize hcc : (if cur B n (sk B n a) = 43 then 1 else 2) = c3 at *
    have hc3 : c3 = 1 ∨ c3 = 2 := by rw [← hcc]; split <;> simp
    have hA : TA d τ1 n B kx (sk B n a + 1) o bs (W ++ [c3]) (out1 ++ pend) := h.next t1 t2 (by rw [hlen, List.length_append]; omega)
    have hlow : lowT bs (W ++ [c3]) := Or.inr ⟨W, c3, rfl, by omega⟩
    have p3 : ∀ y, 3 ≤ y → topIs (W ++ [c3]) y = false := fun y hy => by rw [topIs_app]; exact decide_eq_false (by omega)
    rcases z with ⟨f, zz, rfl⟩ | ⟨cs1, p1, zz, z⟩
    · have ih := (hR _ _ _ _ _ zz).2.1 rfl τ1 (sk B n a + 1) bs (W ++ [c3]) (out1 ++ pend) hA rfl (by rw [hlen]; omega) hlow (p3 3 (by omega)) (p3 4 (by omega))
      exact ⟨fun k q e => by
        have e : f = (k, q) := by injection e
        subst e
        exact (ih.1 k q rfl).via t2 t3, fun cs p' e => by cases e⟩
    · obtain ⟨d1, d2, a', τ', out2, pend2, i1, i2, i3, i4, i5, i6, i7⟩ := ((hR _ _ _ _ _ zz).2.1 rfl τ1 (sk B n a + 1) bs (W ++ [c3]) (out1 ++ pend) hA rfl (by rw [hlen]; omega) hlow (p3 3 (by omega)) (p3 4 (by omega))).2 cs1 p1 rfl
      have eW : W ++ [c3] ++ pend2.reverse = W ++ (pend2 ++ [c3]).reverse := by simp [List.append_assoc]
      rw [eW] at i5
      have step : ∀ r, LpB x n τ' a' r → LpB x n τ a r := fun r hr => t3 r (i7 r hr)
      have ih := (hR _ _ _ _ _ z).2.2.2.2 rfl τ' a' bs W out out2 (pend2 ++ [c3]) i5 (by rw [← List.append_assoc, i3, hout]; simp [List.append_assoc]) (fun y hy => by
        simp only [List.mem_append, List.mem_singleton] at hy
        rcases hy with hy | hy
        · have := i4 y hy; omega
        · omega) i1 hb ht d1 d2
      exact ⟨fun k q e => (ih.1 k q e).via (t2.trans i6) step, fun cs p' e => ⟨(ih.2 cs p' e).1, (ih.2 cs p' e).2.via (t2.trans i6) step (by omega)⟩⟩
  · refine ⟨fun k q e => (by cases e), fun cs p' e => ?_⟩
    have e : (acc, sk B n a) = (cs, p') := by injection e
    cases e
    have hi := sk_i (B := B) ha
    rw [hi]
    exact ⟨⟨c1, c2, c3, c4⟩, a, τ, out1, pend, hi.symm, Nat.le_refl _, hout, hp, h, TY.refl _ _ τ, fun r hr => hr⟩
/-- the twin reads as the relation says -/
theorem sim_all (hk2 : kx ≤ 2) {m : Nat} (z : Parse B n kx m o p acc r) : simP d x n B kx m o p acc r := by
  refine Parse.ind (Q := simP d x n B kx) (fun m o p acc r z => ?_) z
  have hR : ∀ m o p acc r, (Parse B n kx m o p acc r ∧ simP d x n B kx m o p acc r) → simP d x n B kx m o p acc r := fun _ _ _ _ _ k => k.2
  unfold PStp at z
  rcases z with ⟨rfl, z⟩ | ⟨rfl, z⟩ | ⟨rfl, z⟩ | ⟨rfl, z⟩ | ⟨rfl, z⟩ | ⟨rfl, z⟩ | ⟨rfl, z⟩ | ⟨rfl, z⟩ | ⟨rfl, z⟩ | ⟨rfl, z⟩
  · exact ⟨(fun e => by cases e), (fun e => by cases e), (fun e => by cases e), fun _ τ a bs W out h1 h2 h3 h4 h5 => sim_0 hR z h1 h2 h3 h4 h5, fun e => by cases e⟩
  · exact ⟨(fun e => by cases e), (fun e => by cases e), (fun e => by cases e), (fun e => by cases e), fun _ τ a bs W out out1 pend h1 h2 h3 h4 h5 h6 h7 h8 => sim_1 hR z h1 h2 h3 h4 h5 h6 h7 h8⟩
  · exact ⟨(fun e => by cases e), fun _ τ a bs W out h1 h2 h3 h4 h5 h6 => sim_2 hR z h1 h2 h3 h4 h5 h6, (fun e => by cases e), (fun e => by cases e), fun e => by cases e⟩
  · exact ⟨(fun e => by cases e), (fun e => by cases e), fun _ τ a bs W out out1 pend h1 h2 h3 h4 h5 h6 h7 => sim_3 hR z h1 h2 h3 h4 h5 h6 h7, (fun e => by cases e), fun e => by cases e⟩
  · exact ⟨fun _ τ a bs W out h1 h2 h3 => sim_at hR hk2 z h1 h2 h3, (fun e => by cases e), (fun e => by cases e), (fun e => by cases e), fun e => by cases e⟩
  all_goals exact ⟨(fun e => by cases e), (fun e => by cases e), (fun e => by cases e), (fun e => by cases e), fun e => by cases e⟩
/-- the whole sum -/
theorem T_qSums (hk2 : kx ≤ 2) (z : Parse B n kx 0 o p [] r) (h : TA d τ n B kx a o bs W out) (hsk : sk B n a = sk B n p) (ht : ∀ y, 1 ≤ y → y ≤ 4 → topIs W y = false) :
    (∀ k q, r = .inl (k, q) → 0 < k ∧ k < 100 ∧ ∃ r', f_t_qSums τ = some r' ∧ TF r' k q ∧ TY inQ aQ τ r') ∧
    (∀ cs p', r = .inr (cs, p') → ∃ a' r', f_t_qSums τ = some r' ∧ sk B n a' = sk B n p' ∧ a < a' ∧ TA d r' n B kx a' o bs W (out ++ cs) ∧ TY inQ aQ τ r') := by
  obtain ⟨ha, hn⟩ := h.le
  have h1 := h.1
  have h0 : TQs (sI τ 125 (nI W.length)) n B a o W.length W out := ⟨h1.1.of (fun k hk => by rw [tI_sI, if_neg (by omega)]) (fun i => rfl), ⟨by rw [tI_sI, if_neg (by omega)]; exact h1.2.1.1, h1.2.1.2⟩, ⟨by rw [tI_sI, if_pos rfl], Nat.le_refl _⟩, ⟨by rw [tI_sI, if_neg (by omega)]; exact h1.2.2.2.1.1, h1.2.2.2.1.2⟩, ⟨by rw [tI_sI, if_neg (by omega)]; exact h1.2.2.2.2.1.1, h1.2.2.2.2.1.2⟩, h1.2.2.2.2.2⟩
  have t0 : TY inQ aQ τ (sI τ 125 (nI W.length)) := (TY.refl _ _ τ).sI (Or.inl rfl)
  have hA := h.next h0 t0 h.2.2.2
  have ih := (sim_all (x := tI τ 125) hk2 z).2.2.2.1 rfl _ a W.length W out hA hsk (Nat.le_refl _) (Or.inl rfl) ht
  have go : ∀ r', LpA (tI τ 125) n (sI τ 125 (nI W.length)) a r' → f_t_qSums τ = (itr (fun s_ : TS => Bt_qSums_53 (tI τ 125) s_) 4096 r').bind fun b5 => Jt_qSums_78 (tI τ 125) b5 := fun r' hr => by
    unfold f_t_qSums
    have e := hr 4096 4095 (by omega) (by omega)
    rw [← lpN_more h0.1.2.1] at e
    unfold lpN at e
    rw [h1.2.2.2.1.1, e, Option.bind_some]
  constructor
  · intro k q e
    obtain ⟨b1, b2, r', b3, b4, b5⟩ := ih.1 k q e
    have hbad := b3.bad b1 b2
    refine ⟨b1, b2, sI r' 125 (tI τ 125), ?_, ⟨by rw [tI_sI, if_neg (by omega)]; exact b3.1, by rw [tI_sI, if_neg (by omega)]; exact b3.2.1, b3.2.2.choose, b3.2.2.choose_spec.1, by rw [tI_sI, if_neg (by omega)]; exact b3.2.2.choose_spec.2⟩, (t0.trans b4).sI (Or.inl rfl)⟩
    rw [go r' b5, itr_inr (b := r') (by
      show Bt_qSums_53 _ r' = _
      unfold Bt_qSums_53
      rw [if_neg hbad]), Option.bind_some]
    rfl
  · intro cs p' e
    obtain ⟨ns, a', τ', out1, pend, i1, i2, i3, i4, i5, i6, i7⟩ := ih.2 cs p' e
    rw [← i1] at ns
    have z1 := T_B_end (x := tI τ 125) i5.1 (fun y hy => by have := i4 y hy; omega) ns rfl
    have hsp := i5.1.skip
    obtain ⟨q, e1, q1, q2⟩ := T_dropAll (x1 := tI τ 125) hsp rfl
    rw [i3] at q1
    have tq : TY inQ aQ τ (sI q 125 (tI τ 125)) := (((t0.trans i6).trans ((TY.refl inQ aQ τ').sI (Or.inl rfl))).trans q2).sI (Or.inl rfl)
    have g' := sk_g (B := B) i5.le.1
    refine ⟨sk B n a', sI q 125 (tI τ 125), ?_, by rw [sk_i i5.le.1, i1], by omega, h.next ?_ tq ?_, tq⟩
    · rw [go _ (i7 _ z1), e1, Option.bind_some]; rfl
    · exact ⟨q1.1.of (fun k hk => by rw [tI_sI, if_neg (by omega)]) (fun i => rfl), ⟨by rw [tI_sI, if_neg (by omega)]; exact q1.2.1.1, q1.2.1.2⟩, ⟨by rw [tI_sI, if_pos rfl]; exact h1.2.2.1.1, h1.2.2.1.2⟩, ⟨by rw [tI_sI, if_neg (by omega)]; exact q1.2.2.2.1.1, q1.2.2.2.1.2⟩, ⟨by rw [tI_sI, if_neg (by omega)]; exact q1.2.2.2.2.1.1, q1.2.2.2.2.1.2⟩, q1.2.2.2.2.2⟩
    · have cnt := i5.2.2.2
      rw [List.length_append, List.length_reverse] at cnt
      have e3 := congrArg List.length i3
      rw [List.length_append] at e3
      omega
end ZZV
