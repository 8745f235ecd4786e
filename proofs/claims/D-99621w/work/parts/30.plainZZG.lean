/-! PLAIN LAW: what waits, the codes: the twin's -/
set_option maxRecDepth 100000
def Wt (τ : TS) (W : List Nat) : Prop := tI τ 123 = nI W.length ∧ ∀ i, i < W.length → tA τ 122 i = nI (W.getD i 0)
def Cd (τ : TS) (cs : List Nat) : Prop := tI τ 121 = nI cs.length ∧ ∀ i, i < cs.length → tA τ 120 i = nI (cs.getD i 0)
/-- reading goes well: place, open, base, what waits (bottom first), codes -/
def TQs (τ : TS) (n : Nat) (B : Nat → Nat) (a o bs : Nat) (W cs : List Nat) : Prop := TPs τ n B a ∧ (tI τ 124 = nI o ∧ o ≤ 6) ∧ (tI τ 125 = nI bs ∧ bs ≤ W.length) ∧ Wt τ W ∧ Cd τ cs ∧ cs.length + W.length ≤ 1680 ∧ ∀ x ∈ W, x < 100
def inQ (k : Nat) : Bool := inR2 k || k == 121 || k == 123 || k == 124 || k == 125
def aQ (k : Nat) : Bool := k == 120 || k == 122
theorem getD_app {L : List Nat} {x i : Nat} (h : i < L.length) : (L ++ [x]).getD i 0 = L.getD i 0 := by
  rw [List.getD_eq_getElem?_getD, List.getD_eq_getElem?_getD, List.getElem?_append_left h]
theorem getD_last {L : List Nat} {x : Nat} : (L ++ [x]).getD L.length 0 = x := by
  rw [List.getD_eq_getElem?_getD]
  simp
/-- it has failed: kind, place; codes still have room -/
def TF (τ : TS) (k p : Nat) : Prop := tI τ 5 = nI k ∧ tI τ 6 = nI p ∧ ∃ c, c < 1690 ∧ tI τ 121 = nI c
theorem TF.s2 {τ : TS} {k p : Nat} {v : Int32} (h : TF τ k p) : TF (sI τ 2 v) k p := ⟨by rw [tI_sI, if_neg (by omega)]; exact h.1, by rw [tI_sI, if_neg (by omega)]; exact h.2.1, h.2.2.choose, h.2.2.choose_spec.1, by rw [tI_sI, if_neg (by omega)]; exact h.2.2.choose_spec.2⟩
theorem TF.mk {τ : TS} {k c : Nat} {p : Nat} (hc : tI τ 121 = nI c) (h : c < 1690) : TF (sI (sI τ 5 (nI k)) 6 (nI p)) k p := ⟨by rw [tI_sI, if_neg (by omega), tI_sI, if_pos rfl], by rw [tI_sI, if_pos rfl], c, h, by rw [tI_sI, if_neg (by omega), tI_sI, if_neg (by omega)]; exact hc⟩
section ZZG
variable {τ τ' : TS} {n a o bs : Nat} {B : Nat → Nat} {W cs : List Nat}
theorem TPs.of (h : TPs τ n B a) (e : ∀ k, k = 2 ∨ k = 3 ∨ k = 4 ∨ k = 5 → tI τ' k = tI τ k) (e0 : ∀ i, tA τ' 0 i = tA τ 0 i) : TPs τ' n B a := by
  obtain ⟨⟨h1, h2, h3, h4, h5⟩, h6, h7⟩ := h
  refine ⟨⟨fun i hi => by rw [e0]; exact h1 i hi, h2, by rw [e 3 (by omega)]; exact h3, by rw [e 2 (by omega)]; exact h4, h5⟩, by rw [e 5 (by omega)]; exact h6, ?_⟩
  unfold EN
  rw [e 4 (by omega)]; exact h7
theorem TB8.bound (h : TPs τ n B a) {i : Nat} (hi : i < 1600) : B i < 256 := (h.1.1 i hi).2
/-- one code more -/
theorem T_qCode {v : Nat} (h : TQs τ n B a o bs W cs) (hl : cs.length + 1 + W.length ≤ 1680) : OK (f_t_qCode (nI v) τ) (fun q => TQs q n B a o bs W (cs ++ [v]) ∧ TY inQ aQ τ q) := by
  obtain ⟨h1, h2, h3, h4, h5, h6, h7⟩ := h
  unfold f_t_qCode
  rw [h5.1, if_pos (xin_nI (show cs.length < 1700 by omega) (by omega)), nI_clamp (show cs.length < 2 ^ 31 by omega), tI_sA, h5.1, nl_1, nI_add]
  refine OK_some ⟨⟨h1.of (fun k hk => by rw [tI_sI, if_neg (by omega)]; rfl) (fun i => by rw [tA_sI, tA_sA, if_neg (by omega)]), ⟨by rw [tI_sI, if_neg (by omega)]; exact h2.1, h2.2⟩, ⟨by rw [tI_sI, if_neg (by omega)]; exact h3.1, h3.2⟩, ⟨by rw [tI_sI, if_neg (by omega)]; exact h4.1, fun i hi => by rw [tA_sI, tA_sA, if_neg (by omega)]; exact h4.2 i hi⟩, ⟨by rw [tI_sI, if_pos rfl, List.length_append]; rfl, fun i hi => ?_⟩, by rw [List.length_append]; simp; omega, h7⟩, ((TY.refl _ _ τ).sA rfl).sI (Or.inl rfl)⟩
  rw [List.length_append] at hi
  have hi : i < cs.length + 1 := hi
  rw [tA_sI, tA_sA]
  by_cases e : i = cs.length
  · subst e; rw [if_pos ⟨rfl, rfl⟩, getD_last]
  · rw [if_neg (fun z => e z.2), getD_app (by omega)]; exact h5.2 i (by omega)
/-- what waits last becomes a code -/
theorem T_qDrops {x : Nat} (h : TQs τ n B a o bs (W ++ [x]) cs) (hb : bs ≤ W.length) : OK (f_t_qDrops τ) (fun q => TQs q n B a o bs W (cs ++ [x]) ∧ TY inQ aQ τ q) := by
  obtain ⟨h1, h2, h3, h4, h5, h6, h7⟩ := h
  have hl : (W ++ [x]).length = W.length + 1 := by simp
  rw [hl] at h6
  have e123 : tI τ 123 = nI (W.length + 1) := by rw [h4.1, hl]
  have hx := h4.2 W.length (by rw [hl]; omega)
  rw [getD_last] at hx
  have t0 : TQs (sI τ 123 (nI W.length)) n B a o bs W cs := ⟨h1.of (fun k hk => by rw [tI_sI, if_neg (by omega)]) (fun i => rfl), ⟨by rw [tI_sI, if_neg (by omega)]; exact h2.1, h2.2⟩, ⟨by rw [tI_sI, if_neg (by omega)]; exact h3.1, hb⟩, ⟨by rw [tI_sI, if_pos rfl], fun i hi => by rw [tA_sI, h4.2 i (by rw [hl]; omega), getD_app hi]⟩, ⟨by rw [tI_sI, if_neg (by omega)]; exact h5.1, h5.2⟩, by omega, fun y hy => h7 y (by simp [hy])⟩
  unfold f_t_qDrops
  rw [e123, nl_1, nI_m1 (by omega), show W.length + 1 - 1 = W.length by omega, show tI (sI τ 123 (nI W.length)) 123 = nI W.length by rw [tI_sI, if_pos rfl], if_pos (xin_nI (show W.length < 1700 by omega) (by omega)), nI_clamp (show W.length < 2 ^ 31 by omega), tA_sI, hx]
  obtain ⟨q, e, q1, q2⟩ := T_qCode (v := x) t0 (by omega)
  rw [e, Option.bind_some]
  exact OK_some ⟨q1, ((TY.refl inQ aQ τ).sI (Or.inl rfl)).trans q2⟩
/-- what waits last -/
def topIs (W : List Nat) (x : Nat) : Bool := decide (0 < W.length) && decide (W.getD (W.length - 1) 0 = x)
theorem T_qIsOn {x : Nat} (h : TQs τ n B a o bs W cs) (hx : x < 100) : f_t_qIsOn (nI x) τ = some (b32 (topIs W x), τ) := by
  obtain ⟨h1, h2, h3, h4, h5, h6, h7⟩ := h
  unfold f_t_qIsOn Jt_qIsOn_26 topIs
  rw [h4.1]
  by_cases e : 0 < W.length
  · have hm : W.getD (W.length - 1) 0 < 100 := by
      refine h7 _ ?_
      rw [List.getD_eq_getElem?_getD, List.getElem?_eq_getElem (show W.length - 1 < W.length by omega)]
      exact List.getElem_mem _
    rw [if_neg (by show ¬ nI W.length ≤ nI 0; rw [nI_leI (by omega) (by omega)]; omega), nl_1, nI_m1 (by omega), if_pos (xin_nI (show W.length - 1 < 1700 by omega) (by omega)), nI_clamp (show W.length - 1 < 2 ^ 31 by omega), h4.2 (W.length - 1) (by omega), decide_eq_true e, Bool.true_and]
    by_cases e2 : W.getD (W.length - 1) 0 = x
    · rw [if_pos (by rw [e2]), decide_eq_true e2]; rfl
    · rw [if_neg (by rw [nI_eq (by omega) (by omega)]; exact e2), decide_eq_false e2]; rfl
  · rw [if_pos (by show nI W.length ≤ nI 0; rw [nI_leI (by omega) (by omega)]; omega), decide_eq_false e, Bool.false_and]; rfl
theorem topIs_app {x y : Nat} : topIs (W ++ [x]) y = decide (x = y) := by
  unfold topIs
  rw [show (W ++ [x]).length = W.length + 1 by simp, decide_eq_true (show 0 < W.length + 1 by omega), Bool.true_and, show W.length + 1 - 1 = W.length by omega, getD_last]
/-- one is opened; or there are six -/
theorem T_qOpens {x p : Nat} (h : TQs τ n B a o bs W cs) (hx : x < 100) (hl : cs.length + (W.length + 1) ≤ 1680) : OK (f_t_qOpens (nI x) (nI p) τ) (fun q => TY inQ aQ τ q ∧ (o = 6 → TF q 4 p ∧ tI q 2 = tI τ 2) ∧ (o ≠ 6 → TQs q n B a (o + 1) bs (W ++ [x]) cs)) := by
  obtain ⟨h1, h2, h3, h4, h5, h6, h7⟩ := h
  unfold f_t_qOpens
  rw [if_pos h1.2.1, h2.1]
  by_cases e : o = 6
  · rw [if_pos (by rw [e]; rfl), T_fail h1.2.1, Option.bind_some]
    exact OK_some ⟨((TY.refl _ _ τ).sI (Or.inl rfl)).sI (Or.inl rfl), fun _ => ⟨TF.mk (k := 4) h5.1 (by omega), by rw [tI_sI, if_neg (by omega), tI_sI, if_neg (by omega)]⟩, fun z => absurd e z⟩
  · rw [if_neg (by show ¬ nI o = nI 6; rw [nI_eq (by omega) (by omega)]; exact e), nl_1, nI_add, show tI (sI τ 124 (nI (o + 1))) 123 = nI W.length by rw [tI_sI, if_neg (by omega)]; exact h4.1, if_pos (xin_nI (show W.length < 1700 by omega) (by omega)), nI_clamp (show W.length < 2 ^ 31 by omega), tI_sA, show tI (sI τ 124 (nI (o + 1))) 123 = nI W.length by rw [tI_sI, if_neg (by omega)]; exact h4.1, nI_add]
    have hl2 : (W ++ [x]).length = W.length + 1 := by simp
    refine OK_some ⟨(((TY.refl _ _ τ).sI (Or.inl rfl)).sA rfl).sI (Or.inl rfl), fun z => absurd z e, fun _ => ⟨h1.of (fun k hk => by rw [tI_sI, if_neg (by omega), tI_sA, tI_sI, if_neg (by omega)]) (fun i => by rw [tA_sI, tA_sA, if_neg (by omega), tA_sI]), ⟨by rw [tI_sI, if_neg (by omega), tI_sA, tI_sI, if_pos rfl], by omega⟩, ⟨by rw [tI_sI, if_neg (by omega), tI_sA, tI_sI, if_neg (by omega)]; exact h3.1, by rw [hl2]; omega⟩, ⟨by rw [tI_sI, if_pos rfl, hl2], fun i hi => ?_⟩, ⟨by rw [tI_sI, if_neg (by omega), tI_sA, tI_sI, if_neg (by omega)]; exact h5.1, fun i hi => by rw [tA_sI, tA_sA, if_neg (by omega), tA_sI]; exact h5.2 i hi⟩, by rw [hl2]; omega, fun y hy => by
      simp only [List.mem_append, List.mem_singleton] at hy
      rcases hy with hy | hy
      · exact h7 y hy
      · omega⟩⟩
    rw [hl2] at hi
    rw [tA_sI, tA_sA]
    by_cases ei : i = W.length
    · subst ei; rw [if_pos ⟨rfl, rfl⟩, getD_last]
    · rw [if_neg (fun z => ei z.2), tA_sI, getD_app (by omega)]; exact h4.2 i (by omega)
end ZZG
