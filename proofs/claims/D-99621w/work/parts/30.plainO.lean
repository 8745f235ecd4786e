/-! PLAIN LAW: the component's works: its loops -/
set_option maxRecDepth 100000
def PA (v : VD) (m : Nat) : Nat := if m = 0 then 1 else vC v * vW v
def PB (v : VD) (m : Nat) : Nat := if m ≤ 1 then 1 else vC v * vW v
def ST (m a : Nat) : Nat := if m ≤ 1 then 0 else a
def Non (v : VD) (w : Nat → Int32) (n j : Nat) (y : Int32) (m : Nat) : Prop := ∀ a b, a < PA v m → ST m a ≤ b → b < PB v m → okM v w n j y m a b = false
def Fst (v : VD) (w : Nat → Int32) (n j : Nat) (y : Int32) (m a b : Nat) : Prop := a < PA v m ∧ ST m a ≤ b ∧ b < PB v m ∧ okM v w n j y m a b = true ∧ ∀ a' b', a' < PA v m → ST m a' ≤ b' → b' < PB v m → (a' < a ∨ (a' = a ∧ b' < b)) → okM v w n j y m a' b' = false
section COs
variable {g : CG} {c : CC} {τ : TS} {X V lo hi : Nat} {v : VD}
theorem PP (hb : VB v) : vC v * vW v ≤ 80 := Nat.le_trans (Nat.mul_le_mul hb.1 hb.2.1) (by omega)
theorem C_runsIn {m n j a k : Nat} {y : Int32} (h : IV g c τ X V v lo hi) (hg : WG g X) (h9 : W9 (tA τ 62)) (hw : tA τ 62 0 = nI k) (hn : k + n ≤ 4000) (hj : j < 10) (hm : m ≤ 2) (ha : a < PA v m) :
    OK (itr (fun s_ : Int32 × CC => Bc_X0_runsBy_33 g X (nI m) (nI j) y (nI n) (nI a) s_.1 s_.2) 4096 (nI (ST m a), c)) (fun r => (∃ c', r = .inl c' ∧ NZ X c c' ∧ ∀ b, ST m a ≤ b → b < PB v m → okM v (tA τ 62) n j y m a b = false) ∨ ∃ c' b, r = .inr (1, c') ∧ NZ X c c' ∧ ST m a ≤ b ∧ b < PB v m ∧ okM v (tA τ 62) n j y m a b = true ∧ cA c' (X + 171) 0 = nI a ∧ cA c' (X + 171) 1 = nI b ∧ ∀ b', ST m a ≤ b' → b' < b → okM v (tA τ 62) n j y m a b' = false) := by
  have hb := h.1.2.2.2.2.2.1
  have hP := PP hb
  have hB : ∀ c', CX g c' X V v lo hi → ∀ b, Bc_X0_runsBy_33 g X (nI m) (nI j) y (nI n) (nI a) (nI b) c' = Jc_X0_runsBy_48 g X (nI m) (nI j) y (nI n) (nI a) (nI b) (nI (PB v m)) (nI b) c' := by
    intro c' hx b
    unfold Bc_X0_runsBy_33 PB
    by_cases h1 : m ≤ 1
    · rw [if_pos (show nI m ≤ 1 by show nI m ≤ nI 1; rw [nI_leI (by omega) (by omega)]; exact h1), if_pos h1]; rfl
    · rw [if_neg (show ¬ nI m ≤ 1 by show ¬ nI m ≤ nI 1; rw [nI_leI (by omega) (by omega)]; exact h1), if_neg h1, if_pos hx.1, C_places hx, xbd_some]
  have hPB : PB v m ≤ 80 := by unfold PB; split <;> omega
  have hST : ST m a ≤ PB v m := by
    unfold ST PB
    by_cases h1 : m ≤ 1
    · rw [if_pos h1, if_pos h1]; omega
    · rw [if_neg h1, if_neg h1]; unfold PA at ha; rw [if_neg (by omega)] at ha; omega
  refine itr_for (fun b p => ∃ c', p = (nI b, c') ∧ NZ X c c' ∧ ∀ b', ST m a ≤ b' → b' < b → okM v (tA τ 62) n j y m a b' = false) _ (ST m a) (PB v m) ?_ ?_ (by omega) hST ⟨c, rfl, ⟨CZ.refl X c, h.2.2.2.2.1.2⟩, fun b' h1 h2 => absurd h1 (by omega)⟩
  · rintro b p hsb hbb ⟨c', rfl, hz, hf⟩
    have hI : IV g c' τ X V v lo hi := h.cz hz.1 (TX.refl _ _ τ) hz.2
    show OK (Bc_X0_runsBy_33 g X (nI m) (nI j) y (nI n) (nI a) (nI b) c') _
    rw [hB c' hI.1 b]
    obtain ⟨o, e, c2, q1, q2⟩ := C_run48 (a := a) (b := b) (y := y) (s0 := nI (PB v m)) hI hg h9 hw hn hj hm (fun h1 => by unfold PA at ha; rw [if_neg (by omega)] at ha; exact ha) (fun h1 => by unfold PB at hbb; rw [if_neg (by omega)] at hbb; exact hbb) (by rw [nI_leI (by omega) (by omega)]; omega)
    refine ⟨o, e, ?_⟩
    rcases q2 with ⟨r1, rfl, r3, r4⟩ | ⟨r1, rfl⟩
    · exact Or.inr ⟨_, rfl, Or.inr ⟨c2, b, rfl, NZ.trans hz.1 q1, hsb, hbb, r1, r3, r4, hf⟩⟩
    · refine Or.inl ⟨_, rfl, c2, rfl, NZ.trans hz.1 q1, fun b' h1 h2 => ?_⟩
      by_cases e : b' = b
      · subst e; exact r1
      · exact hf b' h1 (by omega)
  · rintro p ⟨c', rfl, hz, hf⟩
    have hx : CX g c' X V v lo hi := h.1.cz hz.1
    show OK (Bc_X0_runsBy_33 g X (nI m) (nI j) y (nI n) (nI a) (nI (PB v m)) c') _
    rw [hB c' hx]
    unfold Jc_X0_runsBy_48
    rw [if_pos (by rw [nI_leI (by omega) (by omega)]; omega)]
    exact ⟨_, rfl, _, rfl, Or.inl ⟨c', rfl, hz, hf⟩⟩
theorem C_runsBy {m n j k : Nat} {y : Int32} (h : IV g c τ X V v lo hi) (hg : WG g X) (h9 : W9 (tA τ 62)) (hw : tA τ 62 0 = nI k) (hn : k + n ≤ 4000) (hj : j < 10) (hm : m ≤ 2) :
    OK (f_c_X0_runsBy g X (nI m) (nI j) y (nI n) c) (fun o => NZ X c o.2 ∧ ((o.1 = nI 0 ∧ Non v (tA τ 62) n j y m) ∨ ∃ a b, o.1 = nI 1 ∧ Fst v (tA τ 62) n j y m a b ∧ cA o.2 (X + 171) 0 = nI a ∧ cA o.2 (X + 171) 1 = nI b)) := by
  have hb := h.1.2.2.2.2.2.1
  have hP := PP hb
  have hPA : PA v m ≤ 80 := by unfold PA; split <;> omega
  unfold f_c_X0_runsBy
  have hB : ∀ c', CX g c' X V v lo hi → ∀ a, Bc_X0_runsBy_3 g X (nI m) (nI j) y (nI n) (nI a) c' = Jc_X0_runsBy_17 g X (nI m) (nI j) y (nI n) (nI a) (nI (PA v m)) (nI a) c' := by
    intro c' hx a
    unfold Bc_X0_runsBy_3 PA
    by_cases h1 : m = 0
    · rw [if_pos (show nI m ≤ 0 by show nI m ≤ nI 0; rw [nI_leI (by omega) (by omega)]; omega), if_pos h1]; rfl
    · rw [if_neg (show ¬ nI m ≤ 0 by show ¬ nI m ≤ nI 0; rw [nI_leI (by omega) (by omega)]; omega), if_neg h1, if_pos hx.1, C_places hx, xbd_some]
  have hL : OK (itr (fun s_ : Int32 × CC => Bc_X0_runsBy_3 g X (nI m) (nI j) y (nI n) s_.1 s_.2) 4096 (0, c)) (fun r => (∃ c', r = .inl c' ∧ NZ X c c' ∧ Non v (tA τ 62) n j y m) ∨ ∃ c' a b, r = .inr (1, c') ∧ NZ X c c' ∧ Fst v (tA τ 62) n j y m a b ∧ cA c' (X + 171) 0 = nI a ∧ cA c' (X + 171) 1 = nI b) := by
    refine itr_for (fun a p => ∃ c', p = (nI a, c') ∧ NZ X c c' ∧ ∀ a' b', a' < a → ST m a' ≤ b' → b' < PB v m → okM v (tA τ 62) n j y m a' b' = false) _ 0 (PA v m) ?_ ?_ (by omega) (by omega) ⟨c, rfl, ⟨CZ.refl X c, h.2.2.2.2.1.2⟩, fun a' _ h1 => absurd h1 (Nat.not_lt_zero _)⟩
    · rintro a p - haa ⟨c', rfl, hz, hf⟩
      have hI : IV g c' τ X V v lo hi := h.cz hz.1 (TX.refl _ _ τ) hz.2
      show OK (Bc_X0_runsBy_3 g X (nI m) (nI j) y (nI n) (nI a) c') _
      rw [hB c' hI.1 a]
      unfold Jc_X0_runsBy_17
      rw [if_neg (by rw [nI_leI (by omega) (by omega)]; omega)]
      have e31 : (if nI m ≤ 1 then Jc_X0_runsBy_31 g X (nI m) (nI j) y (nI n) (nI a) 0 c' else Jc_X0_runsBy_31 g X (nI m) (nI j) y (nI n) (nI a) (nI a) c') = Jc_X0_runsBy_31 g X (nI m) (nI j) y (nI n) (nI a) (nI (ST m a)) c' := by
        unfold ST
        by_cases h1 : m ≤ 1
        · rw [if_pos (show nI m ≤ 1 by show nI m ≤ nI 1; rw [nI_leI (by omega) (by omega)]; exact h1), if_pos h1]; rfl
        · rw [if_neg (show ¬ nI m ≤ 1 by show ¬ nI m ≤ nI 1; rw [nI_leI (by omega) (by omega)]; exact h1), if_neg h1]
      rw [e31]
      unfold Jc_X0_runsBy_31
      obtain ⟨r, e, q⟩ := C_runsIn (a := a) (y := y) hI hg h9 hw hn hj hm haa
      rw [e, Option.bind_some]
      rcases q with ⟨c2, rfl, q1, q2⟩ | ⟨c2, b, rfl, q1, q2, q3, q4, q5, q6, q7⟩
      · refine ⟨_, rfl, Or.inl ⟨_, rfl, c2, by rw [nl_1, nI_add], NZ.trans hz.1 q1, fun a' b' h1 h2 h3 => ?_⟩⟩
        by_cases e : a' = a
        · subst e; exact q2 b' h2 h3
        · exact hf a' b' (by omega) h2 h3
      · refine ⟨_, rfl, Or.inr ⟨_, rfl, Or.inr ⟨c2, a, b, rfl, NZ.trans hz.1 q1, ⟨haa, q2, q3, q4, fun a' b' h1 h2 h3 h4 => ?_⟩, q5, q6⟩⟩⟩
        rcases h4 with h4 | ⟨rfl, h4⟩
        · exact hf a' b' h4 h2 h3
        · exact q7 b' h2 h4
    · rintro p ⟨c', rfl, hz, hf⟩
      have hx : CX g c' X V v lo hi := h.1.cz hz.1
      show OK (Bc_X0_runsBy_3 g X (nI m) (nI j) y (nI n) (nI (PA v m)) c') _
      rw [hB c' hx]
      unfold Jc_X0_runsBy_17
      rw [if_pos (by rw [nI_leI (by omega) (by omega)]; omega)]
      exact ⟨_, rfl, _, rfl, Or.inl ⟨c', rfl, hz, fun a b h1 h2 h3 => hf a b h1 h2 h3⟩⟩
  obtain ⟨r, e, q⟩ := hL
  rw [e, Option.bind_some]
  rcases q with ⟨c2, rfl, q1, q2⟩ | ⟨c2, a, b, rfl, q1, q2, q3, q4⟩
  · exact ⟨_, rfl, q1, Or.inl ⟨rfl, q2⟩⟩
  · exact ⟨_, rfl, q1, Or.inr ⟨a, b, rfl, q2, q3, q4⟩⟩
/-- what works answers, by how many and which -/
def wrk (v : VD) (x : Int32) (m a b : Nat) : Int32 := if x = -1 then nI m else if nI 0 ≤ x ∧ x < nI m then (if x = nI 0 then nI (cel v a) else nI (cel v b)) else -1
def Wrk (v : VD) (w : Nat → Int32) (n j : Nat) (y x r : Int32) : Prop := (∃ m a b, m ≤ 2 ∧ (∀ m', m' < m → Non v w n j y m') ∧ Fst v w n j y m a b ∧ r = wrk v x m a b) ∨ ((∀ m', m' ≤ 2 → Non v w n j y m') ∧ r = -1)
theorem C_works {n j k : Nat} {y x : Int32} (h : IV g c τ X V v lo hi) (hg : WG g X) (h9 : W9 (tA τ 62)) (hw : tA τ 62 0 = nI k) (hn : k + n ≤ 4000) (hj : j < 10) (h1 : f_c_X0_isCell g X (nI j) y c = some (nI 1, c)) (h2 : f_c_X0_isAhead g X (nI n) 1 20 c = some (nI 1, c)) :
    OK (f_c_X0_works g X (nI j) y (nI n) x c) (fun o => NZ X c o.2 ∧ Wrk v (tA τ 62) n j y x o.1) := by
  have hb := h.1.2.2.2.2.2.1
  have hP := PP hb
  unfold f_c_X0_works
  rw [if_pos h.1.1, h1, xbd_some, if_neg (show ¬ nI 1 = 0 by decide), h2, xbd_some, if_neg (show ¬ nI 1 = 0 by decide)]
  have hL : OK (itr (fun s_ : Int32 × CC => Bc_X0_works_25 g X (nI j) y (nI n) x s_.1 s_.2) 4096 (0, c)) (fun r => (∃ m a b c', m ≤ 2 ∧ r = .inl (nI m, c') ∧ NZ X c c' ∧ (∀ m', m' < m → Non v (tA τ 62) n j y m') ∧ Fst v (tA τ 62) n j y m a b ∧ cA c' (X + 171) 0 = nI a ∧ cA c' (X + 171) 1 = nI b) ∨ ∃ c', r = .inr (-1, c') ∧ NZ X c c' ∧ ∀ m', m' ≤ 2 → Non v (tA τ 62) n j y m') := by
    refine itr_for (fun m p => ∃ c', p = (nI m, c') ∧ NZ X c c' ∧ ∀ m', m' < m → Non v (tA τ 62) n j y m') _ 0 3 ?_ ?_ (by omega) (by omega) ⟨c, rfl, ⟨CZ.refl X c, h.2.2.2.2.1.2⟩, fun a' h1 => absurd h1 (Nat.not_lt_zero _)⟩
    · rintro m p - hm ⟨c', rfl, hz, hf⟩
      have hI : IV g c' τ X V v lo hi := h.cz hz.1 (TX.refl _ _ τ) hz.2
      show OK (Bc_X0_works_25 g X (nI j) y (nI n) x (nI m) c') _
      unfold Bc_X0_works_25
      obtain ⟨⟨r, c2⟩, e, q1, q2⟩ := C_runsBy (m := m) (y := y) hI hg h9 hw hn hj (by omega)
      rw [if_neg (show ¬ (2 : Int32) < nI m by show ¬ nI 2 < nI m; rw [nI_ltI (by omega) (by omega)]; omega), if_pos h.1.1, e, xbd_some]
      rcases q2 with ⟨rfl, q2⟩ | ⟨a, b, rfl, q2, q3, q4⟩
      · rw [if_pos (show nI 0 = 0 by decide)]
        refine ⟨_, rfl, Or.inl ⟨_, rfl, c2, by rw [nl_1, nI_add], NZ.trans hz.1 q1, fun m' h1 => ?_⟩⟩
        by_cases e : m' = m
        · subst e; exact q2
        · exact hf m' (by omega)
      · rw [if_neg (show ¬ nI 1 = 0 by decide)]
        exact ⟨_, rfl, Or.inr ⟨_, rfl, Or.inl ⟨m, a, b, c2, by omega, rfl, NZ.trans hz.1 q1, hf, q2, q3, q4⟩⟩⟩
    · rintro p ⟨c', rfl, hz, hf⟩
      show OK (Bc_X0_works_25 g X (nI j) y (nI n) x (nI 3) c') _
      unfold Bc_X0_works_25
      rw [if_pos (show (2 : Int32) < nI 3 by decide)]
      exact ⟨_, rfl, _, rfl, Or.inr ⟨c', rfl, hz, fun m' h1 => hf m' (by omega)⟩⟩
  obtain ⟨r, e, q⟩ := hL
  rw [e, Option.bind_some]
  rcases q with ⟨m, a, b, c2, hm, rfl, q1, q2, q3, q4, q5⟩ | ⟨c2, rfl, q1, q2⟩
  · have hx := h.1.cz q1.1
    have hr := hx.b
    show OK (if x = (-1) then _ else _) _
    by_cases hx1 : x = -1
    · rw [if_pos hx1]
      exact ⟨_, rfl, q1, Or.inl ⟨m, a, b, hm, q2, q3, by unfold wrk; rw [if_pos hx1]⟩⟩
    · rw [if_neg hx1]
      have eis : f_c_X0_is g x 0 (nI m - 1) c2 = some (b32 (decide (nI 0 ≤ x) && decide (x < nI m)), c2) := by
        have e1 : (x ≤ nI m - nI 1) ↔ (x < nI m) := by
          rw [i32_le, i32_lt, i32_sub (by rw [nI_toInt (by omega), nI_toInt (by omega)]; omega) (by rw [nI_toInt (by omega), nI_toInt (by omega)]; omega), nI_toInt (by omega), nI_toInt (by omega)]
          omega
        rw [C_is, nl_0, nl_1]
        simp only [e1]
      rw [eis, xbd_some]
      by_cases hin : nI 0 ≤ x ∧ x < nI m
      · have ed : (decide (nI 0 ≤ x) && decide (x < nI m)) = true := by simp [hin]
        rw [ed, if_neg (show ¬ b32 true = 0 by decide)]
        obtain ⟨i, hi, rfl⟩ := nI_lto (by omega) hin.1 hin.2
        have hPAa := q3.1
        have hap : a < vC v * vW v := by unfold PA at hPAa; rw [if_neg (by omega)] at hPAa; exact hPAa
        obtain ⟨z, hz, hzP, hzc⟩ : ∃ z, cA c2 (X + 171) i = nI z ∧ z < vC v * vW v ∧ cel v z = (if i = 0 then cel v a else cel v b) := by
          by_cases i0 : i = 0
          · subst i0; exact ⟨a, q4, hap, by rw [if_pos rfl]⟩
          · have i1 : i = 1 := by omega
            subst i1
            refine ⟨b, q5, ?_, by rw [if_neg (by omega)]⟩
            have := q3.2.2.1
            unfold PB at this
            rw [if_neg (by omega)] at this
            exact this
        obtain ⟨u1, u2, u3, u4, u5, u6⟩ := cel_b hb hzP
        have hW : ¬ nI (vW v) = (0 : Int32) := by show ¬ nI (vW v) = nI 0; rw [nI_eq (by omega) (by omega)]; omega
        have edv : nI z / nI (vW v) = nI (z / vW v) := nI_div (by omega) u5 (by omega)
        have erm : nI z - nI (z / vW v) * nI (vW v) = nI (z % vW v) := by rw [← edv]; exact nI_rem (by omega) u5 (by omega)
        simp only [hg.1, hg.2.1, hg.2.2, Option.bind_some, reduceIte, xin_nI (show i < 2 by omega) (show 2 < 2147483648 by omega), hx.2.1, hr.1, hr.2.2.1, hW, not_false_eq_true, nI_clamp (show i < 2 ^ 31 by omega), hz, edv, erm, nl_8]
        refine ⟨_, rfl, q1, Or.inl ⟨m, a, b, hm, q2, q3, ?_⟩⟩
        show nI 8 * nI (z / vW v) + nI (z % vW v) = _
        rw [pk_mul, nI_add]
        show nI (cel v z) = _
        unfold wrk
        rw [if_neg hx1, if_pos hin, hzc]
        by_cases i0 : i = 0
        · subst i0; rw [if_pos rfl, if_pos rfl]
        · rw [if_neg i0, if_neg (by rw [nI_eq (by omega) (by omega)]; exact i0)]
      · have ed : (decide (nI 0 ≤ x) && decide (x < nI m)) = false := by
          rw [Bool.eq_false_iff]; intro e; simp only [Bool.and_eq_true, decide_eq_true_eq] at e; exact hin e
        rw [ed, if_pos (show b32 false = 0 by decide)]
        exact ⟨_, rfl, q1, Or.inl ⟨m, a, b, hm, q2, q3, by unfold wrk; rw [if_neg hx1, if_neg hin]⟩⟩
  · exact ⟨_, rfl, q1, Or.inr ⟨q2, rfl⟩⟩
end COs
