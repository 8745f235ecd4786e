/-! PLAIN LAW: the component's state, valley; its readers -/
set_option maxRecDepth 100000
/-- a State's cells: the object at s, its arrays behind it -/
def StG (g : CG) (s X : Nat) : Prop := gT g s = 6 ∧ gR g 610 s = some X ∧ (gR g 603 s = some (s + 1) ∧ gT g (s + 1) = 100 ∧ gN g (s + 1) = 10) ∧ (gR g 604 s = some (s + 2) ∧ gT g (s + 2) = 100 ∧ gN g (s + 2) = 5) ∧ (gR g 605 s = some (s + 3) ∧ gT g (s + 3) = 104 ∧ gN g (s + 3) = 5) ∧
  (gR g 606 s = some (s + 4) ∧ gT g (s + 4) = 105 ∧ gN g (s + 4) = 10 ∧ ∀ i, i < 10 → gA g (s + 4) i = s + 5 + i ∧ gT g (s + 5 + i) = 100 ∧ gN g (s + 5 + i) = 8) ∧
  (gR g 607 s = some (s + 15) ∧ gT g (s + 15) = 105 ∧ gN g (s + 15) = 10 ∧ ∀ i, i < 10 → gA g (s + 15) i = s + 16 + i ∧ gT g (s + 16 + i) = 100 ∧ gN g (s + 16 + i) = 8) ∧
  (gR g 608 s = some (s + 26) ∧ gT g (s + 26) = 107 ∧ gN g (s + 26) = 40 ∧ ∀ i, i < 40 → gT g (s + 27 + i) = 100 ∧ gN g (s + 27 + i) = 3) ∧ (gR g 609 s = some (s + 67) ∧ gT g (s + 67) = 100 ∧ gN g (s + 67) = 5)
/-- its contents as the twin's row of numbers -/
def RS (c : CC) (s nl : Nat) (w : Nat → Int32) : Prop := cI c 600 s = w 0 ∧ cI c 601 s = w 1 ∧ (∀ i, i < 10 → cA c (s + 1) i = w (2 + i)) ∧ (∀ i r, i < 10 → r < 8 → cA c (s + 5 + i) r = w (12 + (8 * i + r))) ∧ (∀ i r, i < 10 → r < 8 → cA c (s + 16 + i) r = w (92 + (8 * i + r))) ∧
  ∀ k, k < nl → cA c (s + 3) k = w (172 + 2 * k) ∧ cA c (s + 2) k = w (172 + 2 * k + 1)
theorem RS.of {c c' : CC} {s nl : Nat} {w : Nat → Int32} (h : RS c s nl w) (e : ∀ a, s ≤ a → a < s + 68 → Eq1 c c' a) : RS c' s nl w := by
  obtain ⟨h1, h2, h3, h4, h5, h6⟩ := h
  exact ⟨by rw [(e s (by omega) (by omega)).1]; exact h1, by rw [(e s (by omega) (by omega)).1]; exact h2, fun i hi => by rw [(e (s + 1) (by omega) (by omega)).2.2.2.1]; exact h3 i hi, fun i r hi hr => by rw [(e (s + 5 + i) (by omega) (by omega)).2.2.2.1]; exact h4 i r hi hr,
    fun i r hi hr => by rw [(e (s + 16 + i) (by omega) (by omega)).2.2.2.1]; exact h5 i r hi hr, fun k hk => ⟨by rw [(e (s + 3) (by omega) (by omega)).2.2.2.1]; exact (h6 k hk).1, by rw [(e (s + 2) (by omega) (by omega)).2.2.2.1]; exact (h6 k hk).2⟩⟩
/-- an expression's meaning, a test's -/
def ValC (g : CG) (c : CC) (e : Nat) (F : (Nat → Int64) → Int64) : Prop := ∀ (m arr : Nat), gT g m = 5 → gR g 500 m = some arr → gT g arr = 101 → gN g arr = 18 → d_at 64 e m g c = some (F (fun k => clip (cM c arr k)), c)
def TstC (g : CG) (c : CC) (e : Nat) (F : (Nat → Int64) → Bool) : Prop := ∀ (m arr : Nat), gT g m = 5 → gR g 500 m = some arr → gT g arr = 101 → gN g arr = 18 → d_ho 64 e m g c = some (b32 (F (fun k => clip (cM c arr k))), c)
/-- meanings that look at some parts only -/
def only (ok : Nat → Bool) {α : Type} (F : (Nat → Int64) → α) : Prop := ∀ e e' : Nat → Int64, (∀ k, ok (40 + k) = true → k < 20 → e k = e' k) → F e = F e'
/-- a valley -/
def RVb (g : CG) (c : CC) (V : Nat) (v : VD) : Prop := gT g V = 2 ∧ cI c 201 V = nI (vC v) ∧ cI c 202 V = nI (vW v) ∧ cI c 203 V = nI (vX v) ∧ cI c 204 V = vP v ∧
  (∃ so, gR g 206 V = some so ∧ gT g so = 105 ∧ gN g so = 10 ∧ ∀ i, i < 10 → gT g (gA g so i) = 100 ∧ gN g (gA g so i) = 8 ∧ ∀ r, r < 8 → cA c (gA g so i) r = vS v (8 * i + r)) ∧
  (∃ L E, gR g 208 V = some L ∧ gT g L = 18 ∧ cI c 1802 L = nI (vN v) ∧ cR c 1801 L = some E ∧ gT g E = 109 ∧ vN v ≤ gN g E ∧ ∀ k, k < vN v → ∃ o, cP c E k = some o ∧ gT g o = 7 ∧ cI c 701 o = vL v (5 * k) ∧ cI c 702 o = vL v (5 * k + 1) ∧ cI c 703 o = vL v (5 * k + 2) ∧ cI c 704 o = vL v (5 * k + 3) ∧ cI c 705 o = vL v (5 * k + 4)) ∧
  (match vF v with | none => cR c 209 V = none | some F => only okE F ∧ ∃ e, cR c 209 V = some e ∧ ValC g c e F) ∧ (match vB v with | none => cR c 210 V = none | some F => only okB F ∧ ∃ e, cR c 210 V = some e ∧ TstC g c e F)
theorem C_max {g : CG} {a b : Int32} {c : CC} : f_c_J12_max g a b c = some (if a < b then b else a, c) := by
  unfold f_c_J12_max; split <;> rfl
theorem C_min {g : CG} {a b : Int32} {c : CC} : f_c_J12_min g a b c = some (if b < a then b else a, c) := by
  unfold f_c_J12_min; split <;> rfl
theorem C_abs {g : CG} {a : Int32} {c : CC} : f_c_J12_abs g a c = some (abs32 a, c) := by
  unfold f_c_J12_abs abs32
  rw [nl_0]
  split <;> rfl
theorem C_is {g : CG} {x a b : Int32} {c : CC} : f_c_X0_is g x a b c = some (b32 (decide (a ≤ x) && decide (x ≤ b)), c) := by
  unfold f_c_X0_is Jc_X0_is_14
  by_cases h1 : x < a
  · have h2 : ¬ a ≤ x := by rw [i32_le]; rw [i32_lt] at h1; omega
    rw [if_pos h1]; simp [h2, b32]; rfl
  · have h2 : a ≤ x := by rw [i32_le]; rw [i32_lt] at h1; omega
    rw [if_neg h1]
    by_cases h3 : b < x
    · have h4 : ¬ x ≤ b := by rw [i32_le]; rw [i32_lt] at h3; omega
      rw [if_pos h3]; simp [h4, b32]; rfl
    · have h4 : x ≤ b := by rw [i32_le]; rw [i32_lt] at h3; omega
      rw [if_neg h3]; simp [h2, h4, b32]; rfl
section CR
variable {g : CG} {c : CC} {X V s : Nat} {v : VD} {w : Nat → Int32}
theorem C_columns (hX : gT g X = 1) (hV : cR c 100 X = some V) (h : RVb g c V v) : f_c_X0_columns g X c = some (nI (vC v), c) := by
  unfold f_c_X0_columns
  simp only [hX, hV, h.1, h.2.1, reduceIte, Option.bind_some]
theorem C_lords (hX : gT g X = 1) (hV : cR c 100 X = some V) (h : RVb g c V v) : f_c_X0_lords g X c = some (nI (vN v), c) := by
  obtain ⟨L, E, l1, l2, l3, -⟩ := h.2.2.2.2.2.2.1
  unfold f_c_X0_lords f_c_J2_size
  simp only [hX, hV, h.1, l1, l2, l3, reduceIte, Option.bind_some, xbd_some]
theorem C_lordOf (hX : gT g X = 1) (hV : cR c 100 X = some V) (h : RVb g c V v) (hb : VB v) {k : Nat} (hk : k < vN v) : ∃ o, f_c_X0_lordOf g X (nI k) c = some (o, c) ∧ gT g o = 7 ∧ cI c 701 o = vL v (5 * k) ∧ cI c 702 o = vL v (5 * k + 1) ∧ cI c 703 o = vL v (5 * k + 2) ∧ cI c 704 o = vL v (5 * k + 3) ∧ cI c 705 o = vL v (5 * k + 4) := by
  obtain ⟨L, E, l1, l2, l3, l4, l5, l6, l7⟩ := h.2.2.2.2.2.2.1
  obtain ⟨o, o1, o2, o3⟩ := l7 k hk
  have hn := hb.2.2.2.1
  refine ⟨o, ?_, o2, o3⟩
  unfold f_c_X0_lordOf f_c_J2_get f_c_J11_checkIndex f_c_J8_checkIndex f_c_J2_elementData
  have h1 : ¬ nI k < 0 := nI_pos (by omega)
  have h2 : nI k < nI (vN v) := nI_lt hk (by omega)
  by_cases hE : gN g E < 2147483648
  · have h3 : xin (nI k) (gN g E) = true := xin_nI (by omega) hE
    simp only [hX, hV, h.1, l1, l2, l3, l4, l5, h1, h2, h3, o1, o2, reduceIte, Option.bind_some, xbd_some, nI_clamp (show k < 2 ^ 31 by omega)]
  · have h3 : xin (nI k) (gN g E) = true := by
      unfold xin
      rw [nI_clamp (by omega)]
      simp only [nI_pos' (show k < 2 ^ 31 by omega), decide_true, Bool.true_and, decide_eq_true_eq]
      omega
    simp only [hX, hV, h.1, l1, l2, l3, l4, l5, h1, h2, h3, o1, o2, reduceIte, Option.bind_some, xbd_some, nI_clamp (show k < 2 ^ 31 by omega)]
theorem C_before {k : Nat} (hs : StG g s X) (h : RS c s (vN v) w) (hk : k < 10) : f_c_X5_before g s (nI k) c = some (beforeS w k, c) := by
  obtain ⟨h1, h2, ⟨h3, h4, h5⟩, -⟩ := hs
  have e : (if (nI 0 : Int32) < nI k - nI 1 then nI k - nI 1 else nI 0) = nI (k - 1) := by
    by_cases h0 : k = 0
    · subst h0; rfl
    · rw [nI_m1 (by omega)]
      by_cases h9 : 0 < k - 1
      · rw [if_pos (nI_lt h9 (by omega))]
      · rw [if_neg (by rw [nI_ltI (by omega) (by omega)]; exact h9)]
        congr 1
        omega
  unfold f_c_X5_before beforeS
  rw [nl_0, nl_1]
  simp only [h1, h3, h4, h5, C_max, e, reduceIte, Option.bind_some, xbd_some, xin_nI (show k - 1 < 10 by omega) (by omega), nI_clamp (show k - 1 < 2 ^ 31 by omega), h.2.2.1 (k - 1) (by omega)]
theorem C_behind {k : Nat} (hs : StG g s X) (hX : gT g X = 1) (hV : cR c 100 X = some V) (hv : RVb g c V v) (hb : VB v) (h : RS c s (vN v) w) (hk : k < vC v) : f_c_X5_behind g s (nI k) c = some (behindS v w k, c) := by
  obtain ⟨h1, h2, ⟨h3, h4, h5⟩, -⟩ := hs
  have hc := hb.1
  have e : (if nI k + nI 1 < nI (vC v) - nI 1 then nI k + nI 1 else nI (vC v) - nI 1) = nI (if k + 1 = vC v then k else k + 1) := by
    rw [nI_m1 (by omega), nI_add]
    by_cases h9 : k + 1 < vC v - 1
    · rw [if_pos (nI_lt h9 (by omega)), if_neg (by omega)]
    · rw [if_neg (by rw [nI_ltI (by omega) (by omega)]; exact h9)]
      by_cases h8 : k + 1 = vC v
      · rw [if_pos h8]; congr 1; omega
      · rw [if_neg h8]; congr 1; omega
  have hlt : (if k + 1 = vC v then k else k + 1) < 10 := by split <;> omega
  unfold f_c_X5_behind behindS
  rw [nl_1]
  simp only [h1, h2, h3, h4, h5, hX, C_columns hX hV hv, C_min, e, reduceIte, Option.bind_some, xbd_some, xin_nI hlt (by omega), nI_clamp (show (if k + 1 = vC v then k else k + 1) < 2 ^ 31 by omega), h.2.2.1 _ hlt]
theorem C_turnOf {k : Nat} {b r t : Int32} (hX : gT g X = 1) (hV : cR c 100 X = some V) (hv : RVb g c V v) (hb : VB v) (hk : k < vC v) : f_c_X0_turnOf g X (nI k) b r t c = some (turnB v k b r t, c) := by
  have hc := hb.1
  unfold f_c_X0_turnOf turnB Jc_X0_turnOf_14
  rw [nl_0, nl_1, nl_2]
  have e1 : nI (vC v) - nI 1 = nI (vC v - 1) := nI_m1 (by omega)
  simp only [hX, C_columns hX hV hv, C_abs, e1, reduceIte, xbd_some, nI_eq (show k < 2 ^ 31 by omega) (show 0 < 2 ^ 31 by omega), nI_eq (show k < 2 ^ 31 by omega) (show vC v - 1 < 2 ^ 31 by omega)]
  by_cases h0 : k = 0
  · have h9 : ¬ (0 < k ∧ k + 1 < vC v) := by omega
    simp only [h0, reduceIte]
    rw [if_neg (by omega)]
  · by_cases h8 : k = vC v - 1
    · have h9 : ¬ (0 < k ∧ k + 1 < vC v) := by omega
      rw [if_neg h0, if_pos h8, if_neg h9]
    · have h9 : (0 < k ∧ k + 1 < vC v) := by omega
      rw [if_neg h0, if_neg h8, if_pos h9]
theorem C_turn {k : Nat} (hs : StG g s X) (hX : gT g X = 1) (hV : cR c 100 X = some V) (hv : RVb g c V v) (hb : VB v) (h : RS c s (vN v) w) (hk : k < vC v) : f_c_X5_turn g s (nI k) c = some (turnS v w k, c) := by
  have hc := hb.1
  unfold f_c_X5_turn turnS
  rw [C_before hs h (by omega)]
  simp only [hs.1, hs.2.1, hs.2.2.1.1, hs.2.2.1.2.1, hs.2.2.1.2.2, hX, reduceIte, Option.bind_some, xbd_some, xin_nI (show k < 10 by omega) (by omega), nI_clamp (show k < 2 ^ 31 by omega), h.2.2.1 k (by omega), C_behind hs hX hV hv hb h hk, C_turnOf hX hV hv hb hk]
theorem C_offer {k : Nat} (hs : StG g s X) (hX : gT g X = 1) (hV : cR c 100 X = some V) (hv : RVb g c V v) (hb : VB v) (h : RS c s (vN v) w) (ho : ∀ k, k < vN v → w (172 + 2 * k) = nI 0 ∨ w (172 + 2 * k) = nI 1) (hk : k < vN v) : f_c_X5_offer g s (nI k) c = some (offS v w k, c) := by
  have hn := hb.2.2.2.1
  obtain ⟨o, o1, o2, -, -, o5, -⟩ := C_lordOf hX hV hv hb hk
  unfold f_c_X5_offer offS Jc_X5_offer_43
  simp only [hs.1, hs.2.1, hs.2.2.2.2.1.1, hs.2.2.2.2.1.2.1, hs.2.2.2.2.1.2.2, hs.2.2.2.1.1, hs.2.2.2.1.2.1, hs.2.2.2.1.2.2, hX, nl_0, reduceIte, Option.bind_some, xbd_some, xin_nI (show k < 5 by omega) (by omega), nI_clamp (show k < 2 ^ 31 by omega), (h.2.2.2.2.2 k hk).1, (h.2.2.2.2.2 k hk).2, o1, o2, o5]
  rcases ho k hk with h0 | h0
  · have e : ¬ nI 0 = nI 1 := by decide
    simp only [h0, e, reduceIte, false_and]
  · have e : ¬ nI 1 = nI 0 := by decide
    simp only [h0, e, reduceIte, true_and]
    by_cases h3 : w (172 + 2 * k + 1) < vL v (5 * k + 2)
    · have h4 : ¬ vL v (5 * k + 2) ≤ w (172 + 2 * k + 1) := by rw [i32_le]; rw [i32_lt] at h3; omega
      simp only [h3, h4, reduceIte]
    · have h4 : vL v (5 * k + 2) ≤ w (172 + 2 * k + 1) := by rw [i32_le]; rw [i32_lt] at h3; omega
      simp only [h3, h4, reduceIte]
theorem C_isOf {o k : Nat} {x : Int32} (o2 : gT g o = 7) (o3 : cI c 701 o = vL v (5 * k)) (o4 : cI c 702 o = vL v (5 * k + 1)) : f_c_X7_isOf g o x c = some (b32 (ofS v k x), c) := by
  unfold f_c_X7_isOf ofS
  simp only [o2, o3, o4, C_is, reduceIte, xbd_some, nl_1, b32_and]
theorem C_pay {x : Int32} (hs : StG g s X) (hX : gT g X = 1) (hV : cR c 100 X = some V) (hv : RVb g c V v) (hb : VB v) (h : RS c s (vN v) w) (ho : ∀ k, k < vN v → w (172 + 2 * k) = nI 0 ∨ w (172 + 2 * k) = nI 1) : f_c_X5_pay g s x c = some (payS v w x, c) := by
  have h1 := hb.2.2.2.1
  unfold f_c_X5_pay
  refine (bind_of (v := (payS v w x, c)) (itr_det (fun k => (payN v w x k, nI k, c)) (a := 0) (n := vN v) (fun k _ hk => ?_) ?_ (by omega) (by omega))).trans rfl
  · obtain ⟨o, o1, o2, o3, o4, -⟩ := C_lordOf hX hV hv hb hk
    show Bc_X5_pay_4 g s x (payN v w x k) (nI k) c = _
    unfold Bc_X5_pay_4 Jc_X5_pay_40
    have h2 : ¬ nI (vN v) ≤ nI k := by rw [nI_leI (by omega) (by omega)]; omega
    simp only [hs.1, hs.2.1, hX, C_lords hX hV hv, h2, o1, o2, C_isOf o2 o3 o4, C_offer hs hX hV hv hb h ho hk, reduceIte, Option.bind_some, xbd_some, nl_0, nl_1, b32_0, nI_add]
    cases h3 : ofS v k x with
    | true => simp only [Bool.true_eq_false, reduceIte, payN, h3]
    | false =>
      have e : payN v w x k + nI 0 = payN v w x k := Int32.add_zero _
      simp only [reduceIte, payN, h3, Bool.false_eq_true, e]
  · show Bc_X5_pay_4 g s x (payN v w x (vN v)) (nI (vN v)) c = _
    unfold Bc_X5_pay_4
    have h2 : nI (vN v) ≤ nI (vN v) := by rw [nI_leI (by omega) (by omega)]; omega
    simp only [hs.1, hs.2.1, hX, C_lords hX hV hv, h2, reduceIte, Option.bind_some, xbd_some]
    rfl
end CR
