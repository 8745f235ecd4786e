/-! PLAIN LAW: codes on a pile, the twin's evaluation -/
set_option maxRecDepth 100000
def clip (x : Int64) : Int64 := if (1000000 : Int64) < x then 1000000 else if x < -1000000 then -1000000 else x
def flr (a b : Int64) : Int64 := if b = 0 then 0 else if a - a / b * b = 0 then a / b else if (a < 0 ↔ b < 0) then a / b else a / b - 1
def join (op : Nat) (a b : Int64) : Int64 :=
  if op = 1 then clip (a + b) else if op = 2 then clip (a - b) else if op = 3 then clip (a * b) else if op = 4 then flr a b else if op = 5 then (if a < b then a else b) else if op = 6 then (if b < a then a else b)
  else if op = 7 then (if a < b then 1 else 0) else if op = 8 then (if b < a then 1 else 0) else if op = 9 then (if a = b then 1 else 0) else if op = 10 then a * b else if 0 < a + b then 1 else 0
/-- one code: numbers from 1000 on, parts of a number from 60, parts from 40 -/
def run1 (env : Nat → Int64) (lk : Nat → Int64 → Int64) (k : Nat) (p : List Int64) : Option (List Int64) :=
  if 1000 ≤ k then some ((nI (k - 1000)).toInt64 :: p) else if 60 ≤ k then (match p with | a :: q => some (lk (k - 60) a :: q) | _ => none) else if 40 ≤ k then some (env (k - 40) :: p)
  else if k = 13 then some (1 :: p) else if k = 12 then (match p with | a :: q => some ((1 - a) :: q) | _ => none) else (match p with | b :: a :: q => some (join k a b :: q) | _ => none)
def run (env : Nat → Int64) (lk : Nat → Int64 → Int64) : List Nat → List Int64 → Option (List Int64)
  | [], p => some p
  | k :: ks, p => (run1 env lk k p).bind (run env lk ks)
theorem run_append {env : Nat → Int64} {lk : Nat → Int64 → Int64} : ∀ (ks js : List Nat) (p : List Int64), run env lk (ks ++ js) p = (run env lk ks p).bind (run env lk js)
  | [], js, p => rfl
  | k :: ks, js, p => by
    show (run1 env lk k p).bind (run env lk (ks ++ js)) = ((run1 env lk k p).bind (run env lk ks)).bind (run env lk js)
    cases run1 env lk k p with
    | none => rfl
    | some q => exact run_append ks js q
theorem run1_len {env : Nat → Int64} {lk : Nat → Int64 → Int64} {k : Nat} {p q : List Int64} (h : run1 env lk k p = some q) : q.length ≤ p.length + 1 := by
  unfold run1 at h
  split at h
  · cases h; simp
  split at h
  · split at h
    · cases h; simp
    · cases h
  split at h
  · cases h; simp
  split at h
  · cases h; simp
  split at h
  · split at h
    · cases h; simp
    · cases h
  · split at h
    · cases h; simp
    · cases h
/-- only the pile has changed -/
def TQ (τ τ' : TS) : Prop := (∀ k, k ≠ 127 → tI τ' k = tI τ k) ∧ (∀ k, tL τ' k = tL τ k) ∧ (∀ k i, tA τ' k i = tA τ k i) ∧ ∀ k i, k ≠ 126 → tM τ' k i = tM τ k i
theorem TQ.refl (τ : TS) : TQ τ τ := ⟨fun _ _ => rfl, fun _ => rfl, fun _ _ => rfl, fun _ _ _ => rfl⟩
theorem TQ.trans {τ τ' τ'' : TS} (h : TQ τ τ') (h' : TQ τ' τ'') : TQ τ τ'' := ⟨fun k hk => (h'.1 k hk).trans (h.1 k hk), fun k => (h'.2.1 k).trans (h.2.1 k), fun k i => (h'.2.2.1 k i).trans (h.2.2.1 k i), fun k i hk => (h'.2.2.2 k i hk).trans (h.2.2.2 k i hk)⟩
theorem TQ.sI {τ τ' : TS} {v : Int32} (h : TQ τ τ') : TQ τ (sI τ' 127 v) := ⟨fun j hj => by rw [tI_sI, if_neg hj]; exact h.1 j hj, h.2.1, h.2.2.1, h.2.2.2⟩
theorem TQ.sM {τ τ' : TS} {i : Nat} {v : Int64} (h : TQ τ τ') : TQ τ (sM τ' 126 i v) := ⟨h.1, h.2.1, h.2.2.1, fun j z hj => by rw [tM_sM, if_neg (fun e => hj e.1)]; exact h.2.2.2 j z hj⟩
theorem TQ.tn {τ τ' : TS} (h : TQ τ τ') : TN τ τ' := ⟨fun k hk => h.1 k (fun e => by rw [e] at hk; cases hk), h.2.1, h.2.2.1, h.2.2.2⟩
/-- the pile, top first -/
def Pile (τ : TS) (p : List Int64) : Prop := tI τ 127 = nI p.length ∧ ∀ i, i < p.length → tM τ 126 (p.length - 1 - i) = p.getD i 0
theorem Pile.nil {τ : TS} (h : tI τ 127 = nI 0) : Pile τ [] := ⟨h, fun i hi => absurd hi (Nat.not_lt_zero i)⟩
theorem T_qPuts {τ : TS} {p : List Int64} {x : Int64} (h : Pile τ p) (hl : p.length < 1700) : ∃ τ', f_t_qPuts x τ = some τ' ∧ Pile τ' (x :: p) ∧ TQ τ τ' := by
  unfold f_t_qPuts
  rw [h.1]
  simp (discharger := omega) only [nl_0, nl_1, nl_2, nl_3, nl_4, nl_5, nl_6, nl_7, nl_8, nl_9, nl_10, nl_12, nl_15, nl_16, nl_20, nl_25, nl_26, nl_27, nl_28, nl_30, nl_31, nl_32, nl_40, nl_48, nl_60, nl_64, nl_80, nl_92, nl_99, nl_100, nl_117, nl_119, nl_160, nl_172, nl_179, nl_182, nl_183, nl_191, nl_248, nl_251, nl_255, nl_256, nl_300, nl_302, nl_303, nl_384, nl_640, nl_999, nl_1600, nl_1700, nl_3200, nl_6060, nl_65536, nl_999999, nI_add, pk_mul, xin_nI, nI_clamp, nI_leI, nI_ltI, nI_eq, reduceIte, Bool.true_eq_false, Bool.false_eq_true, b32_0, b32_1, xbd_some, Option.bind_some]
  refine ⟨_, rfl, ⟨?_, fun i hi => ?_⟩, ((TQ.refl τ).sM).sI⟩
  · simp only [tI_sI, tI_sM, h.1, nI_add, reduceIte, List.length_cons]
  · rw [tM_sI, tM_sM]
    simp only [List.length_cons] at hi ⊢
    cases i with
    | zero => simp
    | succ i =>
      have h1 : ¬ (p.length + 1 - 1 - (i + 1) = p.length) := by omega
      simp only [h1, and_false, reduceIte]
      have h2 := h.2 i (by omega)
      rw [show p.length + 1 - 1 - (i + 1) = p.length - 1 - i by omega, h2]
      simp
theorem Pile.pop2 {τ : TS} {p : List Int64} {a b : Int64} (h : Pile τ (b :: a :: p)) : Pile (sI τ 127 (nI p.length)) p := by
  refine ⟨by rw [tI_sI]; simp, fun i hi => ?_⟩
  rw [tM_sI]
  have h2 := h.2 (i + 2) (by simp only [List.length_cons]; omega)
  simp only [List.length_cons] at h2
  rw [show p.length + 1 + 1 - 1 - (i + 2) = p.length - 1 - i by omega] at h2
  rw [h2]
  simp
theorem Pile.top {τ : TS} {p : List Int64} {a : Int64} (h : Pile τ (a :: p)) : tM τ 126 p.length = a := by
  have h2 := h.2 0 (by simp)
  simpa using h2
theorem Pile.snd {τ : TS} {p : List Int64} {a b : Int64} (h : Pile τ (b :: a :: p)) : tM τ 126 p.length = a := by
  have h2 := h.2 1 (by simp)
  simpa using h2
theorem T_clip {τ : TS} {x : Int64} : f_t_qClip x τ = some (clip x, τ) := by
  unfold f_t_qClip clip
  have e1 : (lg_cmp x 1000000 ≤ 0) ↔ ¬ (1000000 : Int64) < x := by rw [lg_cmp_le, Int64.le_iff_toInt_le, Int64.lt_iff_toInt_lt]; omega
  have e2 : (0 ≤ lg_cmp x (-1000000)) ↔ ¬ x < -1000000 := by rw [lg_cmp_ge, Int64.le_iff_toInt_le, Int64.lt_iff_toInt_lt]; omega
  simp only [e1, e2]
  by_cases h1 : (1000000 : Int64) < x
  · simp [h1]
  · by_cases h2 : x < -1000000
    · simp [h1, h2]
    · simp [h1, h2]
theorem T_floor {τ : TS} {a b : Int64} : f_t_qFloor a b τ = some (flr a b, τ) := by
  unfold f_t_qFloor flr
  have e3 : ∀ x : Int64, (0 ≤ lg_cmp x 0) ↔ ¬ x < 0 := fun x => by rw [lg_cmp_ge, Int64.le_iff_toInt_le, Int64.lt_iff_toInt_lt]; omega
  simp only [lg_cmp_eq]
  by_cases h0 : b = 0
  · simp [h0]
  · simp only [h0, not_false_eq_true, reduceIte]
    by_cases h1 : a - a / b * b = 0
    · simp [h1, Jt_qFloor_53]
    · simp only [h1, reduceIte, Jt_qFloor_32, Jt_qFloor_43, Jt_qFloor_53, e3]
      by_cases h2 : a < 0 <;> by_cases h3 : b < 0 <;> simp [h2, h3]
theorem T_qJoins {τ : TS} {p : List Int64} {a b : Int64} {op : Nat} (h : Pile τ (b :: a :: p)) (hl : p.length < 1690) (ho : op < 1000) : ∃ τ', f_t_qJoins (nI op) τ = some τ' ∧ Pile τ' (join op a b :: p) ∧ TQ τ τ' := by
  have hp : Pile (sI τ 127 (nI p.length)) p := h.pop2
  have hq : ∀ x : Int64, ∃ τ', f_t_qPuts x (sI τ 127 (nI p.length)) = some τ' ∧ Pile τ' (x :: p) ∧ TQ τ τ' := by
    intro x
    obtain ⟨τ', e, h1, h2⟩ := T_qPuts (x := x) hp (by omega)
    exact ⟨τ', e, h1, ((TQ.refl τ).sI).trans h2⟩
  have e127 : tI τ 127 = nI (p.length + 2) := h.1
  have e1 : nI (p.length + 2) - nI 1 = nI (p.length + 1) := pk_sub (by omega)
  have e2 : nI (p.length + 2) - nI 2 = nI p.length := pk_sub (by omega)
  have eb : tM τ 126 (p.length + 1) = b := h.top
  have ea : tM τ 126 p.length = a := h.snd
  have c1 : (0 ≤ lg_cmp a b) ↔ ¬ a < b := by rw [lg_cmp_ge, Int64.le_iff_toInt_le, Int64.lt_iff_toInt_lt]; omega
  have c2 : (lg_cmp a b ≤ 0) ↔ ¬ b < a := by rw [lg_cmp_le, Int64.le_iff_toInt_le, Int64.lt_iff_toInt_lt]; omega
  have c3 : (lg_cmp (a + b) 0 ≤ 0) ↔ ¬ 0 < a + b := by rw [lg_cmp_le, Int64.le_iff_toInt_le, Int64.lt_iff_toInt_lt]; omega
  have z0 : ((0 : Int32)) = nI 0 := rfl
  rw [z0] at c1 c2 c3
  have c4 := lg_cmp_eq a b
  rw [z0] at c4
  obtain ⟨τ', hτ, hP, hT⟩ := hq (join op a b)
  refine ⟨τ', ?_, hP, hT⟩
  unfold f_t_qJoins Jt_qJoins_161 Jt_qJoins_181 Jt_qJoins_200 Jt_qJoins_219 Jt_qJoins_238 Jt_qJoins_270
  have i1 : xin (nI (p.length + 2) - 1) 1700 = true := by rw [nl_1, e1]; exact xin_nI (by omega) (by omega)
  have i2 : xin (nI (p.length + 2) - 2) 1700 = true := by rw [nl_2, e2]; exact xin_nI (by omega) (by omega)
  have j1 : (nI (p.length + 2) - 1).toNatClampNeg = p.length + 1 := by rw [nl_1, e1]; exact nI_clamp (by omega)
  have j2 : (nI (p.length + 2) - 2).toNatClampNeg = p.length := by rw [nl_2, e2]; exact nI_clamp (by omega)
  have m2 : nI (p.length + 2) - 2 = nI p.length := by rw [nl_2, e2]
  have i3 : xin (nI p.length) 1700 = true := xin_nI (by omega) (by omega)
  have j3 : (nI p.length).toNatClampNeg = p.length := nI_clamp (by omega)
  simp only [e127, i1, i2, i3, j1, j2, j3, m2, eb, ea, T_clip, T_floor, reduceIte, xbd_some]
  have hop : ∀ k, k < 20 → ((nI op = nI k) ↔ op = k) := fun k hk => nI_eq (by omega) (by omega)
  simp only [nl_0, nl_1, nl_2, nl_3, nl_4, nl_5, nl_6, nl_7, nl_8, nl_9, nl_10, hop 1 (by decide), hop 2 (by decide), hop 3 (by decide), hop 4 (by decide), hop 5 (by decide), hop 6 (by decide), hop 7 (by decide), hop 8 (by decide), hop 9 (by decide), hop 10 (by decide), c1, c2, c3, c4]
  unfold join at hτ
  by_cases k1 : op = 1
  · subst k1
    simp only [Nat.reduceEqDiff, reduceIte] at hτ ⊢
    rw [hτ]
    rfl
  by_cases k2 : op = 2
  · subst k2
    simp only [Nat.reduceEqDiff, reduceIte] at hτ ⊢
    rw [hτ]
    rfl
  by_cases k3 : op = 3
  · subst k3
    simp only [Nat.reduceEqDiff, reduceIte] at hτ ⊢
    rw [hτ]
    rfl
  by_cases k4 : op = 4
  · subst k4
    simp only [Nat.reduceEqDiff, reduceIte] at hτ ⊢
    rw [hτ]
    rfl
  by_cases k5 : op = 5
  · subst k5
    simp only [Nat.reduceEqDiff, reduceIte] at hτ ⊢
    by_cases hh : a < b
    · simp only [hh, reduceIte, not_true_eq_false] at hτ ⊢
      rw [hτ]
      rfl
    · simp only [hh, reduceIte, not_false_eq_true] at hτ ⊢
      rw [hτ]
      rfl
  by_cases k6 : op = 6
  · subst k6
    simp only [Nat.reduceEqDiff, reduceIte] at hτ ⊢
    by_cases hh : b < a
    · simp only [hh, reduceIte, not_true_eq_false] at hτ ⊢
      rw [hτ]
      rfl
    · simp only [hh, reduceIte, not_false_eq_true] at hτ ⊢
      rw [hτ]
      rfl
  by_cases k7 : op = 7
  · subst k7
    simp only [Nat.reduceEqDiff, reduceIte] at hτ ⊢
    by_cases hh : a < b
    · simp only [hh, reduceIte, not_true_eq_false] at hτ ⊢
      rw [hτ]
      rfl
    · simp only [hh, reduceIte, not_false_eq_true] at hτ ⊢
      rw [hτ]
      rfl
  by_cases k8 : op = 8
  · subst k8
    simp only [Nat.reduceEqDiff, reduceIte] at hτ ⊢
    by_cases hh : b < a
    · simp only [hh, reduceIte, not_true_eq_false] at hτ ⊢
      rw [hτ]
      rfl
    · simp only [hh, reduceIte, not_false_eq_true] at hτ ⊢
      rw [hτ]
      rfl
  by_cases k9 : op = 9
  · subst k9
    simp only [Nat.reduceEqDiff, reduceIte] at hτ ⊢
    by_cases hh : a = b
    · simp only [hh, reduceIte, not_true_eq_false] at hτ ⊢
      rw [hτ]
      rfl
    · simp only [hh, reduceIte, not_false_eq_true] at hτ ⊢
      rw [hτ]
      rfl
  by_cases k10 : op = 10
  · subst k10
    simp only [Nat.reduceEqDiff, reduceIte] at hτ ⊢
    rw [hτ]
    rfl
  simp only [k1, k2, k3, k4, k5, k6, k7, k8, k9, k10, reduceIte] at hτ ⊢
  by_cases hh : 0 < a + b
  · simp only [hh, reduceIte, not_true_eq_false] at hτ ⊢
    rw [hτ]
    rfl
  · simp only [hh, reduceIte, not_false_eq_true] at hτ ⊢
    rw [hτ]
    rfl
