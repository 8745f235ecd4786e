/-! PLAIN LAW: the twin's works; both -/
set_option maxRecDepth 100000
def TK (τ q : TS) (w : Nat → Int32) : Prop := TX fY aY τ q ∧ (∀ i, i < 182 → tA q 63 i = tA τ 62 i) ∧ tA q 62 = w ∧ tI q 70 = nI 1
abbrev isC (v : VD) (k : Nat) : Prop := k / 8 < vC v ∧ k % 8 < vW v
section TPs
variable {τ q : TS} {v : VD} {w : Nat → Int32}
theorem T_again (h : TK τ q w) (hh : ∀ j, 182 ≤ j → w j = tA τ 62 j) : OK (f_t_triesAnew q) (fun q' => TK τ q' (tA τ 62) ∧ tI q' 73 = tI q 73 ∧ tI q' 74 = tI q 74 ∧ tA q' 72 = tA q 72 ∧ TX no in62 q q') := by
  obtain ⟨h1, h2, h3, h4⟩ := h
  obtain ⟨q', e, p1, p2, p3, p4⟩ := T_triesAnew (τ := q)
  refine ⟨q', e, ⟨h1.trans (p4.mono (fun k _ => rfl) (fun k hk => by unfold aY at hk; unfold in62; simp at hk ⊢; exact hk.1)), fun i hi => by rw [p2]; exact h2 i hi, funext (fun i => ?_), by rw [p4.1 70 rfl rfl]; exact h4⟩, p4.1 73 rfl rfl, p4.1 74 rfl rfl, p3, p4⟩
  rw [p1]
  by_cases hi : i < 182
  · rw [if_pos hi]; exact h2 i hi
  · rw [if_neg hi, h3]; exact hh i (by omega)
theorem T_doesRun {n j : Nat} {y : Int32} (hT : TV τ v) (hb : VB v) (h : TK τ q w) (hr : WR v w) (hh : ∀ j, 182 ≤ j → w j = tA τ 62 j) (hK : ∃ K, K ≤ 40 ∧ tA τ 62 182 = nI K) (hn : n ≤ 1000) (hj : j < 10) : OK (f_t_doesRun (nI j) y (nI n) q) (fun o => o.1 = b32 (runS v w n j y) ∧ TK τ o.2 (tA τ 62) ∧ tI o.2 73 = tI q 73 ∧ tI o.2 74 = tI q 74) := by
  obtain ⟨h1, h2, h3, h4⟩ := id h
  obtain ⟨K, hK1, hK2⟩ := hK
  unfold f_t_doesRun
  obtain ⟨q1, e1, p1, p2, p3⟩ := T_seasons (hT.y h1) hb h4 (by rw [h3]; exact hr) ⟨K, hK1, by rw [h3, hh _ (by omega)]; exact hK2⟩ hn
  rw [e1, Option.bind_some, T_rowOf (by omega), xbd_some]
  rw [h3] at p1
  have k1 : TK τ q1 (seasN v w n) := ⟨h1.trans p3.sy, fun i hi => by rw [p3.2.2.1 63 i rfl]; exact h2 i hi, p1, by rw [p3.1 70 rfl rfl]; exact h4⟩
  obtain ⟨q2, e2, r1, r2, r3, -⟩ := T_again k1 (fun j hj => by rw [seasN_hi hb hr hj]; exact hh j hj)
  have r2' : tI q2 73 = tI q 73 := by rw [r2, p3.1 73 rfl rfl]
  have r3' : tI q2 74 = tI q 74 := by rw [r3, p3.1 74 rfl rfl]
  unfold Jt_doesRun_19 runS
  rw [e2, Option.bind_some, p1]
  by_cases er : seasN v w n (2 + j) = y
  · rw [if_pos er, decide_eq_true er]
    exact ⟨_, rfl, (show (1 : Int32) &&& 1 = b32 true by decide), r1, r2', r3'⟩
  · rw [if_neg er, decide_eq_false er]
    exact ⟨_, rfl, (show (0 : Int32) &&& 1 = b32 false by decide), r1, r2', r3'⟩
theorem T_canSet {k : Nat} (h : tA q 62 = w) (h9 : W9 w) (hk : k < 80) : f_t_canSet (nI k) q = some (b32 (!ful w k), if ful w k = true then q else sA q 62 (12 + k) (w (12 + k) + nI 1)) := by
  unfold f_t_canSet
  obtain ⟨z, hz1, hz2⟩ := h9 k hk
  simp only [T_willowsAt (show k < 291 by omega), xbd_some, nl_12, nl_1, nI_add, xin_nI (show 12 + k < 303 by omega) (show 303 < 2147483648 by omega), nI_clamp (show 12 + k < 2 ^ 31 by omega), reduceIte, h, nl_9]
  unfold ful
  rw [hz2]
  by_cases e : z = 9
  · subst e
    rw [if_pos rfl]; rfl
  · have e1 : nI z < nI 9 := by rw [nI_ltI (by omega) (by omega)]; omega
    have e2 : ¬ nI z = nI 9 := by rw [nI_eq (by omega) (by omega)]; exact e
    simp [e1, e2, b32]
theorem TK.set {k : Nat} (h : TK τ q w) (hk : k < 80) : TK τ (sA q 62 (12 + k) (w (12 + k) + nI 1)) (plS w k) := by
  obtain ⟨h1, h2, h3, h4⟩ := h
  refine ⟨h1.sA rfl, fun i hi => by rw [tA_sA, if_neg (by omega)]; exact h2 i hi, ?_, h4⟩
  rw [tA_upd, h3]; rfl
theorem TK.sI {k : Nat} {x : Int32} (h : TK τ q w) (hk : k = 73 ∨ k = 74) : TK τ (sI q k x) w := by
  obtain ⟨h1, h2, h3, h4⟩ := h
  refine ⟨h1.sI (Or.inl (by rcases hk with rfl | rfl <;> rfl)), h2, h3, ?_⟩
  rw [tI_sI, if_neg (by omega)]; exact h4
theorem T_isC {k : Nat} (h : TV q v) (hb : VB v) (hk : k < 80) : f_t_isCell (nI k / 8) (nI k - nI k / 8 * 8) q = some (b32 (decide (isC v k)), q) := by
  have h1 := hb.1
  have h2 := hb.2.1
  rw [nl_8, nI_rem (by omega) (by omega) (by omega), nI_div (by omega) (by omega) (by omega), T_isCell h.1 hb]
  congr 3
  rw [Bool.eq_iff_iff]
  unfold isC
  simp only [Bool.and_eq_true, decide_eq_true_eq, nI_leI (show 0 < 2147483648 by omega) (show k / 8 < 2147483648 by omega), nI_leI (show 0 < 2147483648 by omega) (show k % 8 < 2147483648 by omega), nI_ltI (show k / 8 < 2147483648 by omega) (show vC v < 2147483648 by omega), nI_ltI (show k % 8 < 2147483648 by omega) (show vW v < 2147483648 by omega)]
  omega
theorem plS_WR {k : Nat} (hb : VB v) (h : WR v w) : WR v (plS w k) := fun c hc => by
  have := hb.1
  unfold plS
  rw [pk_un (by omega)]; exact h c hc
theorem T_workOne {n j : Nat} {y : Int32} (hT : TV τ v) (hb : VB v) (h : TK τ q (tA τ 62)) (hr : WR v (tA τ 62)) (h9 : W9 (tA τ 62)) (hK : ∃ K, K ≤ 40 ∧ tA τ 62 182 = nI K) (hn : n ≤ 1000) (hj : j < 10) :
    OK (f_t_isWorkOne (nI j) y (nI n) q) (fun o => TK τ o.2 (tA τ 62) ∧ ((o.1 = nI 0 ∧ ∀ k, k < 80 → isC v k → ok1 v (tA τ 62) n j y k = false) ∨ ∃ k, k < 80 ∧ isC v k ∧ o.1 = nI 1 ∧ ok1 v (tA τ 62) n j y k = true ∧ tI o.2 73 = nI k ∧ ∀ k', k' < k → isC v k' → ok1 v (tA τ 62) n j y k' = false)) := by
  unfold f_t_isWorkOne
  have hL : OK (itr (fun s_ : Int32 × TS => Bt_isWorkOne_3 (nI j) y (nI n) s_.1 s_.2) 4096 (0, q)) (fun r => (∃ q', r = .inl q' ∧ TK τ q' (tA τ 62) ∧ ∀ k, k < 80 → isC v k → ok1 v (tA τ 62) n j y k = false) ∨ ∃ q' k, r = .inr (1, q') ∧ TK τ q' (tA τ 62) ∧ k < 80 ∧ isC v k ∧ ok1 v (tA τ 62) n j y k = true ∧ tI q' 73 = nI k ∧ ∀ k', k' < k → isC v k' → ok1 v (tA τ 62) n j y k' = false) := by
    refine itr_for (fun k p => ∃ q', p = (nI k, q') ∧ TK τ q' (tA τ 62) ∧ ∀ k', k' < k → isC v k' → ok1 v (tA τ 62) n j y k' = false) _ 0 80 ?_ ?_ (by omega) (by omega) ⟨q, rfl, h, fun a' h1 => absurd h1 (Nat.not_lt_zero _)⟩
    · rintro k p - hk ⟨q', rfl, hz, hf⟩
      show OK (Bt_isWorkOne_3 (nI j) y (nI n) (nI k) q') _
      have hf' : ∀ b : Prop, (isC v k → ok1 v (tA τ 62) n j y k = false) → ∀ k', k' < k + 1 → isC v k' → ok1 v (tA τ 62) n j y k' = false := fun _ h1 k' h2 h3 => by
        by_cases e : k' = k
        · subst e; exact h1 h3
        · exact hf k' (by omega) h3
      unfold Bt_isWorkOne_3 Jt_isWorkOne_57
      rw [if_neg (show ¬ (80 : Int32) ≤ nI k by show ¬ nI 80 ≤ nI k; rw [nI_leI (by omega) (by omega)]; omega), T_isC (hT.y hz.1) hb hk, xbd_some, nl_1, nI_add]
      by_cases hc : isC v k
      · rw [decide_eq_true hc, if_neg (show ¬ b32 true = 0 by decide), T_canSet hz.2.2.1 h9 hk, xbd_some]
        cases hfu : ful (tA τ 62) k with
        | true =>
          rw [if_pos (show b32 (!true) = 0 by decide)]
          exact ⟨_, rfl, Or.inl ⟨_, rfl, _, rfl, by rw [if_pos rfl]; exact hz, hf' True (fun _ => by unfold ok1; rw [hfu]; rfl)⟩⟩
        | false =>
          rw [if_neg (show ¬ b32 (!false) = 0 by decide), if_neg (show ¬ false = true by decide)]
          obtain ⟨⟨r, q2⟩, e2, r1, r2, r3, -⟩ := T_doesRun (n := n) (j := j) (y := y) hT hb ((hz.set hk).sI (x := nI k) (Or.inl rfl)) (plS_WR hb hr) (fun j hj => by unfold plS; rw [pk_un (by omega)]) hK hn hj
          have r1 : r = _ := r1
          rw [e2, xbd_some, r1]
          have eo : ok1 v (tA τ 62) n j y k = runS v (plS (tA τ 62) k) n j y := by unfold ok1; rw [hfu]; rfl
          cases hru : runS v (plS (tA τ 62) k) n j y with
          | false =>
            rw [if_pos (show b32 false = 0 by decide)]
            exact ⟨_, rfl, Or.inl ⟨_, rfl, _, rfl, r2, hf' True (fun _ => by rw [eo, hru])⟩⟩
          | true =>
            rw [if_neg (show ¬ b32 true = 0 by decide)]
            exact ⟨_, rfl, Or.inr ⟨_, rfl, Or.inr ⟨q2, k, rfl, r2, hk, hc, by rw [eo, hru], by rw [r3, tI_sI, if_pos rfl], hf⟩⟩⟩
      · rw [decide_eq_false hc, if_pos (show b32 false = 0 by decide)]
        exact ⟨_, rfl, Or.inl ⟨_, rfl, _, rfl, hz, hf' True (fun h1 => absurd h1 hc)⟩⟩
    · rintro p ⟨q', rfl, hz, hf⟩
      show OK (Bt_isWorkOne_3 (nI j) y (nI n) (nI 80) q') _
      unfold Bt_isWorkOne_3
      rw [if_pos (show (80 : Int32) ≤ nI 80 by decide)]
      exact ⟨_, rfl, _, rfl, Or.inl ⟨q', rfl, hz, hf⟩⟩
  obtain ⟨r, e, p⟩ := hL
  rw [e, Option.bind_some]
  rcases p with ⟨q2, rfl, p1, p2⟩ | ⟨q2, k, rfl, p1, p2, p3, p4, p5, p6⟩
  · exact ⟨_, rfl, p1, Or.inl ⟨rfl, p2⟩⟩
  · exact ⟨_, rfl, p1, Or.inr ⟨k, p2, p3, rfl, p4, p5, p6⟩⟩
/-- before in the order of pairs -/
def bef (a b a' b' : Nat) : Prop := a' < a ∨ (a' = a ∧ b' < b)
theorem T_tryTwo {n j k i : Nat} {y : Int32} (hT : TV τ v) (hb : VB v) (hz : TK τ q (tA τ 62)) (hr : WR v (tA τ 62)) (h9 : W9 (tA τ 62)) (hK : ∃ K, K ≤ 40 ∧ tA τ 62 182 = nI K) (hn : n ≤ 1000) (hj : j < 10) (hk : k < 80) (hi : i < 80) :
    OK (Bt_isWorkTwo_14 (nI j) y (nI n) (nI k) (nI i) q) (fun o => (∃ q', o = .inl (nI (i + 1), q') ∧ TK τ q' (tA τ 62) ∧ (isC v k → isC v i → ok2 v (tA τ 62) n j y k i = false)) ∨ ∃ q', o = .inr (.inr (1, q')) ∧ TK τ q' (tA τ 62) ∧ isC v k ∧ isC v i ∧ ok2 v (tA τ 62) n j y k i = true ∧ tI q' 73 = nI k ∧ tI q' 74 = nI i) := by
  have j112 : ∀ q1 w1, TK τ q1 w1 → (∀ j, 182 ≤ j → w1 j = tA τ 62 j) → OK (Jt_isWorkTwo_112 (nI j) y (nI n) (nI k) (nI i) q1) (fun o => ∃ q', o = .inl (nI (i + 1), q') ∧ TK τ q' (tA τ 62)) := by
    intro q1 w1 h1 h2
    unfold Jt_isWorkTwo_112 Jt_isWorkTwo_116
    obtain ⟨q2, e, r1, -⟩ := T_again h1 h2
    rw [e, Option.bind_some, nl_1, nI_add]
    exact ⟨_, rfl, q2, rfl, r1⟩
  unfold Bt_isWorkTwo_14
  rw [if_neg (show ¬ (80 : Int32) ≤ nI i by show ¬ nI 80 ≤ nI i; rw [nI_leI (by omega) (by omega)]; omega), T_isC (hT.y hz.1) hb hk, xbd_some]
  by_cases hc : isC v k
  · rw [decide_eq_true hc, if_neg (show ¬ b32 true = 0 by decide), T_isC (hT.y hz.1) hb hi, xbd_some]
    by_cases hd : isC v i
    · rw [decide_eq_true hd, if_neg (show ¬ b32 true = 0 by decide), T_canSet hz.2.2.1 h9 hk, xbd_some]
      unfold Jt_isWorkTwo_80 Jt_isWorkTwo_81
      cases hfu : ful (tA τ 62) k with
      | true =>
        rw [if_pos (show b32 (!true) = 0 by decide), if_pos rfl, if_pos rfl]
        obtain ⟨o, e, q', rfl, r1⟩ := j112 _ _ ((hz.sI (x := nI k) (Or.inl rfl)).sI (x := nI i) (Or.inr rfl)) (fun _ _ => rfl)
        exact ⟨_, e, Or.inl ⟨q', rfl, r1, fun _ _ => by unfold ok2; rw [hfu]; rfl⟩⟩
      | false =>
        rw [if_neg (show ¬ b32 (!false) = 0 by decide), if_neg (show ¬ false = true by decide)]
        obtain ⟨z, hz1, hz2⟩ := h9 k hk
        have hz8 : z ≤ 8 := by
          have : decide (nI z < nI 9) = true := by unfold ful at hfu; rw [hz2] at hfu; simpa using hfu
          rw [decide_eq_true_eq, nI_ltI (by omega) (by omega)] at this
          omega
        have h9' : W9 (plS (tA τ 62) k) := by
          intro i' hi'
          unfold plS
          by_cases e : i' = k
          · subst e; rw [pk_us, hz2, nI_add]; exact ⟨z + 1, by omega, rfl⟩
          · rw [pk_un (by omega)]; exact h9 i' hi'
        have hs1 := hz.set hk
        rw [T_canSet hs1.2.2.1 h9' hi, xbd_some]
        cases hfv : ful (plS (tA τ 62) k) i with
        | true =>
          rw [if_pos (show b32 (!true) = 0 by decide), if_pos rfl, if_pos rfl]
          obtain ⟨o, e, q', rfl, r1⟩ := j112 _ _ ((hs1.sI (x := nI k) (Or.inl rfl)).sI (x := nI i) (Or.inr rfl)) (fun j hj => by unfold plS; rw [pk_un (by omega)])
          exact ⟨_, e, Or.inl ⟨q', rfl, r1, fun _ _ => by unfold ok2; rw [hfu, hfv]; rfl⟩⟩
        | false =>
          rw [if_neg (show ¬ b32 (!false) = 0 by decide), if_neg (show ¬ (1 : Int32) = 0 by decide), if_neg (show ¬ false = true by decide)]
          have hs2 := ((hs1.set hi).sI (x := nI k) (Or.inl rfl)).sI (x := nI i) (Or.inr rfl)
          have hhi : ∀ j, 182 ≤ j → plS (plS (tA τ 62) k) i j = tA τ 62 j := fun j hj => by unfold plS; rw [pk_un (by omega), pk_un (by omega)]
          obtain ⟨⟨r, q2⟩, e2, r1, r2, r3, r4⟩ := T_doesRun (n := n) (j := j) (y := y) hT hb hs2 (plS_WR hb (plS_WR hb hr)) hhi hK hn hj
          have r1 : r = _ := r1
          rw [e2, xbd_some, r1]
          have eo : ok2 v (tA τ 62) n j y k i = runS v (plS (plS (tA τ 62) k) i) n j y := by unfold ok2; rw [hfu, hfv]; rfl
          cases hru : runS v (plS (plS (tA τ 62) k) i) n j y with
          | false =>
            rw [if_pos (show b32 false = 0 by decide)]
            obtain ⟨o, e, q', rfl, r5⟩ := j112 q2 _ r2 (fun _ _ => rfl)
            exact ⟨_, e, Or.inl ⟨q', rfl, r5, fun _ _ => by rw [eo, hru]⟩⟩
          | true =>
            rw [if_neg (show ¬ b32 true = 0 by decide)]
            exact ⟨_, rfl, Or.inr ⟨q2, rfl, r2, hc, hd, by rw [eo, hru], by rw [r3, tI_sI, if_neg (by omega), tI_sI, if_pos rfl], by rw [r4, tI_sI, if_pos rfl]⟩⟩
    · rw [decide_eq_false hd, if_pos (show b32 false = 0 by decide)]
      unfold Jt_isWorkTwo_116
      rw [nl_1, nI_add]
      exact ⟨_, rfl, Or.inl ⟨q, rfl, hz, fun _ h1 => absurd h1 hd⟩⟩
  · rw [decide_eq_false hc, if_pos (show b32 false = 0 by decide)]
    unfold Jt_isWorkTwo_116
    rw [nl_1, nI_add]
    exact ⟨_, rfl, Or.inl ⟨q, rfl, hz, fun h1 => absurd h1 hc⟩⟩
end TPs
