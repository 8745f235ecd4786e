/-! PLAIN LAW: ran -/
set_option maxRecDepth 100000
theorem or_nI : ∀ k, k < 8 → ∀ a, a < 256 → nI a ||| ((1 : Int32) <<< (nI k &&& 31)) = nI (a ||| 2 ^ k) := by decide +kernel
theorem has_nI : ∀ a, a < 256 → ∀ k, k < 8 → ((nI a >>> (nI k &&& 31)) &&& 1) = b32 (a.testBit k) := by decide +kernel
def setP (f : Nat → Bool) : Nat → Nat
  | 0 => 0
  | k + 1 => setP f k ||| (if f k = true then 2 ^ k else 0)
theorem setP_lt {f : Nat → Bool} : ∀ n, n ≤ 8 → setP f n < 2 ^ 8
  | 0, _ => by show 0 < 2 ^ 8; decide
  | n + 1, h => by
    show setP f n ||| _ < 2 ^ 8
    refine Nat.or_lt_two_pow (setP_lt n (by omega)) ?_
    split
    · exact Nat.pow_lt_pow_right (by omega) (by omega)
    · decide
theorem setP_bit {f : Nat → Bool} {r : Nat} : ∀ n, (setP f n).testBit r = (decide (r < n) && f r)
  | 0 => by simp [setP]
  | n + 1 => by
    show (setP f n ||| _).testBit r = _
    rw [Nat.testBit_or, setP_bit n]
    by_cases e : r = n
    · subst e
      cases hf : f r <;> simp [hf]
    · by_cases e2 : r < n
      · have e3 : r < n + 1 := by omega
        have e4 : ¬ n = r := by omega
        split <;> simp [e2, e3, e4]
      · have e3 : ¬ r < n + 1 := by omega
        have e4 : ¬ n = r := by omega
        split <;> simp [e2, e3, e4]
theorem setP_0 {f : Nat → Bool} : ∀ n, setP f n = 0 ↔ cntN f n = 0
  | 0 => ⟨fun _ => rfl, fun _ => rfl⟩
  | n + 1 => by
    show setP f n ||| _ = 0 ↔ cntN f n + _ = 0
    rw [Nat.or_eq_zero_iff, setP_0 n]
    have h2 : (2 : Nat) ^ n ≠ 0 := by have := Nat.two_pow_pos n; omega
    split
    · exact ⟨fun h => absurd h.2 h2, fun h => by omega⟩
    · exact ⟨fun h => by omega, fun h => ⟨by omega, rfl⟩⟩
section ZMs
variable {g : CG} {c c' : CC} {τ τ' q : TS} {X V s lo hi n m : Nat} {v : VD} {w : Nat → Int32} {R : Nat} {σ α β : Nat → Nat}
theorem WR_row {k r : Nat} (hr : r < vW v) (h : WR v w) : WR v (upd w (2 + k) (nI r)) := by
  intro i hi
  by_cases e : i = k
  · subst e; rw [pk_us]; exact ⟨r, hr, rfl⟩
  · rw [pk_un (by omega)]; exact h i hi
theorem T_aside83 : OK (f_t_putsAside τ) (fun q => tI q 83 = tI τ 83 ∧ tI q 79 = tI τ 79 ∧ ∀ i, tA q 80 i = tA τ 80 i) := by
  unfold f_t_putsAside
  rw [nl_1]
  refine OK_bind (P := fun q => tI q 83 = tI τ 83 ∧ tI q 79 = tI τ 79 ∧ ∀ i, tA q 80 i = tA τ 80 i) ?_ (fun τ' q => OK_some q)
  refine itr_for (fun k p => ∃ τ', p = (nI k, τ') ∧ tI τ' 83 = tI τ 83 ∧ tI τ' 79 = tI τ 79 ∧ ∀ i, tA τ' 80 i = tA τ 80 i) _ 0 182 ?_ ?_ (by omega) (by omega) ⟨_, rfl, rfl, rfl, fun _ => rfl⟩
  · rintro k p - hk ⟨τ', rfl, h1, h2, h3⟩
    show OK (Bt_putsAside_7 (nI k) τ') _
    unfold Bt_putsAside_7
    have h9 : ¬ nI 182 ≤ nI k := by rw [nI_leI (by omega) (by omega)]; omega
    simp only [nl_182, nl_1, h9, xin_nI (show k < 303 by omega) (show 303 < 2147483648 by omega), xin_nI hk (show 182 < 2147483648 by omega), nI_clamp (show k < 2 ^ 31 by omega), nI_add, reduceIte]
    exact ⟨_, rfl, Or.inl ⟨_, rfl, _, rfl, h1, h2, fun i => by rw [tA_sA, if_neg (by omega)]; exact h3 i⟩⟩
  · rintro p ⟨τ', rfl, h1⟩
    show OK (Bt_putsAside_7 (nI 182) τ') _
    unfold Bt_putsAside_7
    have h9 : nI 182 ≤ nI 182 := by decide
    simp only [nl_182, h9, reduceIte]
    exact ⟨_, rfl, _, rfl, h1⟩
theorem T_back5 (h : TK τ q w) (hh : ∀ j, 182 ≤ j → w j = tA τ 62 j) (h70 : tI τ 70 = nI 0) : OK (f_t_takesBack q) (fun q' => TX fZ aZ τ q' ∧ (∀ k i, k ≠ 62 → tA q' k i = tA q k i) ∧ ∀ k, k ≠ 70 → noisy k = false → tI q' k = tI q k) := by
  unfold f_t_takesBack
  obtain ⟨q', e, r1, r2, r3, r4, r5⟩ := T_again h hh
  rw [e, Option.bind_some, nl_0]
  refine ⟨_, rfl, (r1.1.sI (Or.inl rfl)).yz ?_ r1.2.2.1, fun k i hk => r5.2.2.1 k i (by unfold in62; simp [hk]), fun k hk hn => by rw [tI_sI, if_neg hk]; exact r5.1 k rfl hn⟩
  rw [tI_sI, if_pos rfl, h70]
abbrev fitR (v : VD) (w : Nat → Int32) (j n0 R : Nat) (σ α β : Nat → Nat) (r : Nat) : Bool := fitS v (upd w (2 + j) (nI r)) (min 31 (1000 - n0)) R σ α β
theorem T_laysFits {j n0 : Nat} (hT : TV τ v) (hb : VB v) (h70 : tI τ 70 = nI 0) (hr : WR v (tA τ 62)) (hK : ∃ K, K ≤ 40 ∧ tA τ 62 182 = nI K) (hs : TWf τ v R σ α β) (hw : tA τ 62 0 = nI n0) (hn0 : n0 ≤ 999) (hj : j < vC v) :
    OK (f_t_laysFits (nI j) τ) (fun q => TX fZ aZ τ q ∧ (∀ r, r < vW v → tA q 82 r = b32 (fitR v (tA τ 62) j n0 R σ α β r)) ∧ (∀ r k, r < vW v → k ≤ 30 → tA q 81 (31 * r + k) = seasN v (upd (tA τ 62) (2 + j) (nI r)) k (2 + j)) ∧ tI q 83 = nI (cntN (fitR v (tA τ 62) j n0 R σ α β) (vW v))) := by
  have hb1 := hb.1
  have hb2 := hb.2.1
  unfold f_t_laysFits
  obtain ⟨q1, e1, p1, p2, p3, p4, p5⟩ := T_putsAside (τ := sI τ 83 0)
  obtain ⟨q1', e1', p6, p7, p8⟩ := T_aside83 (τ := sI τ 83 0)
  have eq1 : q1' = q1 := by rw [e1] at e1'; exact (Option.some.inj e1').symm
  subst eq1
  have k0 : TK (sI τ 83 0) q1' (tA τ 62) := ⟨p5, p1, p3, p2⟩
  rw [e1, Option.bind_some]
  have hL : OK (itr (fun s_ : Int32 × TS => Bt_laysFits_11 (nI j) s_.1 s_.2) 4096 (0, q1')) (fun q => TK (sI τ 83 0) q (tA τ 62) ∧ (∀ r, r < vW v → tA q 82 r = b32 (fitR v (tA τ 62) j n0 R σ α β r)) ∧ (∀ r k, r < vW v → k ≤ 30 → tA q 81 (31 * r + k) = seasN v (upd (tA τ 62) (2 + j) (nI r)) k (2 + j)) ∧ tI q 83 = nI (cntN (fitR v (tA τ 62) j n0 R σ α β) (vW v))) := by
    refine itr_for (fun r s => ∃ q, s = (nI r, q) ∧ TK (sI τ 83 0) q (tA τ 62) ∧ (∀ r', r' < r → tA q 82 r' = b32 (fitR v (tA τ 62) j n0 R σ α β r')) ∧ (∀ r' k, r' < r → k ≤ 30 → tA q 81 (31 * r' + k) = seasN v (upd (tA τ 62) (2 + j) (nI r')) k (2 + j)) ∧ tI q 83 = nI (cntN (fitR v (tA τ 62) j n0 R σ α β) r) ∧ tI q 79 = tI τ 79 ∧ ∀ i, tA q 80 i = tA τ 80 i) _ 0 (vW v) ?_ ?_ (by omega) (by omega) ⟨q1', rfl, k0, fun r' hr' => by omega, fun r' k hr' => by omega, p6, p7, p8⟩
    · rintro r s - hrr ⟨q, rfl, z1, z2, z3, z4, z5, z6⟩
      have hT' : TV q v := (hT.of (τ' := sI τ 83 0) rfl rfl (fun _ _ _ => rfl)).y z1.1
      have h9 : ¬ nI (vW v) ≤ nI r := by rw [nI_leI (by omega) (by omega)]; omega
      have eu : tA (sA q 62 (2 + j) (nI r)) 62 = upd (tA τ 62) (2 + j) (nI r) := by rw [tA_upd, z1.2.2.1]
      have kq : TK (sI τ 83 0) (sA q 62 (2 + j) (nI r)) (upd (tA τ 62) (2 + j) (nI r)) := ⟨z1.1.sA rfl, fun i hi => by rw [tA_sA, if_neg (by omega)]; exact z1.2.1 i hi, eu, z1.2.2.2⟩
      have hWR : WR v (upd (tA τ 62) (2 + j) (nI r)) := WR_row hrr hr
      obtain ⟨⟨fl, q2⟩, e2, y1, y2, y3, y4⟩ := T_fit (q := sA q 62 (2 + j) (nI r)) (j := j) (r := r) (n0 := n0) (R := R) (σ := σ) (α := α) (β := β) (hT'.of rfl rfl (fun k i hk => by rw [tA_sA, if_neg (by omega)])) hb z1.2.2.2 (by rw [eu]; exact hWR) (by rw [eu, pk_un (by omega)]; exact hK) (hs.of z5 (fun i => by rw [tA_sA, if_neg (by omega)]; exact z6 i)) (by rw [eu, pk_un (by omega)]; exact hw) hn0 hj (by omega)
      rw [eu] at y1 y2 y3
      have kq2 := kq.to7 y4 y2
      obtain ⟨q3, e3, x1, x2, x3, x4, x5⟩ := T_again kq2 (fun i hi => by rw [seasN_hi hb hWR hi, pk_un (by omega)]; rfl)
      have y1 : fl = b32 (fitR v (tA τ 62) j n0 R σ α β r) := y1
      subst y1
      show OK (Bt_laysFits_11 (nI j) (nI r) q) _
      unfold Bt_laysFits_11 Jt_laysFits_111
      rw [T_rowsMany, xbd_some, hT'.1.2.2.1, if_neg h9, nl_2, nI_add, if_pos (xin_nI (show 2 + j < 303 by omega) (by omega)), nI_clamp (show 2 + j < 2 ^ 31 by omega), e2, Option.bind_some, e3, Option.bind_some, if_pos (xin_nI (show r < 8 by omega) (by omega)), nI_clamp (show r < 2 ^ 31 by omega), nl_1, b32_and, nI_add]
      have g83 : tI q3 83 = nI (cntN (fitR v (tA τ 62) j n0 R σ α β) r) := by rw [x5.1 83 rfl rfl, y4.1 83 rfl rfl]; exact z4
      have g82 : ∀ i, tA q3 82 i = tA q 82 i := fun i => by rw [x5.2.2.1 82 i rfl, y4.2.2.1 82 i rfl, tA_sA, if_neg (by omega)]
      have g81 : ∀ r' k, r' < r + 1 → k ≤ 30 → tA q3 81 (31 * r' + k) = seasN v (upd (tA τ 62) (2 + j) (nI r')) k (2 + j) := fun r' k hr' hk => by
        rw [x5.2.2.1 81 _ rfl, y3]
        by_cases er : r' = r
        · subst er
          rw [if_pos (by omega), show 31 * r' + k - 31 * r' = k by omega]
        · rw [if_neg (by omega), tA_sA, if_neg (by omega)]
          exact z3 r' k (by omega) hk
      have g79 : tI q3 79 = tI τ 79 := by rw [x5.1 79 rfl rfl, y4.1 79 rfl rfl]; exact z5
      have g80 : ∀ i, tA q3 80 i = tA τ 80 i := fun i => by rw [x5.2.2.1 80 i rfl, y4.2.2.1 80 i rfl, tA_sA, if_neg (by omega)]; exact z6 i
      have h82 : ∀ r', r' < r + 1 → tA (sA q3 82 r (b32 (fitR v (tA τ 62) j n0 R σ α β r))) 82 r' = b32 (fitR v (tA τ 62) j n0 R σ α β r') := fun r' hr' => by
        rw [tA_sA]
        by_cases er : r' = r
        · subst er; rw [if_pos ⟨rfl, rfl⟩]
        · rw [if_neg (fun z => er z.2), g82]; exact z2 r' (by omega)
      have kF : TK (sI τ 83 0) (sA q3 82 r (b32 (fitR v (tA τ 62) j n0 R σ α β r))) (tA τ 62) := ⟨x1.1.sA rfl, fun i hi => by rw [tA_sA, if_neg (by omega)]; exact x1.2.1 i hi, by rw [tA_updn (by omega)]; exact x1.2.2.1, x1.2.2.2⟩
      have c1 : cntN (fitR v (tA τ 62) j n0 R σ α β) (r + 1) = cntN (fitR v (tA τ 62) j n0 R σ α β) r + (if fitR v (tA τ 62) j n0 R σ α β r = true then 1 else 0) := rfl
      cases hf : fitR v (tA τ 62) j n0 R σ α β r with
      | false =>
        rw [hf] at c1 kF h82
        rw [if_pos (show b32 false = 0 by decide)]
        refine OK_some (Or.inl ⟨_, rfl, _, rfl, kF, h82, fun r' k a1 a2 => by rw [tA_sA, if_neg (by omega)]; exact g81 r' k a1 a2, ?_, g79, fun i => by rw [tA_sA, if_neg (by omega)]; exact g80 i⟩)
        rw [c1]; exact g83
      | true =>
        rw [hf] at c1 kF h82
        rw [if_neg (show ¬ b32 true = 0 by decide)]
        refine OK_some (Or.inl ⟨_, rfl, _, rfl, ⟨kF.1.sI (Or.inl rfl), kF.2.1, kF.2.2.1, kF.2.2.2⟩, h82, fun r' k a1 a2 => by rw [tA_sI, tA_sA, if_neg (by omega)]; exact g81 r' k a1 a2, ?_, g79, fun i => by rw [tA_sI, tA_sA, if_neg (by omega)]; exact g80 i⟩)
        rw [tI_sI, if_pos rfl, tI_sA, g83, nI_add, c1]; rfl
    · rintro s ⟨q, rfl, z1, z2, z3, z4, z5⟩
      have hT' : TV q v := (hT.of (τ' := sI τ 83 0) rfl rfl (fun _ _ _ => rfl)).y z1.1
      have h9 : nI (vW v) ≤ nI (vW v) := by rw [nI_leI (by omega) (by omega)]; omega
      show OK (Bt_laysFits_11 (nI j) (nI (vW v)) q) _
      unfold Bt_laysFits_11
      rw [T_rowsMany, xbd_some, hT'.1.2.2.1, if_pos h9]
      exact OK_some ⟨_, rfl, z1, z2, z3, z4⟩
  obtain ⟨q9, e9, z1, z2, z3, z4⟩ := hL
  obtain ⟨qa, ea, y1, y2, y3⟩ := T_back5 z1 (fun i _ => rfl) h70
  rw [e9, Option.bind_some, ea, Option.bind_some]
  refine OK_some ⟨((TX.refl fZ aZ τ).sI (Or.inl rfl)).trans y1, fun r hr => by rw [y2 82 r (by omega)]; exact z2 r hr, fun r k hr hk => by rw [y2 81 _ (by omega)]; exact z3 r k hr hk, by rw [y3 83 (by omega) rfl]; exact z4⟩
/-- the component's ran -/
theorem C_ran {j n0 : Nat} (h : IV g c τ X V v lo hi) (hg : SWG g X) (hy : RYG g X) (hs : SWf c τ X v R σ α β) (hw : tA τ 62 0 = nI n0) (hn0 : n0 ≤ 999) (hj : j < vC v) :
    OK (f_c_X0_ran g X (nI j) c) (fun o => o.1 = nI (setP (fitR v (tA τ 62) j n0 R σ α β) (vW v)) ∧ NZ X c o.2 ∧ ∀ r k, r < vW v → k < min 31 (1000 - n0) → cA o.2 (X + 301 + r) k = seasN v (upd (tA τ 62) (2 + j) (nI r)) k (2 + j)) := by
  have hb := h.1.2.2.2.2.2.1
  have hb1 := hb.1
  have hb2 := hb.2.1
  have e1 : (decide (nI 0 ≤ nI j) && decide (nI j < nI (vC v))) = true := by
    have a1 : nI 0 ≤ nI j := by rw [nI_leI (by omega) (by omega)]; omega
    have a2 : nI j < nI (vC v) := by rw [nI_ltI (by omega) (by omega)]; omega
    simp [a1, a2]
  unfold f_c_X0_ran
  rw [if_pos h.1.1, C_isColumn h.1, xbd_some, e1, if_neg (show ¬ b32 true = 0 by decide)]
  refine OK_bind (P := fun o => o.1 = nI (setP (fitR v (tA τ 62) j n0 R σ α β) (vW v)) ∧ NZ X c o.2 ∧ ∀ r k, r < vW v → k < min 31 (1000 - n0) → cA o.2 (X + 301 + r) k = seasN v (upd (tA τ 62) (2 + j) (nI r)) k (2 + j)) ?_ (fun o ho => OK_some ho)
  refine itr_for (fun r s => ∃ c', s = (nI (setP (fitR v (tA τ 62) j n0 R σ α β) r), nI r, c') ∧ NZ X c c' ∧ ∀ r' k, r' < r → k < min 31 (1000 - n0) → cA c' (X + 301 + r') k = seasN v (upd (tA τ 62) (2 + j) (nI r')) k (2 + j)) _ 0 (vW v) ?_ ?_ (by omega) (by omega) ⟨c, rfl, ⟨CZ.refl X c, h.2.2.2.2.1.2⟩, fun r' k hr' => by omega⟩
  · rintro r s - hr ⟨c', rfl, z1, z2⟩
    have iv' := h.cz z1.1 (TX.refl _ _ τ) z1.2
    obtain ⟨⟨b, c2⟩, e2, y1, y2, y3, y4⟩ := C_canRun (j := j) (r := r) iv' hg hy (hs.cz z1.1) hw hn0 hj hr
    have y1 : b = b32 (fitR v (tA τ 62) j n0 R σ α β r) := y1
    have h9 : ¬ nI (vW v) ≤ nI r := by rw [nI_leI (by omega) (by omega)]; omega
    subst y1
    show OK (Bc_X0_ran_14 g X (nI j) (nI (setP (fitR v (tA τ 62) j n0 R σ α β) r)) (nI r) c') _
    unfold Bc_X0_ran_14 Jc_X0_ran_42
    rw [if_pos h.1.1, iv'.1.2.1, Option.bind_some, if_pos iv'.1.b.1, iv'.1.b.2.2.1, if_neg h9, e2, xbd_some, or_nI r (by omega) _ (setP_lt r (by omega)), nl_1, nI_add]
    have fin : ∀ r' k, r' < r + 1 → k < min 31 (1000 - n0) → cA c2 (X + 301 + r') k = seasN v (upd (tA τ 62) (2 + j) (nI r')) k (2 + j) := fun r' k hr' hk => by
      by_cases er : r' = r
      · subst er; exact y3 k hk
      · have := (y4 (X + 301 + r') (by omega) (by omega) (by omega)).2.2.2.1 k
        rw [show cA c2 (X + 301 + r') k = cA c' (X + 301 + r') k from this]
        exact z2 r' k (by omega) hk
    have c1 : setP (fitR v (tA τ 62) j n0 R σ α β) (r + 1) = setP (fitR v (tA τ 62) j n0 R σ α β) r ||| (if fitR v (tA τ 62) j n0 R σ α β r = true then 2 ^ r else 0) := rfl
    have nz : NZ X c c2 := ⟨z1.1.trans y2.1, y2.2⟩
    cases hf : fitR v (tA τ 62) j n0 R σ α β r with
    | false =>
      rw [hf] at c1
      rw [if_pos (show b32 false = 0 by decide), show nI (setP (fitR v (tA τ 62) j n0 R σ α β) r) ||| 0 = nI (setP (fitR v (tA τ 62) j n0 R σ α β) r) from Int32.or_zero]
      refine OK_some (Or.inl ⟨_, rfl, c2, ?_, nz, fin⟩)
      rw [c1]; simp
    | true =>
      rw [hf] at c1
      rw [if_neg (show ¬ b32 true = 0 by decide)]
      refine OK_some (Or.inl ⟨_, rfl, c2, ?_, nz, fin⟩)
      rw [c1]; rfl
  · rintro s ⟨c', rfl, z1, z2⟩
    have iv' := h.cz z1.1 (TX.refl _ _ τ) z1.2
    have h9 : nI (vW v) ≤ nI (vW v) := by rw [nI_leI (by omega) (by omega)]; omega
    show OK (Bc_X0_ran_14 g X (nI j) _ (nI (vW v)) c') _
    unfold Bc_X0_ran_14
    rw [if_pos h.1.1, iv'.1.2.1, Option.bind_some, if_pos iv'.1.b.1, iv'.1.b.2.2.1, if_pos h9]
    exact OK_some ⟨_, rfl, rfl, z1, z2⟩
theorem I_ran {x : Int32} (h : IV g c τ X V v lo hi) (hg : SWG g X) (hy : RYG g X) (hs : SW c τ X v) : OK2 (f_c_X0_ran g X x c) (f_t_ran x τ) (RZ X c τ) := by
  have hb := h.1.2.2.2.2.2.1
  have hb1 := hb.1
  have hb2 := hb.2.1
  obtain ⟨R, σ, α, β, hs⟩ := hs.fn hb
  obtain ⟨n0, hn0, hw⟩ := h.2.2.2.2.2.2.2
  have hT := h.2.2.2.2.2.1
  by_cases hx : nI 0 ≤ x ∧ x < nI (vC v)
  · obtain ⟨j, hj, rfl⟩ := nI_lto (by omega) hx.1 hx.2
    obtain ⟨K, π, k1, k2⟩ := h.2.2.2.1
    obtain ⟨⟨a, c2⟩, e1, p1, p2, p3⟩ := C_ran (j := j) h hg hy hs hw hn0 hj
    obtain ⟨q, e2, y1, y2, y3, y4⟩ := T_laysFits (j := j) hT hb h.2.2.2.2.2.2.1 h.2.2.1.2.2.1.1 ⟨K, k1.2.1, k2.1⟩ hs.t hw hn0 hj
    have hT' : TV q v := hT.z y1
    have ec : (decide (nI 0 ≤ nI j) && decide (nI j < nI (vC v))) = true := by simp [hx.1, hx.2]
    have hL : OK (itr (fun s_ : Int32 × Int32 × TS => Bt_ran_20 s_.1 s_.2.1 s_.2.2) 4096 (0, 0, q)) (fun o => o = (nI (setP (fitR v (tA τ 62) j n0 R σ α β) (vW v)), q)) := by
      refine itr_for (fun r s => s = (nI (setP (fitR v (tA τ 62) j n0 R σ α β) r), nI r, q)) _ 0 (vW v) ?_ ?_ (by omega) (by omega) rfl
      · rintro r s - hr rfl
        have h9 : ¬ nI (vW v) ≤ nI r := by rw [nI_leI (by omega) (by omega)]; omega
        show OK (Bt_ran_20 (nI (setP (fitR v (tA τ 62) j n0 R σ α β) r)) (nI r) q) _
        unfold Bt_ran_20 Jt_ran_43
        rw [T_rowsMany, xbd_some, hT'.1.2.2.1, if_neg h9, if_pos (xin_nI (show r < 8 by omega) (by omega)), nI_clamp (show r < 2 ^ 31 by omega), y2 r hr, or_nI r (by omega) _ (setP_lt r (by omega)), nl_1, nI_add]
        have c1 : setP (fitR v (tA τ 62) j n0 R σ α β) (r + 1) = setP (fitR v (tA τ 62) j n0 R σ α β) r ||| (if fitR v (tA τ 62) j n0 R σ α β r = true then 2 ^ r else 0) := rfl
        cases hf : fitR v (tA τ 62) j n0 R σ α β r with
        | false =>
          rw [hf] at c1
          rw [if_pos (show b32 false = 0 by decide)]
          exact OK_some (Or.inl ⟨_, rfl, by rw [c1]; simp⟩)
        | true =>
          rw [hf] at c1
          rw [if_neg (show ¬ b32 true = 0 by decide)]
          exact OK_some (Or.inl ⟨_, rfl, by rw [c1]; rfl⟩)
      · rintro s rfl
        have h9 : nI (vW v) ≤ nI (vW v) := by rw [nI_leI (by omega) (by omega)]; omega
        show OK (Bt_ran_20 _ (nI (vW v)) q) _
        unfold Bt_ran_20
        rw [T_rowsMany, xbd_some, hT'.1.2.2.1, if_pos h9]
        exact OK_some ⟨_, rfl, rfl⟩
    obtain ⟨o, e3, rfl⟩ := hL
    unfold f_t_ran
    rw [e1, T_isColumn hT.1 hb, xbd_some, ec, if_neg (show ¬ b32 true = 0 by decide), e2, Option.bind_some, e3, Option.bind_some]
    exact OK2_some ⟨p1, p2.1, y1, p2.2⟩
  · have ec : (decide (nI 0 ≤ x) && decide (x < nI (vC v))) = false := by
      rw [Bool.eq_false_iff]; intro e; simp only [Bool.and_eq_true, decide_eq_true_eq] at e; exact hx e
    unfold f_c_X0_ran f_t_ran
    rw [if_pos h.1.1, C_isColumn h.1, xbd_some, T_isColumn hT.1 hb, xbd_some, ec, if_pos (show b32 false = 0 by decide), if_pos (show b32 false = 0 by decide)]
    exact OK2_some (RD.mk.z h.2.2.2.2.1.2)
end ZMs
