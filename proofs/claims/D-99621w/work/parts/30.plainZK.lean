/-! PLAIN LAW: where it ran: the component's canRun; the twin's laysFits -/
set_option maxRecDepth 100000
section ZKs
variable {g : CG} {c c' : CC} {τ τ' q : TS} {X V s lo hi n m : Nat} {v : VD} {w : Nat → Int32} {R : Nat} {σ α β : Nat → Nat}
theorem SWf.cz (h : SWf c τ X v R σ α β) (z : CZ X c c') : SWf c' τ X v R σ α β := by
  obtain ⟨h1, h2, h3, h4⟩ := h
  refine ⟨h1, by rw [(z X (by omega)).1 118]; exact h2, h3, fun k hk => ?_⟩
  rw [(z (X + 297) (by omega)).2.2.2.1, (z (X + 298) (by omega)).2.2.2.1, (z (X + 299) (by omega)).2.2.2.1]
  exact h4 k hk
theorem C_canRun {j r n0 : Nat} (h : IV g c τ X V v lo hi) (hg : SWG g X) (hy : RYG g X) (hs : SWf c τ X v R σ α β) (hw : tA τ 62 0 = nI n0) (hn0 : n0 ≤ 999) (hj : j < vC v) (hr : r < vW v) :
    OK (f_c_X0_canRun g X (nI j) (nI r) c) (fun o => o.1 = b32 (fitS v (upd (tA τ 62) (2 + j) (nI r)) (min 31 (1000 - n0)) R σ α β) ∧ NZ X c o.2 ∧ (∀ k, k < min 31 (1000 - n0) → cA o.2 (X + 301 + r) k = seasN v (upd (tA τ 62) (2 + j) (nI r)) k (2 + j)) ∧ ∀ a, X + 300 ≤ a → a < X + 309 → a ≠ X + 301 + r → Eq1 c o.2 a) := by
  have hb := h.1.2.2.2.2.2.1
  have hb1 := hb.1
  have hb2 := hb.2.1
  obtain ⟨o, q, e1, e2, p1, p2, p3, p4, p5, -, p7, -⟩ := I_aside h
  obtain ⟨x, c1⟩ := o
  have p1 : x = X + 103 := p1
  subst p1
  have th := p2 n0 hw
  have t0 : CT g c1 X (X + 103) v (tA τ 62) := by have := th.2.2.1; rw [p5] at this; exact this
  have c1z : CZ X c c1 := p3.cz
  have c2z : CZ X c (uA c1 (X + 103 + 1) j (nI r)) := c1z.uA (by omega)
  have t1 : CT g (uA c1 (X + 103 + 1) j (nI r)) X (X + 103) v (upd (tA τ 62) (2 + j) (nI r)) := ⟨t0.1, RS_row t0.2.1 (by omega), WB_row hb t0.2.2.1 hj hr, t0.2.2.2⟩
  have k1 : ∃ K π, RKp (uA c1 (X + 103 + 1) j (nI r)) (X + 103) K π := by
    obtain ⟨K, π, hk⟩ := th.2.2.2.1
    exact ⟨K, π, hk.of ((KS.refl _ _).uA (by omega))⟩
  generalize hwd : upd (tA τ 62) (2 + j) (nI r) = w at t1 ⊢
  have hw0 : w 0 = nI n0 := by rw [← hwd, pk_un (by omega)]; exact hw
  have hWR : WR v w := t1.2.2.1.1
  have hL : OK (itr (fun s_ : Int32 × Int32 × CC => Bc_X0_canRun_22 g X (nI j) (nI r) s_.1 s_.2.1 s_.2.2) 4096 (0, 0, uA c1 (X + 103 + 1) j (nI r))) (fun o => o.1 = nI (cntN (fun i => decide (σ i < min 31 (1000 - n0)) && okS v w σ α β i) R) ∧ NZ X c o.2 ∧ (∀ k, k < min 31 (1000 - n0) → cA o.2 (X + 301 + r) k = seasN v w k (2 + j)) ∧ ∀ a, X + 300 ≤ a → a < X + 309 → a ≠ X + 301 + r → Eq1 c o.2 a) := by
    refine itr_for (fun k s => ∃ c', s = (nI (cntN (fun i => decide (σ i < k) && okS v w σ α β i) R), nI k, c') ∧ CT g c' X (X + 103) v (seasN v w k) ∧ NZ X c c' ∧ (∀ k', k' < k → cA c' (X + 301 + r) k' = seasN v w k' (2 + j)) ∧ ∀ a, X + 300 ≤ a → a < X + 309 → a ≠ X + 301 + r → Eq1 c c' a) _ 0 (min 31 (1000 - n0)) ?_ ?_ (by omega) (by omega) ⟨_, ?_, t1, ⟨c2z, k1⟩, fun k' hk' => by omega, fun a a1 a2 a3 => ?_⟩
    · rintro k s - hk ⟨c', rfl, q1, q2, q3, q4⟩
      have iv' := h.cz q2.1 (TX.refl _ _ τ) q2.2
      have hA := C_isAhead (x := nI k) (a := nI 0) (b := nI 30) iv'
      rw [ahead_dec (by omega) hw hn0 (by omega) (by omega) (by omega), decide_eq_true (show 0 ≤ k ∧ k ≤ 30 ∧ n0 + k ≤ 999 by omega)] at hA
      have hs' := hs.cz (c' := c') q2.1
      show OK (Bc_X0_canRun_22 g X (nI j) (nI r) _ (nI k) c') _
      unfold Bc_X0_canRun_22
      rw [if_pos h.1.1, nl_0, nl_30, hA, xbd_some, if_neg (show ¬ b32 true = nI 0 by decide), hy.1, Option.bind_some, if_pos hy.2.1, hy.2.2.1, if_pos (xin_nI (show r < 8 by omega) (by omega)), h.2.1.2, Option.bind_some, if_pos q1.1.1, q1.1.2.2.1.1, Option.bind_some, if_pos q1.1.2.2.1.2.1, q1.1.2.2.1.2.2, if_pos (xin_nI (show j < 10 by omega) (by omega)), nI_clamp (show r < 2 ^ 31 by omega), (hy.2.2.2 r (by omega)).1, if_pos (hy.2.2.2 r (by omega)).2.1, (hy.2.2.2 r (by omega)).2.2, if_pos (xin_nI (show k < 31 by omega) (by omega)), nI_clamp (show k < 2 ^ 31 by omega), nI_clamp (show j < 2 ^ 31 by omega), q1.2.1.2.2.1 j (by omega)]
      have c3z : CZ X c (uA c' (X + 301 + r) k (seasN v w k (2 + j))) := q2.1.uA (by omega)
      have t3 : CT g (uA c' (X + 301 + r) k (seasN v w k (2 + j))) X (X + 103) v (seasN v w k) := q1.of (fun a a1 a2 => (Eq1.refl c' a).uA (by omega))
      have k3 : ∃ K π, RKp (uA c' (X + 301 + r) k (seasN v w k (2 + j))) (X + 103) K π := by
        obtain ⟨K, π, hk⟩ := q2.2
        exact ⟨K, π, hk.of ⟨((Eq1.refl c' _).uA (by omega)).1 602, fun a a1 a2 => (Eq1.refl c' a).uA (by omega)⟩⟩
      have met := C_met (x1 := nI j) (x2 := nI r) (k := k) (m := cntN (fun i => decide (σ i < k) && okS v w σ α β i) R) (h.1.cz c3z) h.2.1.2 t3 hg (hs.cz c3z) (by omega)
      have met' : itr (fun s_ : Int32 × Int32 × CC => Bc_X0_canRun_55 g X (nI j) (nI r) (nI k) s_.1 s_.2.1 s_.2.2) 4096 (nI (cntN (fun i => decide (σ i < k) && okS v w σ α β i) R), nI 0, uA c' (X + 301 + r) k (seasN v w k (2 + j))) = _ := met
      rw [met', Option.bind_some]
      obtain ⟨K, π, k3⟩ := k3
      obtain ⟨⟨r9, c9⟩, e9, u1, u2, u3, u4, K', π', u5, -⟩ := C_passes (G := fun z => cA (uA c' (X + 301 + r) k (seasN v w k (2 + j))) (X + 103 + 67) z) (h.1.cz c3z) t3 (fun _ _ => rfl) k3 (seasN_0 hb hWR hw0 k) (by omega)
      rw [e9, xbd_some, nl_1, nI_add]
      refine OK_some (Or.inl ⟨_, rfl, c9, ?_, ?_, ⟨c3z.trans u4.cz, K', π', u5⟩, fun k' hk' => ?_, fun a a1 a2 a3 => ?_⟩)
      · have ce : cntN (fun i => decide (σ i = k) && decide (seasN v w k (2 + α i) = nI (β i))) R = cntN (fun i => decide (σ i = k) && okS v w σ α β i) R := cntN_ext (fun i hi => by
          by_cases ei : σ i = k
          · unfold okS; rw [ei]
          · simp [ei])
        show (nI (cntN (fun i => decide (σ i < k) && okS v w σ α β i) R + cntN (fun i => decide (σ i = k) && decide (seasN v w k (2 + α i) = nI (β i))) R), nI (k + 1), c9) = _
        rw [ce, cntN_split]
      · show CT g c9 X (X + 103) v (seasonW v true (seasN v w k) (fun _ => nI 0))
        rw [seasonW_G (G' := fun z => cA (uA c' (X + 301 + r) k (seasN v w k (2 + j))) (X + 103 + 67) z)]; exact u2
      · rw [(u4 (X + 301 + r) (by omega) (by omega)).2.2.2.1, cA_uA]
        by_cases ek : k' = k
        · subst ek; rw [if_pos ⟨rfl, rfl⟩]
        · rw [if_neg (fun z => ek z.2)]; exact q3 k' (by omega)
      · exact ((q4 a a1 a2 a3).uA a3).trans (u4 a (by omega) (by omega))
    · rintro s ⟨c', rfl, q1, q2, q3, q4⟩
      have iv' := h.cz q2.1 (TX.refl _ _ τ) q2.2
      have hA := C_isAhead (x := nI (min 31 (1000 - n0))) (a := nI 0) (b := nI 30) iv'
      rw [ahead_dec (by omega) hw hn0 (by omega) (by omega) (by omega), decide_eq_false (show ¬ (0 ≤ min 31 (1000 - n0) ∧ min 31 (1000 - n0) ≤ 30 ∧ n0 + min 31 (1000 - n0) ≤ 999) by omega)] at hA
      show OK (Bc_X0_canRun_22 g X (nI j) (nI r) _ (nI (min 31 (1000 - n0))) c') _
      unfold Bc_X0_canRun_22
      rw [if_pos h.1.1, nl_0, nl_30, hA, xbd_some, if_pos (show b32 false = nI 0 by decide)]
      exact OK_some ⟨_, rfl, rfl, q2, q3, q4⟩
    · rw [show cntN (fun i => decide (σ i < 0) && okS v w σ α β i) R = 0 from cntN_zero (fun i hi => by simp)]; rfl
    · exact (p3 a (by omega) (by omega)).uA (by omega)
  unfold f_c_X0_canRun
  rw [if_pos h.1.1, h.2.1.2, Option.bind_some, h.2.1.1, Option.bind_some, if_pos t0.1.1, e1, xbd_some, if_pos t0.1.1, t0.1.2.2.1.1, Option.bind_some, if_pos t0.1.2.2.1.2.1, t0.1.2.2.1.2.2, if_pos (xin_nI (show j < 10 by omega) (by omega)), nI_clamp (show j < 2 ^ 31 by omega)]
  obtain ⟨⟨mt, c4⟩, e4, m1, m2, m3, m4⟩ := hL
  rw [e4, Option.bind_some]
  have m1 : mt = nI (cntN (fun i => decide (σ i < min 31 (1000 - n0)) && okS v w σ α β i) R) := m1
  have hc := cntN_le (P := fun i => decide (σ i < min 31 (1000 - n0)) && okS v w σ α β i) R
  have hR := hs.1
  subst m1
  show OK (if nI (cntN (fun i => decide (σ i < min 31 (1000 - n0)) && okS v w σ α β i) R) = cI c4 118 X then some (1, c4) else some (0, c4)) _
  rw [(m2.1 X (by omega)).1 118, hs.2.1]
  unfold fitS
  by_cases ea : allN (fun i => decide (σ i < min 31 (1000 - n0)) && okS v w σ α β i) R = true
  · rw [if_pos (by rw [(cntN_all R).mpr ea]), ea]
    exact OK_some ⟨rfl, m2, m3, m4⟩
  · rw [if_neg (by rw [nI_eq (by omega) (by omega)]; exact fun z => ea ((cntN_all R).mp z)), Bool.eq_false_iff.mpr ea]
    exact OK_some ⟨rfl, m2, m3, m4⟩
end ZKs
