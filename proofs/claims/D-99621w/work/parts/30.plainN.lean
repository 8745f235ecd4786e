/-! PLAIN LAW: the component's works -/
set_option maxRecDepth 100000
def runS (v : VD) (w : Nat → Int32) (n c : Nat) (r : Int32) : Bool := decide (seasN v w n (2 + c) = r)
def ful (w : Nat → Int32) (k : Nat) : Bool := !decide (w (12 + k) < nI 9)
def ok1 (v : VD) (w : Nat → Int32) (n c : Nat) (r : Int32) (k : Nat) : Bool := !ful w k && runS v (plS w k) n c r
def ok2 (v : VD) (w : Nat → Int32) (n c : Nat) (r : Int32) (k i : Nat) : Bool := !ful w k && !ful (plS w k) i && runS v (plS (plS w k) i) n c r
def okM (v : VD) (w : Nat → Int32) (n c : Nat) (r : Int32) (m a b : Nat) : Bool := if m = 0 then runS v w n c r else if m = 1 then ok1 v w n c r (cel v a) else ok2 v w n c r (cel v a) (cel v b)
def W9 (w : Nat → Int32) : Prop := ∀ k, k < 80 → ∃ n, n ≤ 9 ∧ w (12 + k) = nI n
def NZ (X : Nat) (c c' : CC) : Prop := CZ X c c' ∧ ∃ K π, RKp c' (X + 103) K π
def WG (g : CG) (X : Nat) : Prop := gR g 111 X = some (X + 171) ∧ gT g (X + 171) = 100 ∧ gN g (X + 171) = 2
section CNs
variable {g : CG} {c : CC} {τ : TS} {X V lo hi : Nat} {v : VD} {w : Nat → Int32}
theorem C_aside (h : IV g c τ X V v lo hi) : OK (f_c_X5_copy g (X + 103) (X + 35) c) (fun o => o.1 = X + 103 ∧ CT g o.2 X (X + 103) v (tA τ 62) ∧ CF X (X + 103) c o.2 ∧ (∃ K π, RKp o.2 (X + 103) K π) ∧ RH o.2 (X + 103) 5 (fun _ => nI 0)) := by
  obtain ⟨h1, h2, h3, ⟨K, π, k1, k2⟩, ⟨h5, K', π', k3⟩, h6, h7, -⟩ := h
  have hb := h1.2.2.2.2.2.1
  obtain ⟨o, e1, p1, p2, p3, p4, p5, p6⟩ := C_copy h5 h3.1 (by omega) k3 k1
  exact ⟨o, e1, p1, ⟨h5, p2 _ _ hb.2.2.2.1 (fun k hk => (h3.2.2.1.2.2.2.2 k hk).1) h3.2.1, h3.2.2.1, by omega⟩, p6.cf, ⟨K, π', p4⟩, p3⟩
theorem C_run146 {m n j a b k : Nat} {y : Int32} {can : Bool} (hx : CX g c X V v lo hi) (h110 : gR g 110 X = some (X + 103)) (hg : WG g X) (ht : CT g c X (X + 103) v w) (hK : ∃ K π, RKp c (X + 103) K π) (hw : w 0 = nI k) (hn : k + n ≤ 4000) (hj : j < 10) :
    OK (Jc_X0_runsBy_146 g X (nI m) (nI j) y (nI n) (nI a) (nI b) (b32 can) c) (fun o => ∃ c2, NZ X c c2 ∧ (((can && runS v w n j y) = true ∧ o = .inr (.inr (1, c2)) ∧ cA c2 (X + 171) 0 = nI a ∧ cA c2 (X + 171) 1 = nI b) ∨ ((can && runS v w n j y) = false ∧ o = .inl (nI (b + 1), c2)))) := by
  unfold Jc_X0_runsBy_146 Jc_X0_runsBy_190
  simp only [nl_0, nl_1, b32_0, nI_add]
  cases can with
  | false =>
    rw [if_pos rfl]
    exact ⟨_, rfl, c, ⟨CZ.refl X c, hK⟩, Or.inr ⟨rfl, rfl⟩⟩
  | true =>
    rw [if_neg (by decide)]
    obtain ⟨⟨r, c1⟩, e, p1, p2, p3, p4, -⟩ := C_seasons hx ht hK hw hn
    have p1 : r = X + 103 := p1
    subst p1
    simp only [hx.1, h110, ht.1.1, Option.bind_some, e, xbd_some, reduceIte, ht.1.2.2.1, xin_nI (show j < 10 from hj) (by omega), nI_clamp (show j < 2 ^ 31 by omega), p2.2.1.2.2.1 j hj, hg.1, hg.2.1, hg.2.2, show xin (nI 0) 2 = true by decide, show xin (nI 1) 2 = true by decide, show (nI 0).toNatClampNeg = 0 by decide, show (nI 1).toNatClampNeg = 1 by decide, Bool.true_and]
    by_cases er : seasN v w n (2 + j) = y
    · rw [if_pos er]
      obtain ⟨K, π, p4⟩ := p4
      refine ⟨_, rfl, _, ⟨(p3.cz.uA (by omega)).uA (by omega), K, π, p4.of (((KS.refl _ _).uA (by omega)).uA (by omega))⟩, Or.inl ⟨by unfold runS; exact decide_eq_true er, rfl, ?_, ?_⟩⟩
      · rw [cA_uA, if_neg (by omega), cA_uA, if_pos ⟨rfl, rfl⟩]
      · rw [cA_uA, if_pos ⟨rfl, rfl⟩]
    · rw [if_neg er]
      exact ⟨_, rfl, c1, ⟨p3.cz, p4⟩, Or.inr ⟨by unfold runS; exact decide_eq_false er, rfl⟩⟩
theorem NZ.trans {c' c'' : CC} (h : CZ X c c') (h' : NZ X c' c'') : NZ X c c'' := ⟨h.trans h'.1, h'.2⟩
theorem C_run48 {m n j a b k : Nat} {y s0 : Int32} (h : IV g c τ X V v lo hi) (hg : WG g X) (h9 : W9 (tA τ 62)) (hw : tA τ 62 0 = nI k) (hn : k + n ≤ 4000) (hj : j < 10) (hm : m ≤ 2) (ha : 1 ≤ m → a < vC v * vW v) (hb : 2 ≤ m → b < vC v * vW v) (hlt : ¬ s0 ≤ nI b) :
    OK (Jc_X0_runsBy_48 g X (nI m) (nI j) y (nI n) (nI a) (nI b) s0 (nI b) c) (fun o => ∃ c2, NZ X c c2 ∧ ((okM v (tA τ 62) n j y m a b = true ∧ o = .inr (.inr (1, c2)) ∧ cA c2 (X + 171) 0 = nI a ∧ cA c2 (X + 171) 1 = nI b) ∨ (okM v (tA τ 62) n j y m a b = false ∧ o = .inl (nI (b + 1), c2)))) := by
  obtain ⟨⟨r, c1⟩, e1, p1, p2, p3, p4, -⟩ := C_aside h
  have p1 : r = X + 103 := p1
  subst p1
  obtain ⟨h1, h2, -⟩ := id h
  have hvb := h1.2.2.2.2.2.1
  have x1 := h1.cf (by omega) p3
  unfold Jc_X0_runsBy_48
  rw [if_neg hlt]
  rw [if_pos h1.1, h2.1, h2.2, Option.bind_some, Option.bind_some, if_pos p2.1.1, e1, xbd_some]
  rcases (show m = 0 ∨ m = 1 ∨ m = 2 by omega) with rfl | rfl | rfl
  · rw [if_pos (show nI 0 = 0 by decide)]
    unfold Jc_X0_runsBy_80 Jc_X0_runsBy_85
    rw [if_pos (by decide)]
    unfold Jc_X0_runsBy_101
    rw [if_neg (by decide), if_pos (by decide)]
    unfold Jc_X0_runsBy_124 Jc_X0_runsBy_129
    rw [if_pos (by decide)]
    obtain ⟨o, e, c2, q1, q2⟩ := C_run146 (m := 0) (n := n) (j := j) (a := a) (b := b) (y := y) (can := true) x1 h2.2 hg p2 p4 hw hn hj
    refine ⟨o, e, c2, NZ.trans p3.cz q1, ?_⟩
    unfold okM; rw [if_pos rfl]
    exact q2
  · obtain ⟨ca1, ca2, ca3, ca4, ca5, ca6⟩ := cel_b hvb (ha (by omega))
    have hc80 : cel v a < 80 := by unfold cel; generalize a / vW v = p at *; generalize a % vW v = r at *; omega
    obtain ⟨z, hz1, hz2⟩ := h9 (cel v a) hc80
    rw [if_neg (show ¬ nI 1 = 0 by decide), C_isFull x1 p2 (ha (by omega)), xbd_some]
    obtain ⟨c2, e2, t1, t2, t3, -⟩ := C_plants x1 p2 (ha (by omega)) (show z ≤ 50 by omega) hz2
    obtain ⟨K, π, p4⟩ := p4
    have key : ∀ can : Bool, OK (Jc_X0_runsBy_85 g X (nI 1) (nI j) y (nI n) (nI a) (nI b) (b32 can) c1) (fun o => ∃ c2, NZ X c c2 ∧ (((can && runS v (plS (tA τ 62) (cel v a)) n j y) = true ∧ o = .inr (.inr (1, c2)) ∧ cA c2 (X + 171) 0 = nI a ∧ cA c2 (X + 171) 1 = nI b) ∨ ((can && runS v (plS (tA τ 62) (cel v a)) n j y) = false ∧ o = .inl (nI (b + 1), c2)))) := by
      intro can
      unfold Jc_X0_runsBy_85
      rw [if_neg (by decide), if_pos h1.1, h2.2, Option.bind_some, e2, Option.bind_some]
      have fin := fun can : Bool => C_run146 (m := 1) (n := n) (j := j) (a := a) (b := b) (y := y) (can := can) (x1.cf (by omega) t2) h2.2 hg t1 ⟨K, π, p4.of t3⟩ (by unfold plS; rw [pk_un (by omega)]; exact hw) hn hj
      have g1 : Jc_X0_runsBy_101 g X (nI 1) (nI j) y (nI n) (nI a) (nI b) (b32 can) c2 = Jc_X0_runsBy_146 g X (nI 1) (nI j) y (nI n) (nI a) (nI b) (b32 can) c2 := by
        unfold Jc_X0_runsBy_101 Jc_X0_runsBy_128 Jc_X0_runsBy_124 Jc_X0_runsBy_129
        cases can
        · rw [if_pos (by decide), if_pos (by decide)]; rfl
        · rw [if_neg (by decide), if_pos (by decide), if_pos (by decide)]; rfl
      rw [g1]
      obtain ⟨o, e, c3, q1, q2⟩ := fin can
      exact ⟨o, e, c3, NZ.trans (p3.cz.trans t2.cz) q1, q2⟩
    rw [show okM v (tA τ 62) n j y 1 a b = ok1 v (tA τ 62) n j y (cel v a) from rfl]
    unfold ok1
    have kk := key (!ful (tA τ 62) (cel v a))
    rw [show (!decide (tA τ 62 (12 + cel v a) < nI 9)) = ful (tA τ 62) (cel v a) from rfl]
    cases hf : ful (tA τ 62) (cel v a) with
    | false => rw [hf] at kk; rw [if_pos (by decide)]; unfold Jc_X0_runsBy_80; exact kk
    | true => rw [hf] at kk; rw [if_neg (by decide)]; exact kk
  · have haP := ha (by omega)
    have hbP := hb (by omega)
    obtain ⟨ca1, ca2, ca3, ca4, ca5, ca6⟩ := cel_b hvb haP
    obtain ⟨cb1, cb2, cb3, cb4, cb5, cb6⟩ := cel_b hvb hbP
    have hc80 : cel v a < 80 := by unfold cel; generalize a / vW v = p at *; generalize a % vW v = r at *; omega
    have hd80 : cel v b < 80 := by unfold cel; generalize b / vW v = p at *; generalize b % vW v = r at *; omega
    obtain ⟨z, hz1, hz2⟩ := h9 (cel v a) hc80
    obtain ⟨z', hz3, hz4⟩ : ∃ z', z' ≤ 10 ∧ plS (tA τ 62) (cel v a) (12 + cel v b) = nI z' := by
      unfold plS
      by_cases e : cel v b = cel v a
      · rw [e, pk_us, hz2, nI_add]; exact ⟨z + 1, by omega, rfl⟩
      · rw [pk_un (by omega)]
        obtain ⟨z2, q1, q2⟩ := h9 (cel v b) hd80
        exact ⟨z2, by omega, q2⟩
    rw [if_neg (show ¬ nI 2 = 0 by decide), C_isFull x1 p2 haP, xbd_some]
    obtain ⟨c2, e2, t1, t2, t3, -⟩ := C_plants x1 p2 haP (show z ≤ 50 by omega) hz2
    have x2 := x1.cf (by omega) t2
    obtain ⟨c3, e3, u1, u2, u3, -⟩ := C_plants x2 t1 hbP (show z' ≤ 50 by omega) hz4
    have x3 := x2.cf (by omega) u2
    obtain ⟨K, π, p4⟩ := p4
    have key : ∀ can : Bool, OK (Jc_X0_runsBy_85 g X (nI 2) (nI j) y (nI n) (nI a) (nI b) (b32 can) c1) (fun o => ∃ c2, NZ X c c2 ∧ (((can && !ful (plS (tA τ 62) (cel v a)) (cel v b) && runS v (plS (plS (tA τ 62) (cel v a)) (cel v b)) n j y) = true ∧ o = .inr (.inr (1, c2)) ∧ cA c2 (X + 171) 0 = nI a ∧ cA c2 (X + 171) 1 = nI b) ∨ ((can && !ful (plS (tA τ 62) (cel v a)) (cel v b) && runS v (plS (plS (tA τ 62) (cel v a)) (cel v b)) n j y) = false ∧ o = .inl (nI (b + 1), c2)))) := by
      intro can
      unfold Jc_X0_runsBy_85
      rw [if_neg (by decide), if_pos h1.1, h2.2, Option.bind_some, e2, Option.bind_some]
      have fin := fun can : Bool => C_run146 (m := 2) (n := n) (j := j) (a := a) (b := b) (y := y) (can := can) x3 h2.2 hg u1 ⟨K, π, (p4.of t3).of u3⟩ (by unfold plS; rw [pk_un (by omega), pk_un (by omega)]; exact hw) hn hj
      have g1 : Jc_X0_runsBy_101 g X (nI 2) (nI j) y (nI n) (nI a) (nI b) (b32 can) c2 = Jc_X0_runsBy_146 g X (nI 2) (nI j) y (nI n) (nI a) (nI b) (b32 (can && !ful (plS (tA τ 62) (cel v a)) (cel v b))) c3 := by
        have j129 : ∀ s0, Jc_X0_runsBy_129 g X (nI 2) (nI j) y (nI n) (nI a) (nI b) s0 c2 = Jc_X0_runsBy_146 g X (nI 2) (nI j) y (nI n) (nI a) (nI b) s0 c3 := by
          intro s0
          unfold Jc_X0_runsBy_129
          rw [if_neg (show ¬ nI 2 ≤ 1 by decide), if_pos h1.1, h2.2, Option.bind_some, e3, Option.bind_some]
        unfold Jc_X0_runsBy_101 Jc_X0_runsBy_128 Jc_X0_runsBy_124
        cases can
        · rw [if_pos (show b32 false = 0 by decide), j129]; rfl
        · rw [if_neg (show ¬ b32 true = 0 by decide), if_neg (show ¬ nI 2 < 2 by decide), if_pos h1.1, h2.2, Option.bind_some, C_isFull x2 t1 hbP, xbd_some, show (!decide (plS (tA τ 62) (cel v a) (12 + cel v b) < nI 9)) = ful (plS (tA τ 62) (cel v a)) (cel v b) from rfl, j129, j129]
          cases ful (plS (tA τ 62) (cel v a)) (cel v b)
          · rw [if_pos (show b32 false = 0 by decide)]; rfl
          · rw [if_neg (show ¬ b32 true = 0 by decide)]; rfl
      rw [g1]
      obtain ⟨o, e, c3, q1, q2⟩ := fin (can && !ful (plS (tA τ 62) (cel v a)) (cel v b))
      exact ⟨o, e, c3, NZ.trans ((p3.cz.trans t2.cz).trans u2.cz) q1, q2⟩
    rw [show okM v (tA τ 62) n j y 2 a b = ok2 v (tA τ 62) n j y (cel v a) (cel v b) from rfl]
    unfold ok2
    have kk := key (!ful (tA τ 62) (cel v a))
    rw [show (!decide (tA τ 62 (12 + cel v a) < nI 9)) = ful (tA τ 62) (cel v a) from rfl]
    cases hf : ful (tA τ 62) (cel v a) with
    | false => rw [hf] at kk; rw [if_pos (by decide)]; unfold Jc_X0_runsBy_80; exact kk
    | true => rw [hf] at kk; rw [if_neg (by decide)]; exact kk
end CNs
