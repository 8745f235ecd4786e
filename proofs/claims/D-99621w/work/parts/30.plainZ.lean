/-! PLAIN LAW: the core of the invariant; the mutators -/
set_option maxRecDepth 100000
def LG (g : CG) (X : Nat) : Prop := gR g 109 X = some (X + 35) ∧ gR g 110 X = some (X + 103) ∧ StG g (X + 35) X ∧ StG g (X + 103) X ∧ WG g X ∧ HG g X ∧ RG g X ∧ UG g X
def CORE (g : CG) (c : CC) (τ : TS) (X V : Nat) (v : VD) (lo hi : Nat) : Prop := CX g c X V v lo hi ∧ LG g X ∧ KSt c v (X + 35) (tA τ 62) ∧ (∃ K π, RKp c (X + 103) K π) ∧ TV τ v ∧ tI τ 70 = nI 0 ∧ UR c τ X v ∧ RF c τ X
def fC (k : Nat) : Bool := k == 85 || k == 86 || fZ k
def aC (k : Nat) : Bool := k == 62 || k == 9 || k == 84 || aZ k
/-- what the core's methods leave alone -/
def FR (X : Nat) (c c' : CC) (τ τ' : TS) : Prop := EqF c c' X 121 ∧ (∀ a, a ≠ X → ¬ (a = X + 31 ∨ (X + 34 ≤ a ∧ a < X + 297) ∨ (X + 300 ≤ a ∧ a < X + 1670)) → Eq1 c c' a) ∧ TX fC aC τ τ'
theorem CX.of2 {g : CG} {c c' : CC} {X V lo hi : Nat} {v : VD} (h : CX g c X V v lo hi) (e : cR c' 100 X = cR c 100 X) (e2 : ∀ a, a ≠ X → (a < X + 27 ∨ X + 1671 ≤ a) → Eq1 c c' a) : CX g c' X V v lo hi := by
  obtain ⟨h1, h2, h3, h4, h5⟩ := h
  exact ⟨h1, by rw [e]; exact h2, h3.of (fun a a1 a2 => e2 a (h4 a a1 a2).1 (h4 a a1 a2).2), h4, h5⟩
theorem EqF.refl (c : CC) (a f : Nat) : EqF c c a f := (Eq1.refl c a).f
section ZZs
variable {g : CG} {c c' : CC} {τ τ' q : TS} {X V s lo hi n : Nat} {v : VD} {w : Nat → Int32}
theorem FR.refl : FR X c c τ τ := ⟨EqF.refl c X 121, fun a _ _ => Eq1.refl c a, TX.refl _ _ τ⟩
theorem FR.trans {c'' : CC} {τ'' : TS} (h : FR X c c' τ τ') (h' : FR X c' c'' τ' τ'') : FR X c c'' τ τ'' := ⟨h.1.trans h'.1, fun a a1 a2 => (h.2.1 a a1 a2).trans (h'.2.1 a a1 a2), h.2.2.trans h'.2.2⟩
theorem CORE.iv (h : CORE g c τ X V v lo hi) : IV g c τ X V v lo hi := by
  obtain ⟨h1, ⟨l1, l2, l3, l4, -⟩, ⟨k1, k2, k3, k4, k5⟩, h4, h5, h6, h7, h8⟩ := h
  exact ⟨h1, ⟨l1, l2⟩, ⟨l3, k1, k2, by omega⟩, k5, ⟨l4, h4⟩, h5, h6, k4⟩
theorem UR.of (h : UR c τ X v) (e1 : cI c' 121 X = cI c 121 X) (e2 : ∀ a, X + 309 ≤ a → a < X + 1670 → Eq1 c c' a) (e3 : tI τ' 85 = tI τ 85) (e4 : tI τ' 86 = tI τ 86) (e5 : ∀ i, tA τ' 84 i = tA τ 84 i) : UR c' τ' X v := by
  obtain ⟨U, N, ρ, hU, hN, u1, u2, u3, u4, u5, u6, u7⟩ := h
  refine ⟨U, N, ρ, hU, hN, by rw [e1]; exact u1, by rw [e3]; exact u2, by rw [e4]; exact u3, fun i hi => ?_, u5, fun i hi => ?_, fun i hi => ?_⟩
  · rw [(e2 (X + 309) (by omega) (by omega)).2.2.2.2.2]; exact u4 i hi
  · obtain ⟨K, π, hK⟩ := u6 i hi
    exact ⟨K, π, hK.of ⟨(e2 _ (by omega) (by omega)).1 602, fun a a1 a2 => e2 a (by omega) (by omega)⟩⟩
  · have := (u4 i (by omega)).2
    have k1 := (u7 i hi).of (c' := c') (fun a a1 a2 => e2 a (by omega) (by omega))
    rw [show (fun j => tA τ' 84 (303 * slot N U i + j)) = (fun j => tA τ 84 (303 * slot N U i + j)) from funext (fun j => e5 _)]
    exact k1
/-- thoughts keep the core -/
theorem CORE.cz (h : CORE g c τ X V v lo hi) (n : CZ X c c') (m : TX fZ aZ τ τ') (k : ∃ K π, RKp c' (X + 103) K π) : CORE g c' τ' X V v lo hi ∧ FR X c c' τ τ' := by
  obtain ⟨h1, h2, h3, h4, h5, h6, h7, h8⟩ := h
  have e : tA τ' 62 = tA τ 62 := funext (fun i => m.2.2.1 62 i rfl)
  refine ⟨⟨h1.cz n, h2, by rw [e]; exact h3.of (fun a a1 a2 => n a (by omega)), k, h5.z m, by rw [m.1 70 rfl rfl]; exact h6, h7.of ((n X (by omega)).1 121) (fun a a1 a2 => n a (by omega)) (m.1 85 rfl rfl) (m.1 86 rfl rfl) (fun i => m.2.2.1 84 i rfl), fun i hi => ?_⟩, (n X (by omega)).f, fun a a1 a2 => n a (by omega), m.mono (fun k hk => by unfold fC at hk; simp at hk; exact hk.2) (fun k hk => by unfold aC at hk; simp at hk; exact hk.2)⟩
  rw [(n (X + 34) (by omega)).2.2.2.1, m.2.2.1 9 i rfl]; exact h8 i hi
theorem CORE.rz {α : Type} {o : α × CC} {r : α × TS} (h : CORE g c τ X V v lo hi) (z : RZ X c τ o r) : o.1 = r.1 ∧ CORE g o.2 r.2 X V v lo hi ∧ FR X c o.2 τ r.2 := ⟨z.1, h.cz z.2.1 z.2.2.1 z.2.2.2⟩
theorem CORE.rd {α : Type} {o : α × CC} {r : α × TS} (h : CORE g c τ X V v lo hi) (z : RD X c τ o r) : o.1 = r.1 ∧ CORE g o.2 r.2 X V v lo hi ∧ FR X c o.2 τ r.2 := h.rz (z.z h.2.2.2.1)
/-- a refusal keeps the core -/
theorem CORE.ref {k : Nat} (h : CORE g c τ X V v lo hi) (hk : k < 6) : CORE g (uA c (X + 34) k (cA c (X + 34) k + nI 1)) (sA τ 9 k (tA τ 9 k + nI 1)) X V v lo hi ∧ FR X c (uA c (X + 34) k (cA c (X + 34) k + nI 1)) τ (sA τ 9 k (tA τ 9 k + nI 1)) := by
  obtain ⟨h1, h2, h3, ⟨K, π, h4⟩, h5, h6, h7, h8⟩ := h
  have n : ∀ a, a ≠ X + 34 → Eq1 c (uA c (X + 34) k (cA c (X + 34) k + nI 1)) a := fun a ha => (Eq1.refl c a).uA ha
  have m : TX fC aC τ (sA τ 9 k (tA τ 9 k + nI 1)) := (TX.refl _ _ τ).sA rfl
  have e : tA (sA τ 9 k (tA τ 9 k + nI 1)) 62 = tA τ 62 := tA_updn (by omega)
  refine ⟨⟨h1.of2 rfl (fun a a1 a2 => n a (by omega)), h2, by rw [e]; exact h3.of (fun a a1 a2 => n a (by omega)), ⟨K, π, h4.of ⟨(n _ (by omega)).1 602, fun a a1 a2 => n a (by omega)⟩⟩, h5.of rfl rfl (fun k' i hk' => by rw [tA_sA, if_neg (by omega)]), h6, h7.of rfl (fun a a1 a2 => n a (by omega)) rfl rfl (fun i => by rw [tA_sA, if_neg (by omega)]), h8.more hk⟩, (n X (by omega)).f, fun a a1 a2 => n a (by omega), m⟩
theorem M_undo (h : CORE g c τ X V v lo hi) : OK2 (f_c_X0_undo g X c) (f_t_undo τ) (fun o r => o.1 = r.1 ∧ CORE g o.2 r.2 X V v lo hi ∧ FR X c o.2 τ r.2) := by
  obtain ⟨h1, h2, h3, ⟨K, π, h4⟩, h5, h6, h7, h8⟩ := id h
  obtain ⟨o, r, e1, e2, p1, p2⟩ := I_undo h1.1 h2.1 h2.2.2.2.2.2.2.1 h2.2.2.2.2.2.2.2 h2.2.2.1 h1.2.2.2.2.2.1 h3 h7
  refine ⟨o, r, e1, e2, p1, ?_⟩
  rcases p2 with ⟨q1, q2⟩ | ⟨q1, q2, q3, q4, q5⟩
  · rw [q1, q2]; exact h.ref (by omega)
  · refine ⟨⟨h1.of2 (q3.2.2.1 100) (fun a a1 a2 => q4 a a1 (by omega)), h2, q2, ⟨K, π, h4.of ⟨(q4 _ (by omega) (by omega)).1 602, fun a a1 a2 => q4 a (by omega) (by omega)⟩⟩, h5.tx q5 ⟨rfl, rfl⟩ ⟨rfl, rfl, rfl, rfl, rfl, rfl⟩, by rw [q5.1 70 rfl rfl]; exact h6, q1, fun i hi => ?_⟩, q3, fun a a1 a2 => q4 a a1 (by omega), q5.mono (fun k hk => by unfold fC at hk; unfold in8586; simp at hk ⊢; omega) (fun k hk => by unfold aC at hk; unfold in62; simp at hk ⊢; omega)⟩
    rw [(q4 (X + 34) (by omega) (by omega)).2.2.2.1, q5.2.2.1 9 i rfl]; exact h8 i hi
/-- the state is kept for undo -/
theorem M_keeps (h : CORE g c τ X V v lo hi) : OK2 (f_c_X0_keeps g X c) (f_t_keeps τ) (fun c' q => CORE g c' q X V v lo hi ∧ FR X c c' τ q ∧ tA q 62 = tA τ 62) := by
  obtain ⟨h1, h2, h3, ⟨K, π, h4⟩, h5, h6, h7, h8⟩ := id h
  obtain ⟨c', q, e1, e2, p1, p2, p3, p4⟩ := I_keeps h1.1 h2.1 h2.2.2.2.2.2.2.2 h2.2.2.1 h1.2.2.2.2.2.1 h3 h7
  have e : tA q 62 = tA τ 62 := funext (fun i => p4.2.2.1 62 i rfl)
  refine ⟨c', q, e1, e2, ⟨h1.of2 (p2.2.2.1 100) (fun a a1 a2 => p3 a a1 (by omega)), h2, by rw [e]; exact h3.of (fun a a1 a2 => p3 a (by omega) (by omega)), ⟨K, π, h4.of ⟨(p3 _ (by omega) (by omega)).1 602, fun a a1 a2 => p3 a (by omega) (by omega)⟩⟩, h5.tx p4 ⟨rfl, rfl⟩ ⟨rfl, rfl, rfl, rfl, rfl, rfl⟩, by rw [p4.1 70 rfl rfl]; exact h6, p1, fun i hi => ?_⟩, ⟨p2, fun a a1 a2 => p3 a a1 (by omega), p4.mono (fun k hk => by unfold fC at hk; unfold in8586; simp at hk ⊢; omega) (fun k hk => by unfold aC at hk; unfold in84; simp at hk ⊢; omega)⟩, e⟩
  rw [(p3 (X + 34) (by omega) (by omega)).2.2.2.1, p4.2.2.1 9 i rfl]; exact h8 i hi
end ZZs
