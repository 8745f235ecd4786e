/-! PLAIN LAW: what can be undone: both -/
set_option maxRecDepth 100000
/-- the fund is small -/
def FB (w : Nat → Int32) : Prop := ∃ n, n ≤ 999999 ∧ w 1 = nI n
/-- a state with its contents -/
def KSt (c : CC) (v : VD) (s : Nat) (w : Nat → Int32) : Prop := RS c s (vN v) w ∧ WB v w ∧ (W9 w ∧ FB w) ∧ (∃ n, n ≤ 999 ∧ w 0 = nI n) ∧ ∃ K π, RKp c s K π ∧ RKw c s K π w
theorem KSt.of {c c' : CC} {v : VD} {s : Nat} {w : Nat → Int32} (h : KSt c v s w) (e : ∀ a, s ≤ a → a < s + 68 → Eq1 c c' a) : KSt c' v s w := by
  obtain ⟨h1, h2, h3, h4, K, π, h5, h6⟩ := h
  have ks : KS s c c' := ⟨(e s (by omega) (by omega)).1 602, fun a a1 a2 => e a (by omega) (by omega)⟩
  exact ⟨h1.of e, h2, h3, h4, K, π, h5.of ks, RKw.of h5 h6 ks (fun _ _ => rfl)⟩
theorem KSt.cong {c : CC} {v : VD} {s : Nat} {w w' : Nat → Int32} (hb : VB v) (h : KSt c v s w) (e : ∀ j, j < 303 → w' j = w j) : KSt c v s w' := by
  have hb1 := hb.1
  have hb4 := hb.2.2.2.1
  obtain ⟨⟨r1, r2, r3, r4, r5, r6⟩, ⟨b1, b2, b3, b4, b5⟩, h3, h4, K, π, h5, h6⟩ := h
  refine ⟨⟨?_, ?_, fun i hi => ?_, fun i r hi hr => ?_, fun i r hi hr => ?_, fun k hk => ⟨?_, ?_⟩⟩, ⟨fun i hi => ?_, ?_, fun k hk => ?_, fun k hk => ?_, fun k hk => ?_⟩, ⟨fun k hk => ?_, ?_⟩, ?_, K, π, h5, ?_, fun k j hk hj => ?_⟩
  · rw [e _ (by omega)]; exact r1
  · rw [e _ (by omega)]; exact r2
  · rw [e _ (by omega)]; exact r3 i hi
  · rw [e _ (by omega)]; exact r4 i r hi hr
  · rw [e _ (by omega)]; exact r5 i r hi hr
  · rw [e _ (by omega)]; exact (r6 k hk).1
  · rw [e _ (by omega)]; exact (r6 k hk).2
  · rw [e _ (by omega)]; exact b1 i hi
  · rw [e _ (by omega)]; exact b2
  · rw [e _ (by omega)]; exact b3 k hk
  · rw [e _ (by omega)]; exact b4 k hk
  · rw [e _ (by omega), e _ (by omega)]; exact b5 k hk
  · rw [e _ (by omega)]; exact h3.1 k hk
  · unfold FB; rw [e _ (by omega)]; exact h3.2
  · rw [e _ (by omega)]; exact h4
  · rw [e _ (by omega)]; exact h6.1
  · have := h5.2.1
    rw [e _ (by omega)]; exact h6.2 k j hk hj
def slot (N U i : Nat) : Nat := (N + 20 - (U - 1 - i)) % 20
def UR (c : CC) (τ : TS) (X : Nat) (v : VD) : Prop := ∃ U N, ∃ ρ : Nat → Nat, U ≤ 20 ∧ N < 20 ∧ cI c 121 X = nI U ∧ tI τ 85 = nI U ∧ tI τ 86 = nI N ∧ (∀ i, i < 20 → cP c (X + 309) i = some (X + 310 + 68 * ρ i) ∧ ρ i < 20) ∧ (∀ i j, i < 20 → j < 20 → ρ i = ρ j → i = j) ∧ (∀ i, i < 20 → ∃ K π, RKp c (X + 310 + 68 * i) K π) ∧ ∀ i, i < U → KSt c v (X + 310 + 68 * ρ i) (fun j => tA τ 84 (303 * slot N U i + j))
/-- all fields of an object but one -/
def EqF (c c' : CC) (a f : Nat) : Prop := (∀ k, k ≠ f → cI c' k a = cI c k a) ∧ (∀ k, cL c' k a = cL c k a) ∧ (∀ k, cR c' k a = cR c k a) ∧ (∀ i, cA c' a i = cA c a i) ∧ (∀ i, cM c' a i = cM c a i) ∧ ∀ i, cP c' a i = cP c a i
theorem Eq1.f {c c' : CC} {a f : Nat} (h : Eq1 c c' a) : EqF c c' a f := ⟨fun k _ => h.1 k, h.2⟩
theorem EqF.trans {c c' c'' : CC} {a f : Nat} (h : EqF c c' a f) (h' : EqF c' c'' a f) : EqF c c'' a f := ⟨fun k hk => (h'.1 k hk).trans (h.1 k hk), fun k => (h'.2.1 k).trans (h.2.1 k), fun k => (h'.2.2.1 k).trans (h.2.2.1 k), fun k => (h'.2.2.2.1 k).trans (h.2.2.2.1 k), fun k => (h'.2.2.2.2.1 k).trans (h.2.2.2.2.1 k), fun k => (h'.2.2.2.2.2 k).trans (h.2.2.2.2.2 k)⟩
theorem EqF.uI {c : CC} {a f : Nat} {x : Int32} : EqF c (uI c f a x) a f := ⟨fun k hk => by rw [cI_uI, if_neg (fun h => hk h.1)], fun _ => rfl, fun _ => rfl, fun _ => rfl, fun _ => rfl, fun _ => rfl⟩
section WWs
variable {g : CG} {c : CC} {τ q : TS} {X V s lo hi : Nat} {v : VD} {w : Nat → Int32}
theorem C_keeps62 {m z : Nat} (h1 : gT g X = 1) (h109 : gR g 109 X = some (X + 35)) (hg : UG g X) (hs : StG g (X + 35) X) (hb : VB v) (hm : m < 20) (h121 : cI c 121 X = nI m) (hz : z < 20) (hp : cP c (X + 309) m = some (X + 310 + 68 * z)) (hK : ∃ K π, RKp c (X + 310 + 68 * z) K π) (hn : KSt c v (X + 35) w) :
    OK (Jc_X0_keeps_62 g X c) (fun c' => cI c' 121 X = nI (m + 1) ∧ KSt c' v (X + 310 + 68 * z) w ∧ EqF c c' X 121 ∧ ∀ a, a ≠ X → ¬ (X + 310 + 68 * z ≤ a ∧ a < X + 310 + 68 * z + 68) → Eq1 c c' a) := by
  obtain ⟨g1, g2, g3, g4⟩ := hg
  obtain ⟨n1, n2, n3, n4, K, π, n5, n6⟩ := hn
  obtain ⟨K', π', hK⟩ := hK
  obtain ⟨⟨r, c2⟩, e, p1, p2, p3, p4, p5, p6⟩ := C_copy (g4 z hz) hs (by omega) hK n5
  unfold Jc_X0_keeps_62
  rw [if_pos h1, g1, Option.bind_some, if_pos g2, h121, if_pos (by rw [g3]; exact xin_nI hm (by omega)), nI_clamp (show m < 2 ^ 31 by omega), hp, Option.bind_some, h109, Option.bind_some, if_pos (g4 z hz).1, e, xbd_some]
  have e121 : cI c2 121 X = nI m := by rw [(p6 X (by omega)).1]; exact h121
  rw [e121, nl_1, nI_add]
  refine ⟨_, rfl, ?_, ?_, (p6 X (by omega)).f.trans EqF.uI, fun a ha hna => (p6 a hna).uI ha⟩
  · rw [cI_uI, if_pos ⟨rfl, rfl⟩]
  · have k0 : KSt c2 v (X + 310 + 68 * z) w := ⟨p2 _ _ hb.2.2.2.1 (fun k hk => (n2.2.2.2.2 k hk).1) n1, n2, n3, n4, K, π', p4, p5 _ n6⟩
    exact k0.of (fun a a1 a2 => (Eq1.refl c2 a).uI (by omega))
theorem I_keeps (h1 : gT g X = 1) (h109 : gR g 109 X = some (X + 35)) (hg : UG g X) (hs : StG g (X + 35) X) (hb : VB v) (hn : KSt c v (X + 35) (tA τ 62)) (hu : UR c τ X v) :
    OK2 (f_c_X0_keeps g X c) (f_t_keeps τ) (fun c' q => UR c' q X v ∧ EqF c c' X 121 ∧ (∀ a, a ≠ X → ¬ (X + 309 ≤ a ∧ a < X + 1670) → Eq1 c c' a) ∧ TX in8586 in84 τ q) := by
  obtain ⟨U, N, ρ, hU, hN, u1, u2, u3, u4, u5, u6, u7⟩ := hu
  obtain ⟨q, eq, t1, t2, t3, t4, t5⟩ := T_keeps hN hU u3 u2
  obtain ⟨g1, g2, g3, g4⟩ := id hg
  by_cases hU20 : U = 20
  · subst hU20
    rw [if_pos rfl] at t2
    obtain ⟨c1, e1, p1, p2⟩ := C_keepsL (f := X + 310 + 68 * ρ 0) h1 hg u4
    have hρ0 := (u4 0 (by omega)).2
    have hn1 : cI c1 121 X = nI 20 := by rw [(p2 X (by omega)).1]; exact u1
    have e2 : cI (uP c1 (X + 309) 19 (some (X + 310 + 68 * ρ 0))) 121 X - 1 = nI 19 := by
      rw [cI_uP, hn1]; decide
    have q1 : ∀ a, a ≠ X → a ≠ X + 309 → Eq1 c (uI (uP c1 (X + 309) 19 (some (X + 310 + 68 * ρ 0))) 121 X (nI 19)) a := fun a a1 a2 => ((p2 a a2).uP a2).uI a1
    obtain ⟨c2, e3, r1, r2, r3, r4⟩ := C_keeps62 (c := uI (uP c1 (X + 309) 19 (some (X + 310 + 68 * ρ 0))) 121 X (nI 19)) (m := 19) (z := ρ 0) h1 h109 hg hs hb (by omega) (by rw [cI_uI, if_pos ⟨rfl, rfl⟩]) hρ0 (by rw [cP_uI, cP_uP, if_pos ⟨rfl, rfl⟩]) (by
      obtain ⟨K, π, hK⟩ := u6 (ρ 0) hρ0
      exact ⟨K, π, hK.of ⟨(q1 _ (by omega) (by omega)).1 602, fun a a1 a2 => q1 a (by omega) (by omega)⟩⟩) (hn.of (fun a a1 a2 => q1 a (by omega) (by omega)))
    have eC : f_c_X0_keeps g X c = some c2 := by
      unfold f_c_X0_keeps
      rw [if_pos h1, u1, if_pos (show nI 20 = 20 by decide), g1, Option.bind_some, if_pos g2, g3, if_pos (show xin 0 20 = true by decide), show (0 : Int32).toNatClampNeg = 0 by decide, (u4 0 (by omega)).1, Option.bind_some, e1, Option.bind_some, if_pos (g4 _ hρ0).1, if_pos (show xin 19 20 = true by decide), show (19 : Int32).toNatClampNeg = 19 by decide, e2]
      exact e3
    refine ⟨c2, q, eC, eq, ⟨20, (N + 1) % 20, fun i => if i < 19 then ρ (i + 1) else ρ 0, by omega, Nat.mod_lt _ (by omega), r1, t2, t1, fun i hi => ?_, fun i j hi hj he => ?_, fun i hi => ?_, fun i hi => ?_⟩, ?_, fun a a1 a2 => ?_, t5⟩
    · rw [(r4 (X + 309) (by omega) (by omega)).2.2.2.2.2, cP_uI, cP_uP]
      by_cases e : i = 19
      · subst e; rw [if_pos ⟨rfl, rfl⟩]; exact ⟨rfl, hρ0⟩
      · rw [if_neg (fun h => e h.2), p1 i (by omega)]
        simp only [show i < 19 by omega, reduceIte]
        exact ⟨trivial, (u4 (i + 1) (by omega)).2⟩
    · by_cases ei : i < 19
      · by_cases ej : j < 19
        · simp only [ei, ej, reduceIte] at he
          have := u5 (i + 1) (j + 1) (by omega) (by omega) he
          omega
        · simp only [ei, ej, reduceIte] at he
          have := u5 (i + 1) 0 (by omega) (by omega) he
          omega
      · by_cases ej : j < 19
        · simp only [ei, ej, reduceIte] at he
          have := u5 0 (j + 1) (by omega) (by omega) he
          omega
        · omega
    · by_cases e : i = ρ 0
      · subst e
        obtain ⟨K, π, k1, -⟩ := r2.2.2.2.2
        exact ⟨K, π, k1⟩
      · obtain ⟨K, π, hK⟩ := u6 i hi
        have qq : ∀ a, X + 310 + 68 * i ≤ a → a < X + 310 + 68 * i + 68 → Eq1 c c2 a := fun a a1 a2 => (q1 a (by omega) (by omega)).trans (r4 a (by omega) (by omega))
        exact ⟨K, π, hK.of ⟨(qq _ (by omega) (by omega)).1 602, fun a a1 a2 => qq a (by omega) (by omega)⟩⟩
    · by_cases e : i = 19
      · subst e
        simp only [show ¬ 19 < 19 by omega, reduceIte]
        refine r2.cong hb (fun j hj => ?_)
        rw [show slot ((N + 1) % 20) 20 19 = (N + 1) % 20 by unfold slot; omega]
        exact t3 j hj
      · simp only [show i < 19 by omega, reduceIte]
        have k0 := u7 (i + 1) (by omega)
        have hne : ρ (i + 1) ≠ ρ 0 := fun e => by have := u5 _ _ (by omega) (by omega) e; omega
        have hρi := (u4 (i + 1) (by omega)).2
        have k1 : KSt c2 v (X + 310 + 68 * ρ (i + 1)) _ := k0.of (fun a a1 a2 => (q1 a (by omega) (by omega)).trans (r4 a (by omega) (by omega)))
        refine k1.cong hb (fun j hj => ?_)
        rw [show slot ((N + 1) % 20) 20 i = slot N 20 (i + 1) by unfold slot; omega]
        refine t4 _ ?_
        have h20 : slot N 20 (i + 1) ≠ (N + 1) % 20 := by unfold slot; omega
        generalize slot N 20 (i + 1) = a at *
        generalize (N + 1) % 20 = b at *
        omega
    · refine EqF.trans ?_ r3
      exact ((p2 X (by omega)).uP (by omega)).f.trans EqF.uI
    · exact (q1 a a1 (by omega)).trans (r4 a a1 (by omega))
  · rw [if_neg hU20] at t2
    have hρU := (u4 U (by omega)).2
    obtain ⟨c2, e3, r1, r2, r3, r4⟩ := C_keeps62 (c := c) (m := U) (z := ρ U) h1 h109 hg hs hb (by omega) u1 hρU (u4 U (by omega)).1 (u6 _ hρU) hn
    have eC : f_c_X0_keeps g X c = some c2 := by
      unfold f_c_X0_keeps
      rw [if_pos h1, u1, if_neg (show ¬ nI U = 20 by show ¬ nI U = nI 20; rw [nI_eq (by omega) (by omega)]; exact hU20)]
      exact e3
    refine ⟨c2, q, eC, eq, ⟨U + 1, (N + 1) % 20, ρ, by omega, Nat.mod_lt _ (by omega), r1, t2, t1, fun i hi => ?_, u5, fun i hi => ?_, fun i hi => ?_⟩, r3, fun a a1 a2 => r4 a a1 (by omega), t5⟩
    · rw [(r4 (X + 309) (by omega) (by omega)).2.2.2.2.2]; exact u4 i hi
    · by_cases e : i = ρ U
      · subst e
        obtain ⟨K, π, k1, -⟩ := r2.2.2.2.2
        exact ⟨K, π, k1⟩
      · obtain ⟨K, π, hK⟩ := u6 i hi
        have qq : ∀ a, X + 310 + 68 * i ≤ a → a < X + 310 + 68 * i + 68 → Eq1 c c2 a := fun a a1 a2 => r4 a (by omega) (by omega)
        exact ⟨K, π, hK.of ⟨(qq _ (by omega) (by omega)).1 602, fun a a1 a2 => qq a (by omega) (by omega)⟩⟩
    · by_cases e : i = U
      · subst e
        refine r2.cong hb (fun j hj => ?_)
        rw [show slot ((N + 1) % 20) (i + 1) i = (N + 1) % 20 by unfold slot; omega]
        exact t3 j hj
      · have k0 := u7 i (by omega)
        have hne : ρ i ≠ ρ U := fun e2 => e (u5 _ _ (by omega) (by omega) e2)
        have hρi := (u4 i (by omega)).2
        have k1 : KSt c2 v (X + 310 + 68 * ρ i) _ := k0.of (fun a a1 a2 => r4 a (by omega) (by omega))
        refine k1.cong hb (fun j hj => ?_)
        rw [show slot ((N + 1) % 20) (U + 1) i = slot N U i by unfold slot; omega]
        refine t4 _ ?_
        have h20 : slot N U i ≠ (N + 1) % 20 := by unfold slot; omega
        generalize slot N U i = a at *
        generalize (N + 1) % 20 = b at *
        omega
end WWs
