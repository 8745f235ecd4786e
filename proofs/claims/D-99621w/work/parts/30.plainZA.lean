/-! PLAIN LAW: the mutators: seasons, plant -/
set_option maxRecDepth 100000
section ZAs
variable {g : CG} {c c' : CC} {τ τ' q : TS} {X V s lo hi n : Nat} {v : VD} {w : Nat → Int32}
theorem CORE.now (h : CORE g c τ X V v lo hi) (n : CF X (X + 35) c c') (m : TX in71 in72 τ τ') (k : KSt c' v (X + 35) (tA τ' 62)) : CORE g c' τ' X V v lo hi ∧ FR X c c' τ τ' := by
  obtain ⟨h1, h2, h3, ⟨K, π, h4⟩, h5, h6, h7, h8⟩ := h
  refine ⟨⟨h1.cf (by omega) n, h2, k, ⟨K, π, h4.of ⟨(n _ (by omega) (by omega)).1 602, fun a a1 a2 => n a (by omega) (by omega)⟩⟩, h5.tx m ⟨rfl, rfl⟩ ⟨rfl, rfl, rfl, rfl, rfl, rfl⟩, by rw [m.1 70 rfl rfl]; exact h6, h7.of ((n X (by omega) (by omega)).1 121) (fun a a1 a2 => n a (by omega) (by omega)) (m.1 85 rfl rfl) (m.1 86 rfl rfl) (fun i => m.2.2.1 84 i rfl), fun i hi => ?_⟩, (n X (by omega) (by omega)).f, fun a a1 a2 => n a (by omega) (by omega), m.mono (fun k hk => by unfold fC fZ at hk; unfold in71; simp at hk ⊢; omega) (fun k hk => by unfold aC aZ at hk; unfold in72; simp at hk ⊢; omega)⟩
  rw [(n (X + 34) (by omega) (by omega)).2.2.2.1, m.2.2.1 9 i rfl]; exact h8 i hi
theorem M_seasons {x : Int32} (h : CORE g c τ X V v lo hi) : OK2 (f_c_X0_seasons g X x c) (f_t_seasons x τ) (fun o r => o.1 = r.1 ∧ CORE g o.2 r.2 X V v lo hi ∧ FR X c o.2 τ r.2) := by
  have hA := C_isAhead (x := x) (a := nI 1) (b := nI 100) h.iv
  have hB := T_isAhead (x := x) (a := nI 1) (b := nI 100) h.2.2.2.2.1
  obtain ⟨n0, hn0, hw⟩ := h.2.2.1.2.2.2.1
  unfold f_c_X0_seasons f_t_seasons
  rw [if_pos h.1.1, nl_1, nl_100, hA, hB, xbd_some, xbd_some]
  cases ha : aheadS v (tA τ 62) x (nI 1) (nI 100) with
  | false =>
    rw [if_pos (show b32 false = 0 by decide), if_pos (show b32 false = 0 by decide), nl_3, C_refuses h.1.1 h.2.1.2.2.2.2.2.2.1 (by omega), T_refuses (by omega), xbd_some, xbd_some]
    exact OK2_some ⟨rfl, h.ref (by omega)⟩
  | true =>
    rw [if_neg (show ¬ b32 true = 0 by decide), if_neg (show ¬ b32 true = 0 by decide)]
    obtain ⟨n, hn1, hn2, rfl, hn3⟩ := ahead_1 (by omega) hw hn0 ha
    obtain ⟨c1, q1, e1, e2, p1, p2, p3⟩ := M_keeps h
    rw [e1, e2, Option.bind_some, Option.bind_some]
    have hk : KSt c1 v (X + 35) (tA (sI q1 71 0) 62) := p1.2.2.1
    obtain ⟨o, r, e3, e4, s1, s2, s3, s4, s5⟩ := I_seasonsN (n := n0) (k := n) (τ := sI q1 71 0) p1.1 p1.2.1.1 p1.2.1.2.2.1 hk (p1.2.2.2.2.1.tx ((TX.refl in71 in72 q1).sI (Or.inl rfl)) ⟨rfl, rfl⟩ ⟨rfl, rfl, rfl, rfl, rfl, rfl⟩) p1.2.2.2.2.2.1 rfl (by show tA q1 62 0 = _; rw [p3]; exact hw) (by omega)
    rw [e3, e4, Option.bind_some, Option.bind_some]
    have fin := p1.now (τ' := r) s3 (((TX.refl in71 in72 q1).sI (Or.inl rfl)).trans s4) s2
    exact OK2_some ⟨s1, fin.1, p2.trans fin.2⟩
theorem KSt_wil {k r m : Nat} (hv : vC v ≤ 10) (hk : k < 10) (hr : r < 8) (hm : m ≤ 9) (h : KSt c v s w) : KSt (uA c (s + 5 + k) r (nI m)) v s (upd w (12 + (8 * k + r)) (nI m)) := by
  obtain ⟨k1, ⟨b1, b2, b3, b4, b5⟩, k3, k4, K, π, k5, k6⟩ := h
  have ks : KS s c (uA c (s + 5 + k) r (nI m)) := (KS.refl s c).uA (by omega)
  refine ⟨RS_wil k1 hk hr, ⟨fun i hi => by rw [pk_un (by omega)]; exact b1 i hi, by rw [pk_un (by omega)]; exact b2, fun i hi => ?_, fun i hi => by rw [pk_un (by omega)]; exact b4 i hi, fun i hi => by rw [pk_un (by omega), pk_un (by omega)]; exact b5 i hi⟩, ⟨fun i hi => ?_, by unfold FB; rw [pk_un (by omega)]; exact k3.2⟩, by rw [pk_un (by omega)]; exact k4, K, π, k5.of ks, RKw.of k5 k6 ks (fun i hi => by rw [pk_un (by omega)])⟩
  · by_cases e : i = 8 * k + r
    · subst e; rw [pk_us]; exact ⟨m, by omega, rfl⟩
    · rw [pk_un (by omega)]; exact b3 i hi
  · by_cases e : i = 8 * k + r
    · subst e; rw [pk_us]; exact ⟨m, by omega, rfl⟩
    · rw [pk_un (by omega)]; exact k3.1 i hi
end ZAs
