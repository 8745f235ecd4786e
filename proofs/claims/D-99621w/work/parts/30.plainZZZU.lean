/-! PLAIN LAW: statements: eats, bend -/
set_option maxRecDepth 100000
section ZZU3
variable {X n V a p : Nat} {B : Nat → Nat} {τc τc' : CS} {τ τ' : TS} {v v' : VQ} {g : CG} {c c' : CC} {hi cd : Nat}
/-- the twin begins a text -/
def bgT (τ : TS) (w : Nat) : TS := sI (sI (sI (sI (sI τ 61 (nI w)) 121 0) 123 0) 124 0) 125 0
theorem bgT_ok {w : Nat} (h : TRd τ n B p) (hp : cd ≤ p) : TA cd (bgT τ w) n B w p 0 0 [] [] ∧ TZ τ (bgT τ w) := by
  unfold bgT
  refine ⟨⟨⟨h.1.of (fun k hk => by rw [tI_sI, if_neg (by omega), tI_sI, if_neg (by omega), tI_sI, if_neg (by omega), tI_sI, if_neg (by omega), tI_sI, if_neg (by omega)]) (fun i => rfl), ⟨by rw [tI_sI, if_neg (by omega), tI_sI, if_pos rfl]; rfl, by omega⟩, ⟨by rw [tI_sI, if_pos rfl]; rfl, by simp⟩, ⟨by rw [tI_sI, if_neg (by omega), tI_sI, if_neg (by omega), tI_sI, if_pos rfl]; rfl, fun i hi => absurd hi (Nat.not_lt_zero i)⟩, ⟨by rw [tI_sI, if_neg (by omega), tI_sI, if_neg (by omega), tI_sI, if_neg (by omega), tI_sI, if_pos rfl]; rfl, fun i hi => absurd hi (Nat.not_lt_zero i)⟩, by simp, fun x hx => by cases hx⟩, h.2.of (fun x _ i => rfl), by rw [tI_sI, if_neg (by omega), tI_sI, if_neg (by omega), tI_sI, if_neg (by omega), tI_sI, if_neg (by omega), tI_sI, if_pos rfl], by simp; omega⟩, ((((TZ.refl.sI rfl).sI rfl).sI rfl).sI rfl).sI rfl⟩
theorem TVh.bg {w : Nat} (h : TVh τ cd v) : TVh (bgT τ w) cd v := h.of (fun k hk => by
  unfold bgT
  rw [tI_sI, if_neg (by omega), tI_sI, if_neg (by omega), tI_sI, if_neg (by omega), tI_sI, if_neg (by omega), tI_sI, if_neg (by omega)]) (fun k i _ _ => rfl) (fun i => rfl)
/-- the twin keeps the codes of a sum -/
theorem TVh.eats {cs : List Nat} (h : TVh τ cd v) (hq : qe v = none) (t3 : ∀ i, i < cs.length → tA τ' 57 (cd + i) = nI (cs.getD i 0)) (t4 : ∀ i, i < cd → tA τ' 57 i = tA τ 57 i) (t5 : ∀ k, k ≠ 58 → tI τ' k = tI τ k) (t6 : ∀ k i, k ≠ 57 → (k ≠ 55 ∧ k ≠ 56 ∨ i ≠ 0) → tA τ' k i = tA τ k i) (t7 : ∀ i, tM τ' 48 i = tM τ 48 i) (t8 : tA τ' 55 0 = nI cd ∧ tA τ' 56 0 = nI (cd + cs.length) ∧ tI τ' 58 = nI (cd + cs.length)) (hl : cd + cs.length ≤ 1600) : TVh τ' (cd + cs.length) (sete v cs) := by
  obtain ⟨⟨h1, h2, h3⟩, h4, h5, h6, h7, h8, h9, h10, h11, h12, h13, h14, h15⟩ := h
  refine ⟨⟨by rw [t6 45 _ (by omega) (by omega)]; exact h1, by rw [t6 45 _ (by omega) (by omega)]; exact h2, by rw [t6 45 _ (by omega) (by omega)]; exact h3⟩, rfl, by rw [t5 46 (by omega)]; exact h5, by rw [t5 53 (by omega)]; exact h6, fun i hi => by rw [t6 51 _ (by omega) (by omega)]; exact h7 i hi, fun i hi => by rw [t6 50 _ (by omega) (by omega)]; exact h8 i hi, fun i hi => by rw [t6 52 _ (by omega) (by omega)]; exact h9 i hi, fun k hk j hj => by rw [t6 49 _ (by omega) (by omega)]; exact h10 k hk j hj, fun k hk => by rw [t7]; exact h11 k hk, t8.2.2, hl, ⟨cd, t8.1, t8.2.1, Nat.le_refl _, t3⟩, ?_⟩
  show CodT τ' 1 (cd + cs.length) (qb v)
  unfold CodT at h15 ⊢
  cases hb : qb v with
  | none => rw [hb] at h15; show tA τ' 55 1 = -1; rw [t6 55 1 (by omega) (by omega)]; exact h15
  | some cs2 =>
    rw [hb] at h15
    obtain ⟨b, m1, m2, m3, m4⟩ := h15
    exact ⟨b, by rw [t6 55 1 (by omega) (by omega)]; exact m1, by rw [t6 56 1 (by omega) (by omega)]; exact m2, by omega, fun i hi => by rw [t4 (b + i) (by omega)]; exact m4 i hi⟩
theorem TVh.bend {cs : List Nat} (h : TVh τ cd v) (hq : qb v = none) (t3 : ∀ i, i < cs.length → tA τ' 57 (cd + i) = nI (cs.getD i 0)) (t4 : ∀ i, i < cd → tA τ' 57 i = tA τ 57 i) (t5 : ∀ k, k ≠ 58 → tI τ' k = tI τ k) (t6 : ∀ k i, k ≠ 57 → (k ≠ 55 ∧ k ≠ 56 ∨ i ≠ 1) → tA τ' k i = tA τ k i) (t7 : ∀ i, tM τ' 48 i = tM τ 48 i) (t8 : tA τ' 55 1 = nI cd ∧ tA τ' 56 1 = nI (cd + cs.length) ∧ tI τ' 58 = nI (cd + cs.length)) (hl : cd + cs.length ≤ 1600) : TVh τ' (cd + cs.length) (setb v cs) := by
  obtain ⟨⟨h1, h2, h3⟩, h4, h5, h6, h7, h8, h9, h10, h11, h12, h13, h14, h15⟩ := h
  refine ⟨⟨by rw [t6 45 _ (by omega) (by omega)]; exact h1, by rw [t6 45 _ (by omega) (by omega)]; exact h2, by rw [t6 45 _ (by omega) (by omega)]; exact h3⟩, rfl, by rw [t5 46 (by omega)]; exact h5, by rw [t5 53 (by omega)]; exact h6, fun i hi => by rw [t6 51 _ (by omega) (by omega)]; exact h7 i hi, fun i hi => by rw [t6 50 _ (by omega) (by omega)]; exact h8 i hi, fun i hi => by rw [t6 52 _ (by omega) (by omega)]; exact h9 i hi, fun k hk j hj => by rw [t6 49 _ (by omega) (by omega)]; exact h10 k hk j hj, fun k hk => by rw [t7]; exact h11 k hk, t8.2.2, hl, ?_, ⟨cd, t8.1, t8.2.1, Nat.le_refl _, t3⟩⟩
  show CodT τ' 0 (cd + cs.length) (qe v)
  unfold CodT at h14 ⊢
  cases hb : qe v with
  | none => rw [hb] at h14; show tA τ' 55 0 = -1; rw [t6 55 0 (by omega) (by omega)]; exact h14
  | some cs2 =>
    rw [hb] at h14
    obtain ⟨b, m1, m2, m3, m4⟩ := h14
    exact ⟨b, by rw [t6 55 0 (by omega) (by omega)]; exact m1, by rw [t6 56 0 (by omega) (by omega)]; exact m2, by omega, fun i hi => by rw [t4 (b + i) (by omega)]; exact m4 i hi⟩
/-- whether it is told already, of both -/
theorem JV.e0 (h : JV X n B V τc τ v a p) : (qe v = none → cR τc.2 209 V = none ∧ tA τ 55 0 = -1) ∧ (qe v ≠ none → cR τc.2 209 V ≠ none ∧ tA τ 55 0 ≠ -1) := by
  obtain ⟨k1, k2, k3, k4, ⟨cd, k5, k6⟩, k7, k8, k9⟩ := h
  obtain ⟨arr, ad, m1, m2, m3, m4, m5, m6⟩ := k4.2.2.2.2.2.2
  have h14 := k5.2.2.2.2.2.2.2.2.2.2.2.1
  unfold EVh at m5
  unfold CodT at h14
  have hcd := k5.2.2.2.2.2.2.2.2.2.2.1
  cases hq : qe v with
  | none => rw [hq] at m5 h14; exact ⟨fun _ => ⟨m5, h14⟩, fun z => absurd rfl z⟩
  | some cs =>
    rw [hq] at m5 h14
    obtain ⟨e, elo, ehi, n1, -⟩ := m5
    obtain ⟨b, b1, b2, b3, -⟩ := h14
    refine ⟨(fun z => by cases z), fun _ => ⟨by rw [n1]; simp, ?_⟩⟩
    rw [b1]
    intro z
    have z := congrArg Int32.toInt z
    rw [nI_toInt (by omega)] at z
    have : (-1 : Int32).toInt = -1 := by decide
    omega
theorem JV.b0 (h : JV X n B V τc τ v a p) : (qb v = none → cR τc.2 210 V = none ∧ tA τ 55 1 = -1) ∧ (qb v ≠ none → cR τc.2 210 V ≠ none ∧ tA τ 55 1 ≠ -1) := by
  obtain ⟨k1, k2, k3, k4, ⟨cd, k5, k6⟩, k7, k8, k9⟩ := h
  obtain ⟨arr, ad, m1, m2, m3, m4, m5, m6⟩ := k4.2.2.2.2.2.2
  have h14 := k5.2.2.2.2.2.2.2.2.2.2.2.2
  unfold BVh at m6
  unfold CodT at h14
  have hcd := k5.2.2.2.2.2.2.2.2.2.2.1
  cases hq : qb v with
  | none => rw [hq] at m6 h14; exact ⟨fun _ => ⟨m6, h14⟩, fun z => absurd rfl z⟩
  | some cs =>
    rw [hq] at m6 h14
    obtain ⟨e, elo, ehi, n1, -⟩ := m6
    obtain ⟨b, b1, b2, b3, -⟩ := h14
    refine ⟨(fun z => by cases z), fun _ => ⟨by rw [n1]; simp, ?_⟩⟩
    rw [b1]
    intro z
    have z := congrArg Int32.toInt z
    rw [nI_toInt (by omega)] at z
    have : (-1 : Int32).toInt = -1 := by decide
    omega
/-- told twice: both fail -/
theorem J_twice {s w : Nat} {R : Type} (hj : JV X n B V τc τ v a p) (hw : w < 2) (ht : tA τ 55 w ≠ -1) : ∃ q, f_t_codesTold (nI w) (nI s) τ = some q ∧ BAD X V 0 0 τc τ ((.inr (X + 29), (τc.1, uI (uI τc.2 406 (X + 29) 5) 407 (X + 29) (nI s))) : (R ⊕ Nat) × CS) q := by
  have hvz := hj.vz
  refine ⟨sI (sI τ 5 5) 6 (nI s), ?_, 5, s, rfl, FLT.mk (k := 5), (PF.pl (τ := τc) ((PR.refl (X := X)).u29.u29).pf (by omega)).m, Nat.le_refl _, Nat.le_refl _, ⟨by rw [tI_sI, if_neg (by omega), tI_sI, if_pos rfl]; rfl, by rw [tI_sI, if_pos rfl]⟩, by omega, by omega, (TZ.refl.sI rfl).sI rfl⟩
  unfold f_t_codesTold Jt_codesTold_23
  rw [if_pos hj.2.1.1.2.1, if_pos (xin_nI (show w < 4 by omega) (by omega)), nI_clamp (show w < 2 ^ 31 by omega), if_neg ht, T_fail hj.2.1.1.2.1, Option.bind_some, if_neg (by rw [tI_sI, if_neg (by omega), tI_sI, if_pos rfl]; decide)]
theorem VQB.e {cs : List Nat} (h : VQB v) (hc : okX 0 cs) : VQB (sete v cs) := by
  obtain ⟨b0, b1, b2, b3, b4, b5, b6, b7, b8, b9, b10, b11, b12⟩ := h
  exact ⟨b0, b1, b2, b3, b4, b5, b6, b7, b8, b9, b10, fun cs' e => by
    have e : some cs = some cs' := e
    injection e with e
    rw [← e]; exact hc, b12⟩
theorem VQB.b {cs : List Nat} (h : VQB v) (hc : okX 1 cs) : VQB (setb v cs) := by
  obtain ⟨b0, b1, b2, b3, b4, b5, b6, b7, b8, b9, b10, b11, b12⟩ := h
  exact ⟨b0, b1, b2, b3, b4, b5, b6, b7, b8, b9, b10, b11, fun cs' e => by
    have e : some cs = some cs' := e
    injection e with e
    rw [← e]; exact hc⟩
/-- the context is told -/
theorem PI.cx {x : Int32} (h : PI τc X n B a 0) : PI (τc.1, uI τc.2 305 (X + 28) x) X n B a 0 := by
  obtain ⟨⟨h1, h2, h3, h4, h5, h6⟩, h7⟩ := h
  have e : ∀ b, b ≠ X + 28 → Eq1 τc.2 (uI τc.2 305 (X + 28) x) b := fun b hb => (Eq1.refl τc.2 b).uI hb
  refine ⟨⟨h1, h2, ⟨h3.1.of (e _ (by omega)), h3.2.1, ?_, ?_, h3.2.2.2.2⟩, fun i hi hb => by show cA (uI τc.2 305 (X + 28) x) (X + 27) i = _; rw [cA_uI]; exact h4 i hi hb, ?_, h6⟩, ?_⟩
  · show cI (uI τc.2 305 (X + 28) x) 301 (X + 28) = _
    rw [cI_uI, if_neg (by omega)]; exact h3.2.2.1
  · show cI (uI τc.2 305 (X + 28) x) 302 (X + 28) = _
    rw [cI_uI, if_neg (by omega)]; exact h3.2.2.2.1
  · show cI (uI τc.2 305 (X + 28) x) 304 (X + 28) = _
    rw [cI_uI, if_neg (by omega)]; exact h5
  · obtain ⟨l1, l2, l3, l4, l5⟩ := h7
    have ls : ∀ {s L}, LStr τc.1 τc.2 X s L → LStr τc.1 (uI τc.2 305 (X + 28) x) X s L := fun {s L} q => by
      obtain ⟨q0, q1, q2, q3, b, q4, q5, q6, q7, q8⟩ := q
      exact ⟨q0, q1, by rw [(e s (by omega)).1]; exact q2, q3, b, q4, q5, q6, q7, fun i hi => by rw [(e b (by omega)).2.2.2.1]; exact q8 i hi⟩
    have tb : ∀ {k W}, TAB τc.1 τc.2 X k W → TAB τc.1 (uI τc.2 305 (X + 28) x) X k W := fun {k W} q => by
      obtain ⟨q0, q1, q2, q3⟩ := q
      refine ⟨q0, q1, q2, fun i hi => ?_⟩
      obtain ⟨s, s1, s2⟩ := q3 i hi
      exact ⟨s, by rw [(e _ (by omega)).2.2.2.2.2]; exact s1, ls s2⟩
    exact ⟨fun i hi => ls (l1 i hi), tb l2, tb l3, tb l4, tb l5⟩
end ZZU3
