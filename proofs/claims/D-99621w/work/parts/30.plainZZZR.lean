/-! PLAIN LAW: statements: runs, soil, willow -/
set_option maxRecDepth 100000
/-- what a statement of both leaves -/
def JSt (X n : Nat) (B : Nat → Nat) (V : Nat) (v : VQ) (τc : CS) (τ : TS) (a : Nat) {R : Type} (ok : R) (r : (R ⊕ Nat) × CS) (q : TS) : Prop := BAD X V (60 * (n + 2 - a)) (600 * (n + 2 - a)) τc τ r q ∨ ∃ v' a' p', r.1 = .inl ok ∧ JV X n B V r.2 q v' a' p' ∧ qn v' 3 = qn v 3 ∧ PM V X τc r.2 ∧ TZ τ q ∧ a < sk B n a' ∧ grc τc.1 ≤ grc r.2.1 + 60 * (sk B n a' - a) ∧ grs τc.1 ≤ grs r.2.1 + 600 * (sk B n a' - a)
section ZZR1
variable {X n V a p : Nat} {B : Nat → Nat} {τc τc' : CS} {τ τ' : TS} {v v' : VQ} {c' : CC}
theorem JV.wr {cd : Nat} (h : JV X n B V τc τ v a p) (hc : ∀ b, b < V → Eq1 τc.2 c' b) (h1 : CVh τc.1 c' X V (gz τc.1) v') (h2 : TVh τ' cd v') (hcd : cd ≤ p) (h3 : TRd τ' n B p) (h4 : VQB v') : JV X n B V (τc.1, c') τ' v' a p := by
  have h9 := h.2.2.2.2.2.2.2
  have st : STz V τc (τc.1, c') := ⟨Nat.le_refl _, AgG.refl _ _ _, hc⟩
  exact ⟨h.1.st st h9, h3, h.2.2.1, h1, ⟨cd, h2, hcd⟩, h4, by rw [(hc (X + 28) (by omega)).2.2.1]; exact h.2.2.2.2.2.2.1, h9⟩
theorem BAD.w {R R' : Type} {lo b1 b2 c1 c2 : Nat} {r : (R ⊕ Nat) × CS} {q : TS} (h : BAD X lo b1 b2 τc τ r q) (h1 : b1 ≤ c1) (h2 : b2 ≤ c2) : BAD X lo c1 c2 τc τ ((.inr (X + 29), r.2) : (R' ⊕ Nat) × CS) q := by
  obtain ⟨k, p, e1, e2, e3, e4, e5, e6⟩ := h
  exact ⟨k, p, rfl, e2, e3, by dsimp only; omega, by dsimp only; omega, e6⟩
theorem BAD.inr {R : Type} {lo b1 b2 : Nat} {r : (R ⊕ Nat) × CS} {q : TS} (h : BAD X lo b1 b2 τc τ r q) : r = (.inr (X + 29), r.2) ∧ tI q 5 ≠ 0 := by
  obtain ⟨k, p, e1, e2, e3, e4, e5, e6, e7, e8, e9⟩ := h
  obtain ⟨r1, r2⟩ := r
  dsimp only at e1
  subst e1
  exact ⟨rfl, e6.bad e7 e8⟩
theorem BAD.pre {R : Type} {lo b1 b2 c1 c2 : Nat} {r : (R ⊕ Nat) × CS} {q : TS} (h : BAD X lo b1 b2 τc' τ' r q) (pl : PM lo X τc τc') (t : TZ τ τ') (h1 : grc τc.1 + b1 ≤ grc τc'.1 + c1) (h2 : grs τc.1 + b2 ≤ grs τc'.1 + c2) : BAD X lo c1 c2 τc τ r q := by
  obtain ⟨k, p, e1, e2, e3, e4, e5, e6, e7, e8, e9⟩ := h
  exact ⟨k, p, e1, e2, pl.trans e3, by omega, by omega, e6, e7, e8, t.trans e9⟩
theorem TRd.sA {k i : Nat} {x : Int32} (h : TRd τ n B p) (hk : k = 45 ∨ (49 ≤ k ∧ k ≤ 57)) : TRd (sA τ k i x) n B p := ⟨h.1.of (fun _ _ => rfl) (fun j => by rw [tA_sA, if_neg (by omega)]), h.2.of (fun y hy j => by
  unfold isWf at hy
  simp at hy
  rw [tA_sA, if_neg (by omega)])⟩
/-- where the river runs -/
theorem J_runs {x2 : Int32} (hj : JV X n B V τc τ v a p) : OK2 (Jc_X2_laid_109 (X + 28) x2 0 τc) (f_t_runsTold τ) (fun r q => JSt X n B V v τc τ a (1 : Int32) r q) := by
  obtain ⟨ha, hn, hgz, -⟩ := hj.1.le
  have g := sk_g (B := B) ha
  unfold Jc_X2_laid_109 f_t_runsTold
  rw [if_pos rfl, if_pos hj.1.1.1.2.2.1]
  obtain ⟨⟨r1, τ1⟩, ⟨q1, t1⟩, e1, e2, hh⟩ := J_col hj
  rw [e1, e2, xbd_some]
  rcases hh with hb | ⟨w, e, u1, u2, u3, u4, u5, u6, u7, u8, u9, u10, u11⟩
  · obtain ⟨hi, h5⟩ := hb.inr
    have hi : r1 = .inr (X + 29) := (Prod.mk.inj hi).1
    subst hi
    dsimp only at h5
    rw [xbx_r, T_rowBad h5, xbd_some, if_neg h5]
    exact OK2_some (Or.inl (hb.w (by omega) (by omega)))
  · dsimp only at u1 u2 u6 u7 u8 u9 u10
    subst u1
    subst u2
    have hvz := u6.vz
    rw [xbx_l, if_pos u6.1.1.1.2.2.1, u6.2.2.2.2.2.2.1, Option.bind_some, if_pos u6.2.2.2.1.1.1, u6.2.2.2.1.1.2.1.1, Option.bind_some]
    obtain ⟨⟨r3, τ3⟩, ⟨q3, t3⟩, e3, e4, hh⟩ := J_row u6
    rw [e3, e4, xbd_some]
    have pl1 : PL V X τc τ1 := u7.pl (by have := hj.vz; omega)
    rcases hh with hb | ⟨w2, e', y1, y2, y3, y4, y5, y6, y7, y8, y9, y10, y11⟩
    · obtain ⟨hi, h5⟩ := hb.inr
      have hi : r3 = .inr (X + 29) := (Prod.mk.inj hi).1
      subst hi
      dsimp only at h5
      rw [xbx_r, if_neg h5]
      exact OK2_some (Or.inl ((hb.pre pl1.m u10 (c1 := 60 * (n + 2 - a)) (c2 := 600 * (n + 2 - a)) (by rw [u8]; omega) (by rw [u8]; omega)).w (Nat.le_refl _) (Nat.le_refl _)))
    · dsimp only at y1 y2 y6 y7 y8 y9 y10
      subst y1
      subst y2
      have hvz3 := y6.vz
      obtain ⟨k1, k2, k3, k4, ⟨cd, k5, k6⟩, k7, k8, k9⟩ := y6
      have hC : 3 ≤ qn v 0 ∧ qn v 0 ≤ 10 := k7.1
      have hW : 2 ≤ qn v 1 ∧ qn v 1 ≤ 8 := k7.2.1
      obtain ⟨l1, l2, l3⟩ := k4.1.2.1
      rw [xbx_l, if_pos l2, l3, if_pos (xin_nI (show w < 10 by omega) (by omega)), nI_clamp (show w < 2 ^ 31 by omega), if_pos k2.1.2.1, if_pos (xin_nI (show w < 10 by omega) (by omega))]
      have hcc : ∀ b, b ≠ V + 1 → Eq1 τ3.2 (uA τ3.2 (V + 1) w (nI w2)) b := fun b hb => (Eq1.refl τ3.2 b).uA hb
      have jv : JV X n B V (τ3.1, uA τ3.2 (V + 1) w (nI w2)) (sA t3 51 w (nI w2)) (setq v (10 + w) w2) e' e' := by
        refine JV.wr (cd := cd) (v := v) ⟨k1, k2, k3, k4, ⟨cd, k5, k6⟩, k7, k8, k9⟩ (fun b hb => hcc b (by omega)) ?_ ?_ k6 (k2.sA (by omega)) (k7.chg (by omega) (fun _ => by omega) (fun h => by omega))
        · refine CVh.chg k4 (Or.inl rfl) (fun b _ _ hb => hcc b hb) (by omega) (fun i hi => ?_) (fun i r hi hr => ?_) (fun i r hi hr => ?_)
          · rw [cA_uA, qn_set]
            by_cases ei : i = w
            · rw [if_pos ⟨rfl, ei⟩, if_pos (by omega)]
            · rw [if_neg (fun z => ei z.2), if_neg (by omega)]; exact k4.2.2.2.1 i hi
          · rw [cA_uA, if_neg (by omega), qn_set, if_neg (by omega)]; exact k4.2.2.2.2.1 i r hi hr
          · rw [cA_uA, if_neg (by omega), qn_set, if_neg (by omega)]; exact k4.2.2.2.2.2.1 i r hi hr
        · refine TVh.chg k5 (by omega) (fun _ => rfl) (fun j i h1 h2 h3 => by rw [tA_sA, if_neg (by omega)]) (fun _ _ => rfl) (fun i hi => ?_) (fun i hi => ?_) (fun i hi => ?_)
          · rw [tA_sA, qn_set]
            by_cases ei : i = w
            · rw [if_pos ⟨rfl, ei⟩, if_pos (by omega)]
            · rw [if_neg (fun z => ei z.2), if_neg (by omega)]; exact k5.2.2.2.2.1 i hi
          · rw [tA_sA, if_neg (by omega), qn_set, if_neg (by omega)]; exact k5.2.2.2.2.2.1 i hi
          · rw [tA_sA, if_neg (by omega), qn_set, if_neg (by omega)]; exact k5.2.2.2.2.2.2.1 i hi
      have st : STz V τ3 (τ3.1, uA τ3.2 (V + 1) w (nI w2)) := ⟨Nat.le_refl _, AgG.refl _ _ _, fun b hb => hcc b (by omega)⟩
      have ge := sk_g (B := B) k1.le.1
      have ge1 := sk_g (B := B) u6.1.le.1
      refine OK2_some (Or.inr ⟨_, e', e', rfl, jv, by rw [qn_set, if_neg (by omega)], ((pl1.trans (y7.pl (by omega))).trans (st.pl (by omega))).m, (u10.trans y10).sA rfl, by omega, ?_, ?_⟩)
      · show grc τc.1 ≤ grc τ3.1 + _
        rw [y8, u8]; omega
      · show grs τc.1 ≤ grs τ3.1 + _
        rw [y8, u8]; omega
end ZZR1
