/-! PLAIN LAW: statements: soil, willow -/
set_option maxRecDepth 100000
section ZZS1
variable {X n V a p : Nat} {B : Nat → Nat} {τc τc' : CS} {τ τ' : TS} {v v' : VQ} {c' : CC}
/-- a cell of the soil or of the willows is written by both -/
theorem JV.cell {f w u x e : Nat} (hf : f = 3 ∨ f = 14) (h : JV X n B V τc τ v e e) (hw : w < 10) (hu : u < 8) (hx : x ≤ 9) : JV X n B V (τc.1, uA τc.2 (V + f + w) u (nI x)) (sA τ (if f = 3 then 50 else 52) (8 * w + u) (nI x)) (setq v ((if f = 3 then 100 else 200) + (8 * w + u)) x) e e := by
  obtain ⟨k1, k2, k3, k4, ⟨cd, k5, k6⟩, k7, k8, k9⟩ := h
  have hcc : ∀ b, b ≠ V + f + w → Eq1 τc.2 (uA τc.2 (V + f + w) u (nI x)) b := fun b hb => (Eq1.refl τc.2 b).uA hb
  rcases hf with rfl | rfl
  · rw [if_pos rfl, if_pos rfl]
    refine JV.wr (cd := cd) (v := v) ⟨k1, k2, k3, k4, ⟨cd, k5, k6⟩, k7, k8, k9⟩ (fun b hb => hcc b (by omega)) ?_ ?_ k6 (k2.sA (by omega)) (k7.chg (by omega) (fun h => by omega) (fun _ => hx))
    · refine CVh.chg k4 (Or.inr (Or.inl (by omega))) (fun b _ _ hb => hcc b hb) (by omega) (fun i hi => ?_) (fun i r hi hr => ?_) (fun i r hi hr => ?_)
      · rw [cA_uA, if_neg (by omega), qn_set, if_neg (by omega)]; exact k4.2.2.2.1 i hi
      · rw [cA_uA, qn_set]
        by_cases ei : i = w ∧ r = u
        · rw [if_pos ⟨by omega, ei.2⟩, if_pos (by omega)]
        · rw [if_neg (fun z => ei ⟨by omega, z.2⟩), if_neg (by omega)]; exact k4.2.2.2.2.1 i r hi hr
      · rw [cA_uA, if_neg (by omega), qn_set, if_neg (by omega)]; exact k4.2.2.2.2.2.1 i r hi hr
    · refine TVh.chg k5 (by omega) (fun _ => rfl) (fun j i h1 h2 h3 => by rw [tA_sA, if_neg (by omega)]) (fun _ _ => rfl) (fun i hi => ?_) (fun i hi => ?_) (fun i hi => ?_)
      · rw [tA_sA, if_neg (by omega), qn_set, if_neg (by omega)]; exact k5.2.2.2.2.1 i hi
      · rw [tA_sA, qn_set]
        by_cases ei : i = 8 * w + u
        · rw [if_pos ⟨rfl, ei⟩, if_pos (by omega)]
        · rw [if_neg (fun z => ei z.2), if_neg (by omega)]; exact k5.2.2.2.2.2.1 i hi
      · rw [tA_sA, if_neg (by omega), qn_set, if_neg (by omega)]; exact k5.2.2.2.2.2.2.1 i hi
  · rw [if_neg (by decide), if_neg (by decide)]
    refine JV.wr (cd := cd) (v := v) ⟨k1, k2, k3, k4, ⟨cd, k5, k6⟩, k7, k8, k9⟩ (fun b hb => hcc b (by omega)) ?_ ?_ k6 (k2.sA (by omega)) (k7.chg (by omega) (fun h => by omega) (fun _ => hx))
    · refine CVh.chg k4 (Or.inr (Or.inr (by omega))) (fun b _ _ hb => hcc b hb) (by omega) (fun i hi => ?_) (fun i r hi hr => ?_) (fun i r hi hr => ?_)
      · rw [cA_uA, if_neg (by omega), qn_set, if_neg (by omega)]; exact k4.2.2.2.1 i hi
      · rw [cA_uA, if_neg (by omega), qn_set, if_neg (by omega)]; exact k4.2.2.2.2.1 i r hi hr
      · rw [cA_uA, qn_set]
        by_cases ei : i = w ∧ r = u
        · rw [if_pos ⟨by omega, ei.2⟩, if_pos (by omega)]
        · rw [if_neg (fun z => ei ⟨by omega, z.2⟩), if_neg (by omega)]; exact k4.2.2.2.2.2.1 i r hi hr
    · refine TVh.chg k5 (by omega) (fun _ => rfl) (fun j i h1 h2 h3 => by rw [tA_sA, if_neg (by omega)]) (fun _ _ => rfl) (fun i hi => ?_) (fun i hi => ?_) (fun i hi => ?_)
      · rw [tA_sA, if_neg (by omega), qn_set, if_neg (by omega)]; exact k5.2.2.2.2.1 i hi
      · rw [tA_sA, if_neg (by omega), qn_set, if_neg (by omega)]; exact k5.2.2.2.2.2.1 i hi
      · rw [tA_sA, qn_set]
        by_cases ei : i = 8 * w + u
        · rw [if_pos ⟨rfl, ei⟩, if_pos (by omega)]
        · rw [if_neg (fun z => ei z.2), if_neg (by omega)]; exact k5.2.2.2.2.2.2.1 i hi
theorem n8 {w u : Nat} : 8 * nI w + nI u = nI (8 * w + u) := by rw [nl_8, pk_mul, nI_add]
/-- the soil of a cell -/
theorem J_soil {x2 : Int32} (hj : JV X n B V τc τ v a p) : OK2 (Jc_X2_laid_109 (X + 28) x2 1 τc) (f_t_soilTold τ) (fun r q => JSt X n B V v τc τ a (1 : Int32) r q) := by
  obtain ⟨ha, hn, hgz, -⟩ := hj.1.le
  have g := sk_g (B := B) ha
  unfold Jc_X2_laid_109 f_t_soilTold
  rw [if_neg (by decide), if_pos rfl, if_pos hj.1.1.1.2.2.1]
  obtain ⟨⟨r1, τ1⟩, ⟨q1, t1⟩, e1, e2, hh⟩ := J_col hj
  rw [e1, e2, xbd_some]
  rcases hh with hb | ⟨w, e, u1, u2, u3, u4, u5, u6, u7, u8, u9, u10, u11⟩
  · obtain ⟨hi, h5⟩ := hb.inr
    have hi : r1 = .inr (X + 29) := (Prod.mk.inj hi).1
    subst hi
    dsimp only at h5
    rw [xbx_r, T_rowBad h5, xbd_some, T_numBad h5, xbd_some, if_neg h5]
    exact OK2_some (Or.inl (hb.w (by omega) (by omega)))
  · dsimp only at u1 u2 u6 u7 u8 u9 u10
    subst u1
    subst u2
    have hvz := u6.vz
    rw [xbx_l, if_pos u6.1.1.1.2.2.1]
    obtain ⟨⟨r3, τ3⟩, ⟨q3, t3⟩, e3, e4, hh⟩ := J_row u6
    rw [e3, e4, xbd_some]
    have pl1 : PL V X τc τ1 := u7.pl (by have := hj.vz; omega)
    rcases hh with hb | ⟨w2, e', y1, y2, y3, y4, y5, y6, y7, y8, y9, y10, y11⟩
    · obtain ⟨hi, h5⟩ := hb.inr
      have hi : r3 = .inr (X + 29) := (Prod.mk.inj hi).1
      subst hi
      dsimp only at h5
      rw [xbx_r, T_numBad h5, xbd_some, if_neg h5]
      exact OK2_some (Or.inl ((hb.pre pl1.m u10 (c1 := 60 * (n + 2 - a)) (c2 := 600 * (n + 2 - a)) (by rw [u8]; omega) (by rw [u8]; omega)).w (Nat.le_refl _) (Nat.le_refl _)))
    · dsimp only at y1 y2 y6 y7 y8 y9 y10
      subst y1
      subst y2
      have hvz3 := y6.vz
      have hC : 3 ≤ qn v 0 ∧ qn v 0 ≤ 10 := y6.2.2.2.2.2.1.1
      have hW : 2 ≤ qn v 1 ∧ qn v 1 ≤ 8 := y6.2.2.2.2.2.1.2.1
      obtain ⟨l1, l2, l3, l4⟩ := y6.2.2.2.1.1.2.2.1
      have pl3 : PL V X τc τ3 := pl1.trans (y7.pl (by omega))
      rw [xbx_l, if_pos y6.1.1.1.2.2.1, y6.2.2.2.2.2.2.1, Option.bind_some, if_pos y6.2.2.2.1.1.1, l1, Option.bind_some, if_pos l2, l3, if_pos (xin_nI (show w < 10 by omega) (by omega)), nI_clamp (show w < 2 ^ 31 by omega), (l4 w (by omega)).1]
      obtain ⟨⟨r5, τ5⟩, ⟨q5, t5⟩, e5, e6, hh⟩ := J_numV (l := 0) (h := 9) y6 (by omega) (by omega)
      rw [show f_x_X2_number (X + 28) 0 9 τ3 = _ from e5, show f_t_number 0 9 t3 = _ from e6, xbd_some]
      rcases hh with hb | ⟨w3, e3', z1, z2, z3, z4, z5, z6, z7, z8, z9, z10, z11⟩
      · obtain ⟨hi, h5⟩ := hb.inr
        have hi : r5 = .inr (X + 29) := (Prod.mk.inj hi).1
        subst hi
        dsimp only at h5
        rw [xbx_r, if_neg h5]
        exact OK2_some (Or.inl ((hb.pre pl3.m (u10.trans y10) (c1 := 60 * (n + 2 - a)) (c2 := 600 * (n + 2 - a)) (by rw [y8, u8]; omega) (by rw [y8, u8]; omega)).w (Nat.le_refl _) (Nat.le_refl _)))
      · dsimp only at z1 z2 z6 z7 z8 z9 z10
        subst z1
        subst z2
        have hvz5 := z6.vz
        obtain ⟨-, -, -, l5⟩ := z6.2.2.2.1.1.2.2.1
        rw [xbx_l, if_pos (l5 w (by omega)).2.1, (l5 w (by omega)).2.2, if_pos (xin_nI (show w2 < 8 by omega) (by omega)), nI_clamp (show w2 < 2 ^ 31 by omega), if_pos z6.2.1.1.2.1, n8, if_pos (xin_nI (show 8 * w + w2 < 160 by omega) (by omega)), nI_clamp (show 8 * w + w2 < 2 ^ 31 by omega)]
        have jv := JV.cell (f := 3) (w := w) (u := w2) (x := w3) (Or.inl rfl) z6 (by omega) (by omega) z4
        rw [if_pos rfl, if_pos rfl] at jv
        have st : STz V τ5 (τ5.1, uA τ5.2 (V + 3 + w) w2 (nI w3)) := ⟨Nat.le_refl _, AgG.refl _ _ _, fun b hb => (Eq1.refl τ5.2 b).uA (by omega)⟩
        have ge := sk_g (B := B) z6.1.le.1
        have ge1 := sk_g (B := B) u6.1.le.1
        have ge2 := sk_g (B := B) y6.1.le.1
        refine OK2_some (Or.inr ⟨_, e3', e3', rfl, jv, by rw [qn_set, if_neg (by omega)], ((pl3.trans (z7.pl (by omega))).trans (st.pl (by have := hj.2.2.2.2.2.2.2; omega))).m, ((u10.trans y10).trans z10).sA (by unfold zA; simp; omega), by omega, ?_, ?_⟩)
        · show grc τc.1 ≤ grc τ5.1 + _
          rw [z8, y8, u8]; omega
        · show grs τc.1 ≤ grs τ5.1 + _
          rw [z8, y8, u8]; omega
/-- a willow -/
theorem J_willow {x2 : Int32} (hj : JV X n B V τc τ v a p) : OK2 (Jc_X2_laid_109 (X + 28) x2 2 τc) (f_t_willowTold τ) (fun r q => JSt X n B V v τc τ a (1 : Int32) r q) := by
  obtain ⟨ha, hn, hgz, -⟩ := hj.1.le
  have g := sk_g (B := B) ha
  unfold Jc_X2_laid_109 f_t_willowTold
  rw [if_neg (by decide), if_neg (by decide), if_pos rfl, if_pos hj.1.1.1.2.2.1]
  obtain ⟨⟨r1, τ1⟩, ⟨q1, t1⟩, e1, e2, hh⟩ := J_col hj
  rw [e1, e2, xbd_some]
  have jbad : ∀ x y (q : TS), tI q 5 ≠ 0 → Jt_willowTold_42 x y q = some q := fun x y q h => by
    unfold Jt_willowTold_42
    rw [if_neg h]
  rcases hh with hb | ⟨w, e, u1, u2, u3, u4, u5, u6, u7, u8, u9, u10, u11⟩
  · obtain ⟨hi, h5⟩ := hb.inr
    have hi : r1 = .inr (X + 29) := (Prod.mk.inj hi).1
    subst hi
    dsimp only at h5
    rw [xbx_r, T_rowBad h5, xbd_some, if_neg h5, jbad _ _ _ h5]
    exact OK2_some (Or.inl (hb.w (by omega) (by omega)))
  · dsimp only at u1 u2 u6 u7 u8 u9 u10
    subst u1
    subst u2
    have hvz := u6.vz
    rw [xbx_l, if_pos u6.1.1.1.2.2.1]
    obtain ⟨⟨r3, τ3⟩, ⟨q3, t3⟩, e3, e4, hh⟩ := J_row u6
    rw [e3, e4, xbd_some]
    have pl1 : PL V X τc τ1 := u7.pl (by have := hj.vz; omega)
    rcases hh with hb | ⟨w2, e', y1, y2, y3, y4, y5, y6, y7, y8, y9, y10, y11⟩
    · obtain ⟨hi, h5⟩ := hb.inr
      have hi : r3 = .inr (X + 29) := (Prod.mk.inj hi).1
      subst hi
      dsimp only at h5
      rw [xbx_r, if_neg h5, jbad _ _ _ h5]
      exact OK2_some (Or.inl ((hb.pre pl1.m u10 (c1 := 60 * (n + 2 - a)) (c2 := 600 * (n + 2 - a)) (by rw [u8]; omega) (by rw [u8]; omega)).w (Nat.le_refl _) (Nat.le_refl _)))
    · dsimp only at y1 y2 y6 y7 y8 y9 y10 y11
      subst y1
      subst y2
      have hvz3 := y6.vz
      have hC : 3 ≤ qn v 0 ∧ qn v 0 ≤ 10 := y6.2.2.2.2.2.1.1
      have hW : 2 ≤ qn v 1 ∧ qn v 1 ≤ 8 := y6.2.2.2.2.2.1.2.1
      obtain ⟨l1, l2, l3, l4⟩ := y6.2.2.2.1.1.2.2.2.1
      obtain ⟨l4a, l4b, l4c⟩ := l4 w (by omega)
      have pl3 : PL V X τc τ3 := pl1.trans (y7.pl (by omega))
      have hcell : cA τ3.2 (V + 14 + w) w2 = nI (qn v (200 + (8 * w + w2))) := y6.2.2.2.1.2.2.2.2.2.1 w w2 (by omega) (by omega)
      have hle : qn v (200 + (8 * w + w2)) ≤ 9 := y6.2.2.2.2.2.1.2.2.2.2.2.2.2.2.1 (8 * w + w2) (by omega)
      have htw : tA t3 52 (8 * w + w2) = nI (qn v (200 + (8 * w + w2))) := by
        obtain ⟨cd, k5, -⟩ := y6.2.2.2.2.1
        exact k5.2.2.2.2.2.2.1 (8 * w + w2) (by omega)
      have xw : xin (nI w) 10 = true := xin_nI (show w < 10 by omega) (by omega)
      have xw2 : xin (nI w2) 8 = true := xin_nI (show w2 < 8 by omega) (by omega)
      have x80 : xin (nI (8 * w + w2)) 80 = true := xin_nI (show 8 * w + w2 < 80 by omega) (by omega)
      have h306 := y6.2.2.2.2.2.2.1
      have hT2 := y6.2.2.2.1.1.1
      have ge := sk_g (B := B) y6.1.le.1
      have ge1 := sk_g (B := B) u6.1.le.1
      rw [xbx_l, if_pos y6.1.1.1.2.2.1, h306, Option.bind_some, if_pos hT2, l1, Option.bind_some, if_pos l2, l3, if_pos xw, nI_clamp (show w < 2 ^ 31 by omega), l4a, if_pos l4b, l4c, if_pos xw2, nI_clamp (show w2 < 2 ^ 31 by omega), hcell, if_pos y6.2.1.1.2.1, n8, if_pos x80, nI_clamp (show 8 * w + w2 < 2 ^ 31 by omega), htw]
      by_cases e9 : qn v (200 + (8 * w + w2)) = 9
      · rw [if_pos (by rw [e9]; rfl), y9, C_wrong y6.1.1.1, xbd_some, if_pos y6.1.1.1.2.2.2.2.1, if_pos (by rw [e9]; rfl), T_fail y6.2.1.1.2.1, Option.bind_some, y11]
        have h5 : tI (sI (sI t3 5 2) 6 (nI (sk B n e))) 5 ≠ 0 := by rw [tI_sI, if_neg (by omega), tI_sI, if_pos rfl]; decide
        rw [jbad _ _ _ h5]
        refine OK2_some (Or.inl ⟨2, sk B n e, rfl, FLT.mk (k := 2), (pl3.trans (PF.pl (τ := τ3) ((PR.refl (X := X)).u29.u29).pf (by omega))).m, ?_, ?_, ⟨by rw [tI_sI, if_neg (by omega), tI_sI, if_pos rfl]; rfl, by rw [tI_sI, if_pos rfl]⟩, by omega, by omega, ((u10.trans y10).sI rfl).sI rfl⟩)
        · show grc τc.1 ≤ grc τ3.1 + _
          rw [y8, u8]; omega
        · show grs τc.1 ≤ grs τ3.1 + _
          rw [y8, u8]; omega
      · rw [if_neg (by show ¬ nI _ = nI 9; rw [nI_eq (by omega) (by omega)]; exact e9), Option.bind_some, if_pos hT2, l1, Option.bind_some, if_pos l2, l3, if_pos xw, l4a, if_pos l4b, l4c, if_pos xw2, if_pos xw2, hcell, if_neg (by show ¬ nI _ = nI 9; rw [nI_eq (by omega) (by omega)]; exact e9)]
        unfold Jt_willowTold_42
        rw [if_pos y6.2.1.1.2.1, n8, if_pos x80, if_pos x80, nI_clamp (show 8 * w + w2 < 2 ^ 31 by omega), htw, nl_1, nI_add]
        have jv := JV.cell (f := 14) (w := w) (u := w2) (x := qn v (200 + (8 * w + w2)) + 1) (Or.inr rfl) y6 (by omega) (by omega) (by omega)
        rw [if_neg (by decide), if_neg (by decide)] at jv
        have st : STz V τ3 (τ3.1, uA τ3.2 (V + 14 + w) w2 (nI (qn v (200 + (8 * w + w2)) + 1))) := ⟨Nat.le_refl _, AgG.refl _ _ _, fun b hb => (Eq1.refl τ3.2 b).uA (by omega)⟩
        refine OK2_some (Or.inr ⟨_, e', e', rfl, jv, by rw [qn_set, if_neg (by omega)], (pl3.trans (st.pl (by have := hj.2.2.2.2.2.2.2; omega))).m, (u10.trans y10).sA rfl, by omega, ?_, ?_⟩)
        · show grc τc.1 ≤ grc τ3.1 + _
          rw [y8, u8]; omega
        · show grs τc.1 ≤ grs τ3.1 + _
          rw [y8, u8]; omega
end ZZS1
