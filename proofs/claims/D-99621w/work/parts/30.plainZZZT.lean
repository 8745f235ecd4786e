/-! PLAIN LAW: statements: spate, eats, bend -/
set_option maxRecDepth 100000
def sete (v : VQ) (cs : List Nat) : VQ := (v.1, v.2.1, some cs, v.2.2.2)
def setb (v : VQ) (cs : List Nat) : VQ := (v.1, v.2.1, v.2.2.1, some cs)
section ZZT1
variable {X n V a p : Nat} {B : Nat → Nat} {τc τc' : CS} {τ τ' : TS} {v v' : VQ} {g : CG} {c c' : CC} {hi cd : Nat}
theorem TVh.of (h : TVh τ cd v) (eI : ∀ k, k = 46 ∨ k = 53 ∨ k = 58 → tI τ' k = tI τ k) (eA : ∀ k i, 45 ≤ k → k ≤ 57 → tA τ' k i = tA τ k i) (eM : ∀ i, tM τ' 48 i = tM τ 48 i) : TVh τ' cd v := by
  obtain ⟨⟨h1, h2, h3⟩, h4, h5, h6, h7, h8, h9, h10, h11, h12, h13, h14, h15⟩ := h
  exact ⟨⟨by rw [eA 45 _ (by omega) (by omega)]; exact h1, by rw [eA 45 _ (by omega) (by omega)]; exact h2, by rw [eA 45 _ (by omega) (by omega)]; exact h3⟩, rfl, by rw [eI 46 (by omega)]; exact h5, by rw [eI 53 (by omega)]; exact h6, fun i hi => by rw [eA 51 _ (by omega) (by omega)]; exact h7 i hi, fun i hi => by rw [eA 50 _ (by omega) (by omega)]; exact h8 i hi, fun i hi => by rw [eA 52 _ (by omega) (by omega)]; exact h9 i hi, fun k hk j hj => by rw [eA 49 _ (by omega) (by omega)]; exact h10 k hk j hj, fun k hk => by rw [eM]; exact h11 k hk, by rw [eI 58 (by omega)]; exact h12, h13, h14.of (by omega) (fun i => eA 55 i (by omega) (by omega)) (fun i => eA 56 i (by omega) (by omega)) (fun i => eA 57 i (by omega) (by omega)), h15.of (by omega) (fun i => eA 55 i (by omega) (by omega)) (fun i => eA 56 i (by omega) (by omega)) (fun i => eA 57 i (by omega) (by omega))⟩
/-- the valley's own cell is written -/
theorem CVh.chV (h : CVh g c X V hi v) (hc : ∀ a, V ≤ a → a < hi → a ≠ V → Eq1 c c' a) (hq : ∀ j, j ≠ 3 → j ≠ 5 → qn v' j = qn v j) (hm : ∀ k, qm v' k = qm v k)
    (hI : cI c' 200 V = nI (qn v' 3) ∧ cI c' 201 V = cI c 201 V ∧ cI c' 202 V = cI c 202 V ∧ cI c' 203 V = cI c 203 V ∧ cI c' 204 V = nI (qn v' 5))
    (hE : ∀ arr, arr < hi → EVh g c X V hi arr (qe v) → EVh g c' X V hi arr (qe v')) (hB : ∀ arr, arr < hi → BVh g c X V hi arr (qb v) → BVh g c' X V hi arr (qb v')) : CVh g c' X V hi v' := by
  obtain ⟨k1, k2, ⟨i0, i1, i2, i3, i4⟩, t1, t2, t3, arr, ad, m1, m2, m3, m4, m5, m6⟩ := h
  refine ⟨k1, k2, ⟨hI.1, by rw [hI.2.1, hq 0 (by omega) (by omega)]; exact i1, by rw [hI.2.2.1, hq 1 (by omega) (by omega)]; exact i2, by rw [hI.2.2.2.1, hq 2 (by omega) (by omega)]; exact i3, hI.2.2.2.2⟩, fun i hi => by rw [(hc (V + 1) (by omega) (by omega) (by omega)).2.2.2.1, hq _ (by omega) (by omega)]; exact t1 i hi, fun i r hi hr => by rw [(hc (V + 3 + i) (by omega) (by omega) (by omega)).2.2.2.1, hq _ (by omega) (by omega)]; exact t2 i r hi hr, fun i r hi hr => by rw [(hc (V + 14 + i) (by omega) (by omega) (by omega)).2.2.2.1, hq _ (by omega) (by omega)]; exact t3 i r hi hr, arr, ad, ?_, m2, m3, fun j hj => ?_, hE arr m3 m5, hB arr m3 m6⟩
  · rw [hq 4 (by omega) (by omega)]
    exact m1.of rfl ⟨rfl, rfl⟩ (fun _ _ => rfl) (hc _ (by omega) (by omega) (by omega)) (hc arr (by omega) m3 (by omega))
  · rw [hq 4 (by omega) (by omega)] at hj
    have := (m4 j hj).of (c' := c') (fun a _ _ _ => ⟨rfl, rfl, fun _ => rfl⟩) (fun a a1 a2 _ => hc a (by omega) a2 (by omega))
    obtain ⟨l1, l2, ⟨l3, l4, l5, l6, l7⟩, s, b, l8, l9, l10, l11, l12, l13, l14, l15, l16⟩ := this
    exact ⟨l1, l2, ⟨by rw [hq _ (by omega) (by omega)]; exact l3, by rw [hq _ (by omega) (by omega)]; exact l4, by rw [hq _ (by omega) (by omega)]; exact l5, by rw [hq _ (by omega) (by omega)]; exact l6, by rw [hq _ (by omega) (by omega)]; exact l7⟩, s, b, l8, l9, l10, l11, l12, l13, l14, by rw [hm]; exact l15, fun i hi => by rw [hm] at hi ⊢; exact l16 i hi⟩
theorem EVh.cell {arr : Nat} {oc : Option (List Nat)} (h : EVh g c X V hi arr oc) (hc : ∀ a, V ≤ a → a < hi → a ≠ V → Eq1 c c' a) (h9 : cR c' 209 V = cR c 209 V) : EVh g c' X V hi arr oc := by
  unfold EVh at h ⊢
  cases oc with
  | none => show cR c' 209 V = none; rw [h9]; exact h
  | some cs =>
    obtain ⟨e, elo, ehi, n1, n2, n3, n4, n5⟩ := h
    exact ⟨e, elo, ehi, by rw [h9]; exact n1, n2.of (fun a _ _ => ⟨rfl, rfl, fun _ => rfl, fun _ => rfl⟩) (fun a a1 a2 => hc a (by omega) (by omega) (by omega)), n3, n4, n5⟩
theorem BVh.cell {arr : Nat} {oc : Option (List Nat)} (h : BVh g c X V hi arr oc) (hc : ∀ a, V ≤ a → a < hi → a ≠ V → Eq1 c c' a) (h9 : cR c' 210 V = cR c 210 V) : BVh g c' X V hi arr oc := by
  unfold BVh at h ⊢
  cases oc with
  | none => show cR c' 210 V = none; rw [h9]; exact h
  | some cs =>
    obtain ⟨e, elo, ehi, n1, n2, n3, n4, n5⟩ := h
    exact ⟨e, elo, ehi, by rw [h9]; exact n1, n2.of (fun a _ _ => ⟨rfl, rfl, fun _ => rfl, fun _ => rfl⟩) (fun a a1 a2 => hc a (by omega) (by omega) (by omega)), n3, n4, n5⟩
theorem TRd.sI {k : Nat} {x : Int32} (h : TRd τ n B p) (hk : k ≠ 2 ∧ k ≠ 3 ∧ k ≠ 4 ∧ k ≠ 5) : TRd (sI τ k x) n B p := ⟨h.1.of (fun j hj => by rw [tI_sI, if_neg (by omega)]) (fun j => rfl), h.2.of (fun y hy j => rfl)⟩
/-- spate -/
theorem J_spate {x2 : Int32} (hj : JV X n B V τc τ v a p) : OK2 (Jc_X2_more_86 (X + 28) x2 2 τc) (xbd (f_t_number 0 100 τ) fun r9 τ9 => some (sI τ9 53 r9)) (fun r q => JSt X n B V v τc τ a () r q) := by
  obtain ⟨ha, hn, hgz, -⟩ := hj.1.le
  have g := sk_g (B := B) ha
  unfold Jc_X2_more_86
  rw [if_neg (by decide), if_neg (by decide), if_pos rfl, if_pos hj.1.1.1.2.2.1, hj.2.2.2.2.2.2.1, Option.bind_some]
  obtain ⟨⟨r1, τ1⟩, ⟨q1, t1⟩, e1, e2, hh⟩ := J_numV (l := 0) (h := 100) hj (by omega) (by omega)
  rw [show f_x_X2_number (X + 28) 0 100 τc = _ from e1, show f_t_number 0 100 τ = _ from e2, xbd_some]
  rcases hh with hb | ⟨w, e, u1, u2, u3, u4, u5, u6, u7, u8, u9, u10, u11⟩
  · obtain ⟨hi, h5⟩ := hb.inr
    have hi : r1 = .inr (X + 29) := (Prod.mk.inj hi).1
    subst hi
    rw [xbx_r]
    obtain ⟨k, q, b1, b2, b3, b4, b5, b6, b7, b8, b9⟩ := hb
    exact OK2_some (Or.inl ⟨k, q, rfl, b2, b3, by dsimp only at b4 ⊢; omega, by dsimp only at b5 ⊢; omega, ⟨by rw [tI_sI, if_neg (by omega)]; exact b6.1, by rw [tI_sI, if_neg (by omega)]; exact b6.2⟩, b7, b8, b9.sI rfl⟩)
  · dsimp only at u1 u2 u6 u7 u8 u9 u10
    subst u1
    subst u2
    have hvz := u6.vz
    obtain ⟨k1, k2, k3, k4, ⟨cd, k5, k6⟩, k7, k8, k9⟩ := u6
    rw [xbx_l, if_pos k4.1.1]
    have hcc : ∀ b, b ≠ V → Eq1 τ1.2 (uI τ1.2 204 V (nI w)) b := fun b hb => (Eq1.refl τ1.2 b).uI hb
    have hc0 := k4.2.2.1
    have jv : JV X n B V (τ1.1, uI τ1.2 204 V (nI w)) (sI t1 53 (nI w)) (setq v 5 w) e e := by
      refine JV.wr (cd := cd) (v := v) ⟨k1, k2, k3, k4, ⟨cd, k5, k6⟩, k7, k8, k9⟩ (fun b hb => hcc b (by omega)) ?_ ?_ k6 (k2.sI (by omega)) ?_
      · refine CVh.chV k4 (fun b _ _ hb => hcc b hb) (fun j h3 h5 => by rw [qn_set, if_neg h5]) (fun k => rfl) ⟨?_, ?_, ?_, ?_, ?_⟩ (fun arr _ h => h.cell (fun b _ _ hb => hcc b hb) rfl) (fun arr _ h => h.cell (fun b _ _ hb => hcc b hb) rfl)
        · rw [cI_uI, if_neg (by omega), qn_set, if_neg (by omega)]; exact hc0.1
        · rw [cI_uI, if_neg (by omega)]
        · rw [cI_uI, if_neg (by omega)]
        · rw [cI_uI, if_neg (by omega)]
        · rw [cI_uI, if_pos ⟨rfl, rfl⟩, qn_set, if_pos rfl]
      · obtain ⟨⟨h1, h2, h3⟩, h4, h5, h6, h7, h8, h9, h10, h11, h12, h13, h14, h15⟩ := k5
        have q : ∀ j, j ≠ 5 → qn (setq v 5 w) j = qn v j := fun j hj => by rw [qn_set, if_neg hj]
        exact ⟨⟨by rw [tA_sI, q 0 (by omega)]; exact h1, by rw [tA_sI, q 1 (by omega)]; exact h2, by rw [tA_sI, q 2 (by omega)]; exact h3⟩, rfl, by rw [tI_sI, if_neg (by omega), q 4 (by omega)]; exact h5, by rw [tI_sI, if_pos rfl, qn_set, if_pos rfl], fun i hi => by rw [tA_sI, q _ (by omega)]; exact h7 i hi, fun i hi => by rw [tA_sI, q _ (by omega)]; exact h8 i hi, fun i hi => by rw [tA_sI, q _ (by omega)]; exact h9 i hi, fun k hk j hj => by rw [q 4 (by omega)] at hk; rw [tA_sI, q _ (by omega)]; exact h10 k hk j hj, fun k hk => by rw [q 4 (by omega)] at hk; exact h11 k hk, by rw [tI_sI, if_neg (by omega)]; exact h12, h13, h14, h15⟩
      · obtain ⟨b0, b1, b2, b3, b4, b5, b6, b7, b8, b9, b10, b11, b12⟩ := k7
        have q : ∀ j, j ≠ 5 → qn (setq v 5 w) j = qn v j := fun j hj => by rw [qn_set, if_neg hj]
        exact ⟨by rw [q 0 (by omega)]; exact b0, by rw [q 1 (by omega)]; exact b1, by rw [q 2 (by omega)]; exact b2, by rw [q 3 (by omega)]; exact b3, by rw [q 4 (by omega)]; exact b4, by rw [qn_set, if_pos rfl]; exact u4, fun i hi => by rw [q _ (by omega), q 1 (by omega)]; exact b6 i hi, fun i hi => by rw [q _ (by omega)]; exact b7 i hi, fun i hi => by rw [q _ (by omega)]; exact b8 i hi, fun j hj => by rw [q 4 (by omega)] at hj; rw [q _ (by omega), q _ (by omega), q _ (by omega), q _ (by omega), q _ (by omega), q _ (by omega)]; exact b9 j hj, fun j hj => by rw [q 4 (by omega)] at hj; exact b10 j hj, b11, b12⟩
    have st : STz V τ1 (τ1.1, uI τ1.2 204 V (nI w)) := ⟨Nat.le_refl _, AgG.refl _ _ _, fun b hb => hcc b (by omega)⟩
    have ge := sk_g (B := B) k1.le.1
    refine OK2_some (Or.inr ⟨_, e, e, rfl, jv, by rw [qn_set, if_neg (by omega)], ((u7.pl (by have := hj.vz; omega)).trans (st.pl (by omega))).m, u10.sI rfl, by omega, ?_, ?_⟩)
    · show grc τc.1 ≤ grc τ1.1 + _
      rw [u8]; omega
    · show grs τc.1 ≤ grs τ1.1 + _
      rw [u8]; omega
/-- the codes are kept -/
theorem T_72 {w : Nat} {cs : List Nat} (hw : w < 2) (h5 : tI τ 5 = 0) (hC : Cd τ cs) (h58 : tI τ 58 = nI cd) (hl : cd + cs.length ≤ 1600) : ∃ q, Jt_codesTold_72 (nI w) τ = some q ∧ TZ τ q ∧ (tA q 55 w = nI cd ∧ tA q 56 w = nI (cd + cs.length) ∧ tI q 58 = nI (cd + cs.length)) ∧ (∀ i, i < cs.length → tA q 57 (cd + i) = nI (cs.getD i 0)) ∧ (∀ i, i < cd → tA q 57 i = tA τ 57 i) ∧ (∀ k, k ≠ 58 → tI q k = tI τ k) ∧ (∀ k i, k ≠ 57 → (k ≠ 55 ∧ k ≠ 56 ∨ i ≠ w) → tA q k i = tA τ k i) ∧ (∀ i, tM q 48 i = tM τ 48 i) := by
  have hclw : (nI w).toNatClampNeg = w := nI_clamp (by omega)
  have xw : xin (nI w) 4 = true := xin_nI (by omega) (by omega)
  have key : OK (itr (fun s_ : Int32 × TS => Bt_codesTold_92 (nI w) s_.1 s_.2) 4096 (nI 0, sA τ 55 w (nI cd))) (fun q => TZ τ q ∧ tI q 58 = nI (cd + cs.length) ∧ (∀ i, i < cs.length → tA q 57 (cd + i) = nI (cs.getD i 0)) ∧ (∀ i, i < cd → tA q 57 i = tA τ 57 i) ∧ (∀ k, k ≠ 58 → tI q k = tI τ k) ∧ (∀ k i, k ≠ 57 → tA q k i = tA (sA τ 55 w (nI cd)) k i) ∧ (∀ i, tM q 48 i = tM τ 48 i)) := by
    refine itr_for (fun j s => ∃ q, s = (nI j, q) ∧ TZ τ q ∧ tI q 58 = nI (cd + j) ∧ (∀ i, i < j → tA q 57 (cd + i) = nI (cs.getD i 0)) ∧ (∀ i, i < cd → tA q 57 i = tA τ 57 i) ∧ (∀ k, k ≠ 58 → tI q k = tI τ k) ∧ (∀ k i, k ≠ 57 → tA q k i = tA (sA τ 55 w (nI cd)) k i) ∧ (∀ i, tM q 48 i = tM τ 48 i)) _ 0 cs.length ?_ ?_ (by omega) (by omega) ⟨_, rfl, TZ.refl.sA (by unfold zA; simp; omega), h58, fun i hi => absurd hi (Nat.not_lt_zero i), fun i hi => by rw [tA_sA, if_neg (by omega)], fun _ _ => rfl, fun _ _ _ => rfl, fun _ => rfl⟩
    · rintro j s - hj ⟨q, rfl, m1, m2, m3, m4, m5, m6, m7⟩
      show OK (Bt_codesTold_92 (nI w) (nI j) q) _
      unfold Bt_codesTold_92
      have e121 : tI q 121 = nI cs.length := by rw [m5 121 (by omega)]; exact hC.1
      have e120 : tA q 120 j = nI (cs.getD j 0) := by rw [m6 120 j (by omega), tA_sA, if_neg (by omega)]; exact hC.2 j hj
      rw [e121, if_neg (by rw [nI_leI (by omega) (by omega)]; omega), if_pos (xin_nI (show j < 1700 by omega) (by omega)), m2, if_pos (xin_nI (show cd + j < 3200 by omega) (by omega)), nI_clamp (show cd + j < 2 ^ 31 by omega), nI_clamp (show j < 2 ^ 31 by omega), e120, tI_sA, m2, nl_1, nI_add, nI_add]
      refine OK_some (Or.inl ⟨_, rfl, _, rfl, (m1.sA (by unfold zA; simp; omega)).sI rfl, by rw [tI_sI, if_pos rfl]; rfl, fun i hi => ?_, fun i hi => ?_, fun k hk => by rw [tI_sI, if_neg hk]; exact m5 k hk, fun k i hk => by rw [tA_sI, tA_sA, if_neg (fun z => hk z.1)]; exact m6 k i hk, m7⟩)
      · rw [tA_sI, tA_sA]
        by_cases ei : i = j
        · rw [if_pos ⟨rfl, by omega⟩, ei]
        · rw [if_neg (fun z => ei (by omega))]; exact m3 i (by omega)
      · rw [tA_sI, tA_sA, if_neg (by omega)]; exact m4 i hi
    · rintro s ⟨q, rfl, m1, m2, m3, m4, m5, m6, m7⟩
      show OK (Bt_codesTold_92 (nI w) (nI cs.length) q) _
      unfold Bt_codesTold_92
      have e121 : tI q 121 = nI cs.length := by rw [m5 121 (by omega)]; exact hC.1
      rw [e121, if_pos (by rw [nI_leI (by omega) (by omega)]; omega)]
      exact OK_some ⟨_, rfl, m1, m2, m3, m4, m5, m6, m7⟩
  obtain ⟨q, eq, m1, m2, m3, m4, m5, m6, m7⟩ := key
  refine ⟨sA q 56 w (nI (cd + cs.length)), ?_, m1.sA (by unfold zA; simp; omega), ⟨?_, ?_, m2⟩, fun i hi => by rw [tA_sA, if_neg (by omega)]; exact m3 i hi, fun i hi => by rw [tA_sA, if_neg (by omega)]; exact m4 i hi, m5, fun k i h1 h2 => ?_, m7⟩
  · unfold Jt_codesTold_72
    rw [if_pos h5, if_pos xw, h58, hclw, show (0 : Int32) = nI 0 from rfl, eq, Option.bind_some, if_pos xw, m2]
  · rw [tA_sA, if_neg (by omega), m6 55 w (by omega), tA_sA, if_pos ⟨rfl, rfl⟩]
  · rw [tA_sA, if_pos ⟨rfl, rfl⟩]
  · rw [tA_sA, if_neg (by omega), m6 k i h1, tA_sA, if_neg (by omega)]
end ZZT1
