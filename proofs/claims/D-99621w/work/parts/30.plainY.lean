/-! PLAIN LAW: a season of both in earnest -/
set_option maxRecDepth 100000
theorem keptS_lo {w : Nat → Int32} {b p : Int32} {K : Nat} (hK : K ≤ 40) (hw : w 182 = nI K) {i : Nat} (hi : i < 182) : keptS w b p i = w i := by
  have e1 : ∃ k, 1 ≤ k ∧ k ≤ 40 ∧ keptW w 182 = nI k := by
    unfold keptW
    by_cases e : w 182 = nI 40
    · rw [if_pos e]
      unfold shiftK
      rw [if_neg (by omega)]
      exact ⟨40, by omega, by omega, e⟩
    · rw [if_neg e, pk_us, hw, nI_add]
      refine ⟨K + 1, by omega, ?_, rfl⟩
      rw [hw, nI_eq (by omega) (by omega)] at e
      omega
  obtain ⟨k, k1, k2, e1⟩ := e1
  unfold keptS
  rw [e1, nI_clamp (by omega), pk_un (by omega), pk_un (by omega), pk_un (by omega)]
  unfold keptW
  split
  · unfold shiftK; rw [if_neg (by omega)]
  · rw [pk_un (by omega)]
theorem seasonT_wil {v : VD} {w G : Nat → Int32} (hb : VB v) {j : Nat} (h1 : 12 ≤ j) (h2 : j < 92) : seasonW v true w G j = w j := by
  unfold seasonW fundS
  rw [if_pos rfl, pk_un (by omega), pk_un (by omega)]
  unfold seasonP
  rw [bpN_out hb (by omega)]
  show everN (moveN v w (vC v)) (vC v) j = _
  rw [everN_out (by omega), moveN_out (by omega) _ hb.1]
theorem seasonF_lo {v : VD} {w G : Nat → Int32} {K : Nat} (hb : VB v) (hr : WR v w) (hK : K ≤ 40) (hw : w 182 = nI K) {i : Nat} (hi : i < 182) : seasonW v false w G i = seasonW v true w G i := by
  have h0 : fundS (seasonP v w G).1 (seasonP v w G).2.2.2 182 = nI K := by
    unfold fundS; rw [pk_un (by omega), seasonP_out hb hr (by omega)]; exact hw
  unfold seasonW
  simp only [Bool.false_eq_true, reduceIte]
  by_cases e : i = 0
  · subst e; rw [pk_us, pk_us, keptS_lo hK h0 (by omega)]
  · rw [pk_un e, pk_un e, keptS_lo hK h0 hi]
/-! what is paid is small -/
theorem payLN_b {v : VD} (hb : VB v) {c : Int32} {w G : Nat → Int32} : ∀ k, k ≤ vN v → ∃ m, m ≤ 99 * k ∧ (payLN v c (w, G, nI 0) k).2.2 = nI m
  | 0, _ => ⟨0, by omega, rfl⟩
  | k + 1, h => by
    obtain ⟨m, hm, e⟩ := payLN_b hb (c := c) (w := w) (G := G) k (by omega)
    obtain ⟨a, b, p, j, z, -, -, -, -, h5, h6, -⟩ := hb.2.2.2.2.2.2 k (by omega)
    show ∃ m, m ≤ 99 * (k + 1) ∧ (payL v c k (payLN v c (w, G, nI 0) k)).2.2 = nI m
    unfold payL
    split
    · show ∃ m, m ≤ 99 * (k + 1) ∧ (payLN v c (w, G, nI 0) k).2.2 + offS v (payLN v c (w, G, nI 0) k).1 k = nI m
      rw [e]
      unfold offS
      split
      · exact ⟨m + p, by omega, by rw [h5, nI_add]⟩
      · exact ⟨m + 0, by omega, by rw [nI_add]⟩
    · exact ⟨m, by omega, e⟩
theorem bpN_b {v : VD} (hb : VB v) {w G : Nat → Int32} : ∀ k, ∃ m, m ≤ 495 * k ∧ (bpN v (w, G, nI 0, nI 0) k).2.2.2 = nI m
  | 0 => ⟨0, by omega, rfl⟩
  | k + 1 => by
    obtain ⟨m, hm, e⟩ := bpN_b hb (w := w) (G := G) k
    have hn := hb.2.2.2.1
    show ∃ m, m ≤ 495 * (k + 1) ∧ (bpS v k (bpN v (w, G, nI 0, nI 0) k)).2.2.2 = nI m
    unfold bpS
    split
    · obtain ⟨p, hp, e2⟩ := payLN_b hb (c := nI k) (w := (bpN v (w, G, nI 0, nI 0) k).1) (G := (bpN v (w, G, nI 0, nI 0) k).2.1) (vN v) (by omega)
      show ∃ m, m ≤ 495 * (k + 1) ∧ (bpN v (w, G, nI 0, nI 0) k).2.2.2 + _ = nI m
      rw [e, e2, nI_add]
      exact ⟨m + p, by omega, rfl⟩
    · exact ⟨m, by omega, e⟩
theorem FB_season {v : VD} (hb : VB v) {w G w' : Nat → Int32} (hr : WR v w) (h : FB w) (e : w' 1 = seasonW v true w G 1) : FB w' := by
  obtain ⟨n, hn, hw⟩ := h
  have hb1 := hb.1
  obtain ⟨m, hm, hp⟩ := bpN_b hb (w := everN (moveN v w (vC v)) (vC v)) (G := G) (vC v)
  have hm2 : m ≤ 4950 := by omega
  unfold FB
  rw [e]
  unfold seasonW fundS
  rw [if_pos rfl, pk_un (by omega), pk_us, seasonP_out hb hr (by omega), hw, show (seasonP v w G).2.2.2 = nI m from hp, nI_add]
  split
  · rename_i h9
    rw [nI_leI (by omega) (by omega)] at h9
    exact ⟨n + m, h9, rfl⟩
  · exact ⟨999999, by omega, rfl⟩
section YYs
variable {g : CG} {c : CC} {τ q : TS} {X V s lo hi n : Nat} {v : VD} {w : Nat → Int32}
theorem I_passN (hx : CX g c X V v lo hi) (hs : StG g (X + 35) X) (hk : KSt c v (X + 35) (tA τ 62)) (hT : TV τ v) (h70 : tI τ 70 = nI 0) (hw : tA τ 62 0 = nI n) (hn : n < 999) :
    OK2 (f_c_X5_passes g (X + 35) c) (f_t_seasonGoes τ) (fun o q => KSt o.2 v (X + 35) (tA q 62) ∧ CF X (X + 35) c o.2 ∧ TX in71 in72 τ q ∧ tI q 71 = tI τ 71 + o.1 ∧ tA q 62 0 = nI (n + 1)) := by
  have hb := hx.2.2.2.2.2.1
  obtain ⟨k1, k2, k3, k4, K, π, k5, k6⟩ := hk
  have ht : CT g c X (X + 35) v (tA τ 62) := ⟨hs, k1, k2, by omega⟩
  have hr := k2.1
  obtain ⟨o, e1, p1, p2, p3, p4, K2, π2, p5, p6⟩ := C_passes (G := fun k => cA c (X + 35 + 67) k) hx ht (fun k _ => rfl) k5 hw (by omega)
  obtain ⟨q, e2, q1, q2, q3, q4⟩ := T_seasonGoes hT hb hr k5.2.1 k6.1
  have ed : decide (¬ tI τ 70 = nI 0) = false := by rw [h70]; decide
  rw [ed, seasonW_G (G' := fun k => cA c (X + 35 + 67) k)] at q1
  have hlo : ∀ i, i < 182 → tA q 62 i = seasonW v true (tA τ 62) (fun k => cA c (X + 35 + 67) k) i := fun i hi => by rw [q1, seasonF_lo hb hr k5.2.1 k6.1 hi]
  have ht2 := CT.cong hb p2 hlo
  have h0 : tA q 62 0 = nI (n + 1) := by rw [hlo 0 (by omega), seasonT_0 hb hr, hw, nI_add]
  refine ⟨o, q, e1, e2, ⟨ht2.2.1, ht2.2.2.1, ⟨fun k hk => ?_, ?_⟩, ⟨n + 1, by omega, h0⟩, K2, π2, p5, ?_⟩, p4, q4, ?_, h0⟩
  · rw [hlo _ (by omega), seasonT_wil hb (by omega) (by omega)]; exact k3.1 k hk
  · exact FB_season hb hr k3.2 (hlo 1 (by omega))
  · rw [q1]; exact p6 k6
  · rw [q3, p1, (seasonP_G (v := v) (w := tA τ 62) (G := tA τ 72) (G' := fun k => cA c (X + 35 + 67) k)).2]
/-- the component's own seasons, in earnest -/
theorem I_seasonsN {k : Nat} (hx : CX g c X V v lo hi) (h109 : gR g 109 X = some (X + 35)) (hs : StG g (X + 35) X) (hk : KSt c v (X + 35) (tA τ 62)) (hT : TV τ v) (h70 : tI τ 70 = nI 0) (h71 : tI τ 71 = nI 0) (hw : tA τ 62 0 = nI n) (hn : n + k ≤ 999) :
    OK2 (itr (fun s_ : Int32 × Int32 × CC => Bc_X0_seasons_25 g X (nI k) s_.1 s_.2.1 s_.2.2) 4096 (0, 0, c)) (f_t_seasonsGo (nI k) τ) (fun o q => o.1 = tI q 71 ∧ KSt o.2 v (X + 35) (tA q 62) ∧ CF X (X + 35) c o.2 ∧ TX in71 in72 τ q ∧ tA q 62 0 = nI (n + k)) := by
  unfold f_t_seasonsGo
  have hL : OK2 (itr (fun s_ : Int32 × Int32 × CC => Bc_X0_seasons_25 g X (nI k) s_.1 s_.2.1 s_.2.2) 4096 (0, 0, c)) (itr (fun s_ : Int32 × TS => Bt_seasonsGo_2 (nI k) s_.1 s_.2) 4096 (0, τ)) (fun o q => o.1 = tI q 71 ∧ KSt o.2 v (X + 35) (tA q 62) ∧ CF X (X + 35) c o.2 ∧ TX in71 in72 τ q ∧ tA q 62 0 = nI (n + k)) := by
    refine itr_two (fun i s t => ∃ p c' q, s = (p, nI i, c') ∧ t = (nI i, q) ∧ p = tI q 71 ∧ KSt c' v (X + 35) (tA q 62) ∧ CF X (X + 35) c c' ∧ TX in71 in72 τ q ∧ tA q 62 0 = nI (n + i)) _ 0 k ?_ ?_ (by omega) (by omega) ⟨0, c, τ, rfl, rfl, h71.symm, hk, CF.refl _ _ c, TX.refl _ _ τ, hw⟩
    · rintro i s t - hi ⟨p, c', q, rfl, rfl, p1, p2, p3, p4, p5⟩
      obtain ⟨⟨r, c2⟩, q', e1, e2, r1, r2, r3, r4, r5⟩ := I_passN (n := n + i) (hx.cf (by omega) p3) hs p2 (hT.y p4.sy) (by rw [p4.1 70 rfl rfl]; exact h70) p5 (by omega)
      show OK2 (Bc_X0_seasons_25 g X (nI k) p (nI i) c') (Bt_seasonsGo_2 (nI k) (nI i) q) _
      unfold Bc_X0_seasons_25 Bt_seasonsGo_2
      have h9 : ¬ nI k ≤ nI i := by rw [nI_leI (by omega) (by omega)]; omega
      rw [if_neg h9, if_neg h9, if_pos hx.1, h109, Option.bind_some, if_pos hs.1, e1, xbd_some, e2, Option.bind_some, nl_1, nI_add]
      exact OK2_some (Or.inl ⟨_, _, rfl, rfl, _, c2, q', rfl, rfl, by rw [p1]; exact r4.symm, r1, p3.trans r2, p4.trans r3, r5⟩)
    · rintro s t ⟨p, c', q, rfl, rfl, p1, p2⟩
      show OK2 (Bc_X0_seasons_25 g X (nI k) p (nI k) c') (Bt_seasonsGo_2 (nI k) (nI k) q) _
      unfold Bc_X0_seasons_25 Bt_seasonsGo_2
      have h9 : nI k ≤ nI k := by rw [nI_leI (by omega) (by omega)]; omega
      rw [if_pos h9, if_pos h9]
      exact OK2_some ⟨_, _, rfl, rfl, p1, p2⟩
  obtain ⟨o, q, e1, e2, hq⟩ := hL
  rw [e1, e2]
  exact OK2_some hq
end YYs
