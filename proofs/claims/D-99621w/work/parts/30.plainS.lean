/-! PLAIN LAW: barge and cuts of both -/
set_option maxRecDepth 100000
def dS (a b : Int32) : Int32 := if b ≤ a then a - b else b - a
def bargN (v : VD) (w : Nat → Int32) : Nat → Int32
  | 0 => nI (vC v)
  | k + 1 => bargN v w k + dS (w (2 + (k + 1))) (w (2 + k))
theorem abs_dS {x y : Nat} (hx : x < 1000) (hy : y < 1000) : abs32 (nI x - nI y) = dS (nI x) (nI y) := by
  unfold abs32 dS
  have e1 : (nI x - nI y).toInt = (x : Int) - y := by rw [i32_sub (by rw [nI_toInt (by omega), nI_toInt (by omega)]; omega) (by rw [nI_toInt (by omega), nI_toInt (by omega)]; omega), nI_toInt (by omega), nI_toInt (by omega)]
  by_cases h : y ≤ x
  · rw [if_pos (by rw [i32_le, e1, nI_toInt (by omega)]; omega), if_pos (by rw [nI_leI (by omega) (by omega)]; exact h)]
  · rw [if_neg (by rw [i32_le, e1, nI_toInt (by omega)]; omega), if_neg (by rw [nI_leI (by omega) (by omega)]; exact h)]
    rw [i32_eq, Int32.toInt_neg, e1, i32_sub (by rw [nI_toInt (by omega), nI_toInt (by omega)]; omega) (by rw [nI_toInt (by omega), nI_toInt (by omega)]; omega), nI_toInt (by omega), nI_toInt (by omega)]
    rw [Int.bmod_eq_of_le (by omega) (by omega)]
    omega
section SSs
variable {g : CG} {c : CC} {τ q : TS} {X V s lo hi : Nat} {v : VD} {w : Nat → Int32}
theorem C_barge (hx : CX g c X V v lo hi) (ht : CT g c X s v w) (hc : 0 < vC v) : f_c_X5_barge g s c = some (bargN v w (vC v - 1), c) := by
  have hb := hx.2.2.2.2.2.1
  have h1 := hb.1
  have h2 := hb.2.1
  unfold f_c_X5_barge
  rw [if_pos ht.1.1, ht.1.2.1, Option.bind_some, if_pos hx.1, C_columns hx.1 hx.2.1 hx.b, xbd_some]
  have e : itr (fun s_ : Int32 × Int32 × CC => Bc_X5_barge_10 g s s_.1 s_.2.1 s_.2.2) 4096 (nI (vC v), 1, c) = some (bargN v w (vC v - 1), c) := ?_
  · rw [e]; rfl
  refine itr_det (fun k => (bargN v w (k - 1), nI k, c)) (a := 1) (n := vC v) (r := (bargN v w (vC v - 1), c)) (fun k hk1 hk => ?_) ?_ (by omega) (by omega)
  · show Bc_X5_barge_10 g s (bargN v w (k - 1)) (nI k) c = _
    unfold Bc_X5_barge_10
    have h9 : ¬ nI (vC v) ≤ nI k := by rw [nI_leI (by omega) (by omega)]; omega
    obtain ⟨x, hx1, hx2⟩ := ht.2.2.1.1 k hk
    obtain ⟨y, hy1, hy2⟩ := ht.2.2.1.1 (k - 1) (by omega)
    simp only [ht.1.1, ht.1.2.1, ht.1.2.2.1, hx.1, C_columns hx.1 hx.2.1 hx.b, xbd_some, Option.bind_some, reduceIte, h9, nl_1, nI_m1 hk1, xin_nI (show k < 10 by omega) (show 10 < 2147483648 by omega), xin_nI (show k - 1 < 10 by omega) (show 10 < 2147483648 by omega), nI_clamp (show k < 2 ^ 31 by omega), nI_clamp (show k - 1 < 2 ^ 31 by omega), ht.2.1.2.2.1 k (by omega), ht.2.1.2.2.1 (k - 1) (by omega), C_abs, nI_add]
    obtain ⟨z, rfl⟩ : ∃ z, k = z + 1 := ⟨k - 1, by omega⟩
    rw [hx2, hy2, abs_dS (by omega) (by omega), ← hx2, ← hy2]
    rfl
  · show Bc_X5_barge_10 g s (bargN v w (vC v - 1)) (nI (vC v)) c = _
    unfold Bc_X5_barge_10
    have h9 : nI (vC v) ≤ nI (vC v) := by rw [nI_leI (by omega) (by omega)]; omega
    simp only [ht.1.1, ht.1.2.1, hx.1, C_columns hx.1 hx.2.1 hx.b, xbd_some, Option.bind_some, reduceIte, h9]
theorem T_barge (hT : TV q v) (hb : VB v) (hc : 0 < vC v) : f_t_barge q = some (bargN v (tA q 62) (vC v - 1), q) := by
  have h1 := hb.1
  unfold f_t_barge
  rw [hT.1.1, decide_eq_true hc, if_neg (show ¬ b32 true = 0 by decide), T_columnMany, xbd_some, hT.1.2.1]
  have e : itr (fun s_ : Int32 × Int32 × TS => Bt_barge_16 s_.1 s_.2.1 s_.2.2) 4096 (nI (vC v), 1, q) = some (bargN v (tA q 62) (vC v - 1), q) := ?_
  · rw [e]; rfl
  refine itr_det (fun k => (bargN v (tA q 62) (k - 1), nI k, q)) (a := 1) (n := vC v) (r := (bargN v (tA q 62) (vC v - 1), q)) (fun k hk1 hk => ?_) ?_ (by omega) (by omega)
  · show Bt_barge_16 (bargN v (tA q 62) (k - 1)) (nI k) q = _
    unfold Bt_barge_16 Jt_barge_69
    have h9 : ¬ nI (vC v) ≤ nI k := by rw [nI_leI (by omega) (by omega)]; omega
    obtain ⟨z, rfl⟩ : ∃ z, k = z + 1 := ⟨k - 1, by omega⟩
    simp only [T_columnMany, hT.1.2.1, xbd_some, reduceIte, h9, nl_1, nI_m1 hk1, T_rowOf (show z + 1 < 301 by omega), T_rowOf (show z < 301 by omega), nI_add, Nat.add_sub_cancel]
    show _ = some (Sum.inl (bargN v (tA q 62) z + dS (tA q 62 (2 + (z + 1))) (tA q 62 (2 + z)), nI (z + 1 + 1), q))
    unfold dS
    split <;> rfl
  · show Bt_barge_16 (bargN v (tA q 62) (vC v - 1)) (nI (vC v)) q = _
    unfold Bt_barge_16
    have h9 : nI (vC v) ≤ nI (vC v) := by rw [nI_leI (by omega) (by omega)]; omega
    simp only [T_columnMany, hT.1.2.1, xbd_some, reduceIte, h9]
theorem I_barge (h : IV g c τ X V v lo hi) : OK2 (f_c_X0_barge g X c) (f_t_barge τ) (RD X c τ) := by
  have hv := I_isValley h
  obtain ⟨h1, h2, h3, h4, h5, h6, h7⟩ := h
  have hb := h1.2.2.2.2.2.1
  unfold f_c_X0_barge
  rw [if_pos h1.1, hv, xbd_some]
  by_cases hc : 0 < vC v
  · rw [decide_eq_true hc, if_neg (show ¬ b32 true = 0 by decide), h2.1, Option.bind_some, if_pos h3.1.1, C_barge h1 h3 hc, xbd_some, T_barge h6 hb hc]
    exact OK2_some RD.mk
  · rw [decide_eq_false hc, if_pos (show b32 false = 0 by decide)]
    unfold f_t_barge
    rw [h6.1.1, decide_eq_false hc, if_pos (show b32 false = 0 by decide)]
    exact OK2_some RD.mk
def halfS (v : VD) (w : Nat → Int32) (k : Nat) : Int32 := (beforeS w k + behindS v w k) / nI 2
theorem halfS_b {k : Nat} (hb : VB v) (h : WR v w) (hk : k < vC v) : ∃ r, r < vW v ∧ halfS v w k = nI r := by
  obtain ⟨⟨x, hx, e1⟩, -, z, hz, e3⟩ := WR_beh hb h hk
  have := hb.2.1
  unfold halfS
  rw [e1, e3, nI_add, nI_div (by omega) (by omega) (by omega)]
  exact ⟨(x + z) / 2, by omega, rfl⟩
theorem T_halfOf {k : Nat} (hT : TV q v) (hb : VB v) (hk : k < vC v) : f_t_halfOf (nI k) q = some (halfS v (tA q 62) k, q) := by
  have := hb.1
  unfold f_t_halfOf
  rw [T_beforeOf (by omega), xbd_some, T_behindOf hT.1 hb hk, xbd_some]
  rfl
theorem C_half {k : Nat} (hx : CX g c X V v lo hi) (ht : CT g c X s v w) (hk : k < vC v) : f_c_X5_half g s (nI k) c = some (halfS v w k, c) := by
  have hb := hx.2.2.2.2.2.1
  have := hb.1
  unfold f_c_X5_half
  rw [if_pos ht.1.1, C_before ht.1 ht.2.1 (by omega), xbd_some, C_behind ht.1 hx.1 hx.2.1 hx.b hb ht.2.1 hk, xbd_some]
  rfl
theorem WB_row {k r : Nat} (hb : VB v) (h : WB v w) (hk : k < vC v) (hr : r < vW v) : WB v (upd w (2 + k) (nI r)) := by
  have hb1 := hb.1
  obtain ⟨b1, b2, b3, b4, b5⟩ := h
  refine ⟨fun i hi => ?_, by rw [pk_un (by omega)]; exact b2, fun i hi => by rw [pk_un (by omega)]; exact b3 i hi, fun i hi => by rw [pk_un (by omega)]; exact b4 i hi, fun i hi => by rw [pk_un (by omega), pk_un (by omega)]; exact b5 i hi⟩
  by_cases e : i = k
  · subst e; rw [pk_us]; exact ⟨r, hr, rfl⟩
  · rw [pk_un (by omega)]; exact b1 i hi
theorem I_cuts (h : IV g c τ X V v lo hi) : OK2 (f_c_X0_cuts g X c) (f_t_cuts τ) (RZ X c τ) := by
  have hv := I_isValley h
  obtain ⟨h1, h2, h3, h4, h5, h6, h7, -⟩ := id h
  have hb := h1.2.2.2.2.2.1
  have hb1 := hb.1
  have hb2 := hb.2.1
  unfold f_c_X0_cuts f_t_cuts
  rw [if_pos h1.1, hv, xbd_some]
  by_cases hc : 0 < vC v
  · have hc3 := (hb.2.2.2.2.1 hc).1
    rw [decide_eq_true hc, if_neg (show ¬ b32 true = 0 by decide), h2.1, Option.bind_some, if_pos h3.1.1, C_barge h1 h3 hc, xbd_some, h6.1.1, decide_eq_true hc, if_neg (show ¬ b32 true = 0 by decide), T_barge h6 hb hc, xbd_some]
    refine OK2_bind (P := fun o r => o.1 = r.1 ∧ NZ X c o.2 ∧ tA r.2 62 = tA τ 62 ∧ TX no in62 τ r.2) ?_ (fun o r p => OK2_some ⟨p.1, p.2.1.1, ?_, p.2.1.2⟩)
    · refine itr_two (fun k s t => ∃ b l c' q', s = (b, l, nI k, c') ∧ t = (l, b, nI k, q') ∧ NZ X c c' ∧ tA q' 62 = tA τ 62 ∧ TX no in62 τ q') _ 1 (vC v - 1) ?_ ?_ (by omega) (by omega) ⟨-1, bargN v (tA τ 62) (vC v - 1), c, τ, rfl, rfl, ⟨CZ.refl X c, h5.2⟩, rfl, TX.refl _ _ τ⟩
      · rintro k s t hk1 hk ⟨b, l, c', q', rfl, rfl, hz, e62, htx⟩
        have hI : IV g c' τ X V v lo hi := h.cz hz.1 (TX.refl _ _ τ) hz.2
        obtain ⟨⟨r, c1⟩, e1, p1, p2, p3, p4, -⟩ := C_aside hI
        have p1 : r = X + 103 := p1
        subst p1
        have x1 := hI.1.cf (by omega) p3
        have t1 : CT g c1 X (X + 35) v (tA τ 62) := hI.2.2.1.of (fun a a1 a2 => p3 a (by omega) (by omega))
        obtain ⟨z, hz1, hz2⟩ := halfS_b hb h3.2.2.1.1 (show k < vC v by omega)
        have t2 : CT g (uA c1 (X + 103 + 1) k (nI z)) X (X + 103) v (upd (tA τ 62) (2 + k) (nI z)) := ⟨p2.1, RS_row p2.2.1 (by omega), WB_row hb p2.2.2.1 (by omega) hz1, p2.2.2.2⟩
        have f2 : CF X (X + 103) c1 (uA c1 (X + 103 + 1) k (nI z)) := (CF.refl _ _ _).uA (by omega)
        have x2 := x1.cf (by omega) f2
        have hT' : TV q' v := h6.tx htx ⟨rfl, rfl⟩ ⟨rfl, rfl, rfl, rfl, rfl, rfl⟩
        have hT2 : TV (sA q' 62 (2 + k) (nI z)) v := hT'.tx ((TX.refl no in62 q').sA rfl) ⟨rfl, rfl⟩ ⟨rfl, rfl, rfl, rfl, rfl, rfl⟩
        have eu : tA (sA q' 62 (2 + k) (nI z)) 62 = upd (tA τ 62) (2 + k) (nI z) := by rw [tA_upd, e62]
        have hbt : f_t_barge (sA q' 62 (2 + k) (nI z)) = some (bargN v (upd (tA τ 62) (2 + k) (nI z)) (vC v - 1), sA q' 62 (2 + k) (nI z)) := by rw [T_barge hT2 hb hc, eu]
        have hht : f_t_halfOf (nI k) q' = some (nI z, q') := by rw [T_halfOf hT' hb (by omega), e62, hz2]
        show OK2 (Bc_X0_cuts_21 g X b l (nI k) c') (Bt_cuts_18 l b (nI k) q') _
        unfold Bc_X0_cuts_21 Bt_cuts_18 Jc_X0_cuts_79 Jt_cuts_78
        have h9 : ¬ nI (vC v - 1) ≤ nI k := by rw [nI_leI (by omega) (by omega)]; omega
        obtain ⟨K, π, p4⟩ := p4
        have nz : NZ X c (uA c1 (X + 103 + 1) k (nI z)) := ⟨(hz.1.trans p3.cz).trans f2.cz, K, π, p4.of ((KS.refl _ _).uA (by omega))⟩
        have eres : tA (sA (sA q' 62 (2 + k) (nI z)) 62 (2 + k) (tA τ 62 (2 + k))) 62 = tA τ 62 := by
          rw [tA_upd, eu]
          funext i
          by_cases e : i = 2 + k
          · subst e; rw [pk_us]
          · rw [pk_un e, pk_un e]
        have tx3 : TX no in62 τ (sA (sA q' 62 (2 + k) (nI z)) 62 (2 + k) (tA τ 62 (2 + k))) := (htx.sA rfl).sA rfl
        simp only [h1.1, C_columns hI.1.1 hI.1.2.1 hI.1.b, T_columnMany, hT'.1.2.1, xbd_some, nl_1, nl_2, nI_m1 (show 1 ≤ vC v by omega), h9, h2.1, h2.2, p2.1.1, t1.1.1, e1, Option.bind_some, reduceIte, p2.1.2.2.1, C_half x1 t1 (show k < vC v by omega), hz2, xin_nI (show k < 10 by omega) (show 10 < 2147483648 by omega), nI_clamp (show k < 2 ^ 31 by omega), C_barge x2 t2 hc, T_rowOf (show k < 301 by omega), hht, nI_add, xin_nI (show 2 + k < 303 by omega) (show 303 < 2147483648 by omega), nI_clamp (show 2 + k < 2 ^ 31 by omega), hbt, e62]
        by_cases hlt : bargN v (upd (tA τ 62) (2 + k) (nI z)) (vC v - 1) < l
        · simp only [hlt, reduceIte]
          exact OK2_some (Or.inl ⟨_, _, rfl, rfl, _, _, _, _, rfl, rfl, nz, eres, tx3⟩)
        · simp only [hlt, reduceIte]
          exact OK2_some (Or.inl ⟨_, _, rfl, rfl, _, _, _, _, rfl, rfl, nz, eres, tx3⟩)
      · rintro s t ⟨b, l, c', q', rfl, rfl, hz, e62, htx⟩
        have hI : IV g c' τ X V v lo hi := h.cz hz.1 (TX.refl _ _ τ) hz.2
        have hT' : TV q' v := h6.tx htx ⟨rfl, rfl⟩ ⟨rfl, rfl, rfl, rfl, rfl, rfl⟩
        show OK2 (Bc_X0_cuts_21 g X b l (nI (vC v - 1)) c') (Bt_cuts_18 l b (nI (vC v - 1)) q') _
        unfold Bc_X0_cuts_21 Bt_cuts_18
        have h9 : nI (vC v - 1) ≤ nI (vC v - 1) := by rw [nI_leI (by omega) (by omega)]; omega
        simp only [h1.1, C_columns hI.1.1 hI.1.2.1 hI.1.b, T_columnMany, hT'.1.2.1, xbd_some, nl_1, nI_m1 (show 1 ≤ vC v by omega), h9, reduceIte]
        exact OK2_some ⟨_, _, rfl, rfl, rfl, hz, e62, htx⟩
    · refine TX.yz (p.2.2.2.mono (fun k _ => rfl) (fun k hk => by unfold aY at hk; unfold in62; simp at hk ⊢; exact hk.1)) (p.2.2.2.1 70 rfl rfl) p.2.2.1
  · rw [decide_eq_false hc, if_pos (show b32 false = 0 by decide), h6.1.1, decide_eq_false hc, if_pos (show b32 false = 0 by decide)]
    exact OK2_some (RD.mk.z h5.2)
end SSs
