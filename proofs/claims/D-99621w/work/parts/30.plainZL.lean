/-! PLAIN LAW: where it ran: the twin; both -/
set_option maxRecDepth 100000
section ZLs
variable {g : CG} {c c' : CC} {τ τ' q : TS} {X V s lo hi n m : Nat} {v : VD} {w : Nat → Int32} {R : Nat} {σ α β : Nat → Nat}
/-- the twin's rows -/
def TWf (τ : TS) (v : VD) (R : Nat) (σ α β : Nat → Nat) : Prop := R ≤ 16 ∧ tI τ 79 = nI R ∧ ∀ k, k < R → σ k ≤ 30 ∧ α k < vC v ∧ β k < vW v ∧ tA τ 80 (3 * k) = nI (σ k) ∧ tA τ 80 (3 * k + 1) = nI (α k) ∧ tA τ 80 (3 * k + 2) = nI (β k)
theorem SWf.t (h : SWf c τ X v R σ α β) : TWf τ v R σ α β := ⟨h.1, h.2.2.1, fun k hk => ⟨(h.2.2.2 k hk).1, (h.2.2.2 k hk).2.1, (h.2.2.2 k hk).2.2.1, (h.2.2.2 k hk).2.2.2.2⟩⟩
theorem TWf.of (h : TWf τ v R σ α β) (e1 : tI τ' 79 = tI τ 79) (e2 : ∀ i, tA τ' 80 i = tA τ 80 i) : TWf τ' v R σ α β := ⟨h.1, by rw [e1]; exact h.2.1, fun k hk => by rw [e2, e2, e2]; exact h.2.2 k hk⟩
def seenS (w : Nat → Int32) (n0 k : Nat) (σ α β : Nat → Nat) (i : Nat) : Bool := !decide (σ i = k) || (decide (n0 + k ≤ 999) && decide (w (2 + α i) = nI (β i)))
theorem T_isAsSeen {n0 k : Nat} (hb : VB v) (h : TWf q v R σ α β) (hw : tA q 62 0 = nI (n0 + k)) (hn : n0 + k < 5000) (hk : k ≤ 30) : f_t_isAsSeen (nI k) q = some (b32 (allN (seenS (tA q 62) n0 k σ α β) R), q) := by
  obtain ⟨hR, h79, hs⟩ := h
  have hb1 := hb.1
  have key : OK (itr (fun s_ : Int32 × TS => Bt_isAsSeen_2 (nI k) s_.1 s_.2) 4096 (0, q)) (fun o => (o = .inl q ∧ allN (seenS (tA q 62) n0 k σ α β) R = true) ∨ (o = .inr (0, q) ∧ allN (seenS (tA q 62) n0 k σ α β) R = false)) := by
    refine itr_for (fun i s => s = (nI i, q) ∧ allN (seenS (tA q 62) n0 k σ α β) i = true) _ 0 R ?_ ?_ (by omega) (by omega) ⟨rfl, rfl⟩
    · rintro i s - hi ⟨rfl, ha⟩
      obtain ⟨q1, q2, q3, q4, q5, q6⟩ := hs i hi
      have h9 : ¬ nI R ≤ nI i := by rw [nI_leI (by omega) (by omega)]; omega
      show OK (Bt_isAsSeen_2 (nI k) (nI i) q) _
      unfold Bt_isAsSeen_2 Jt_isAsSeen_63
      rw [h79, if_neg h9, nl_1, nl_2, nl_3, pk_mul, nI_add, nI_add, nI_add, if_pos (xin_nI (show 3 * i < 48 by omega) (by omega)), nI_clamp (show 3 * i < 2 ^ 31 by omega), q4, if_pos (show xin 0 303 = true by decide), show ((0 : Int32).toNatClampNeg) = 0 by decide, hw, nl_999, if_pos (xin_nI (show 3 * i + 1 < 48 by omega) (by omega)), nI_clamp (show 3 * i + 1 < 2 ^ 31 by omega), q5, T_rowOf (show α i < 301 by omega), xbd_some, if_pos (xin_nI (show 3 * i + 2 < 48 by omega) (by omega)), nI_clamp (show 3 * i + 2 < 2 ^ 31 by omega), q6]
      by_cases e1 : σ i = k
      · rw [if_pos (by rw [e1])]
        by_cases e2 : n0 + k ≤ 999
        · rw [if_neg (by rw [nI_ltI (by omega) (by omega)]; omega)]
          by_cases e3 : tA q 62 (2 + α i) = nI (β i)
          · rw [if_pos e3]
            refine OK_some (Or.inl ⟨_, rfl, rfl, ?_⟩)
            show (allN _ i && _) = true
            rw [ha]; unfold seenS; simp [e1, e2, e3]
          · rw [if_neg e3]
            refine OK_some (Or.inr ⟨_, rfl, Or.inr ⟨rfl, allN_no hi ?_⟩⟩)
            unfold seenS; simp [e1, e3]
        · rw [if_pos (by rw [nI_ltI (by omega) (by omega)]; omega)]
          refine OK_some (Or.inr ⟨_, rfl, Or.inr ⟨rfl, allN_no hi ?_⟩⟩)
          unfold seenS; simp [e1, e2]
      · rw [if_neg (by rw [nI_eq (by omega) (by omega)]; exact e1)]
        refine OK_some (Or.inl ⟨_, rfl, rfl, ?_⟩)
        show (allN _ i && _) = true
        rw [ha]; unfold seenS; simp [e1]
    · rintro s ⟨rfl, ha⟩
      have h9 : nI R ≤ nI R := by rw [nI_leI (by omega) (by omega)]; omega
      show OK (Bt_isAsSeen_2 (nI k) (nI R) q) _
      unfold Bt_isAsSeen_2
      rw [h79, if_pos h9]
      exact OK_some ⟨_, rfl, Or.inl ⟨rfl, ha⟩⟩
  obtain ⟨o, e, hz⟩ := key
  unfold f_t_isAsSeen
  rw [e, Option.bind_some]
  rcases hz with ⟨rfl, ha⟩ | ⟨rfl, ha⟩ <;> rw [ha] <;> rfl
def in7 (k : Nat) : Bool := k == 62 || k == 72 || k == 81
def flS (v : VD) (w : Nat → Int32) (M R : Nat) (σ α β : Nat → Nat) (k : Nat) : Bool := allN (fun i => !decide (σ i < k) || (decide (σ i < M) && okS v w σ α β i)) R
theorem flS_s {n0 k : Nat} (hk : k ≤ 30) : flS v w (min 31 (1000 - n0)) R σ α β (k + 1) = (flS v w (min 31 (1000 - n0)) R σ α β k && allN (seenS (seasN v w k) n0 k σ α β) R) := by
  unfold flS
  rw [Bool.eq_iff_iff, Bool.and_eq_true, allN_iff, allN_iff, allN_iff]
  have key : ∀ i, (!decide (σ i < k + 1) || (decide (σ i < min 31 (1000 - n0)) && okS v w σ α β i)) = true ↔ (!decide (σ i < k) || (decide (σ i < min 31 (1000 - n0)) && okS v w σ α β i)) = true ∧ seenS (seasN v w k) n0 k σ α β i = true := by
    intro i
    unfold seenS okS
    by_cases e1 : σ i < k
    · have e2 : σ i < k + 1 := by omega
      have e3 : ¬ σ i = k := by omega
      simp [e1, e2, e3]
    · by_cases e3 : σ i = k
      · subst e3
        have e4 : (σ i < min 31 (1000 - n0)) ↔ (n0 + σ i ≤ 999) := by omega
        by_cases e5 : n0 + σ i ≤ 999
        · have e6 := e4.mpr e5
          simp [e5, e6]
        · have e6 : ¬ σ i < min 31 (1000 - n0) := fun z => e5 (e4.mp z)
          simp [e5, e6]
      · have e2 : ¬ σ i < k + 1 := by omega
        simp [e1, e2, e3]
  exact ⟨fun h => ⟨fun i hi => ((key i).mp (h i hi)).1, fun i hi => ((key i).mp (h i hi)).2⟩, fun h i hi => (key i).mpr ⟨h.1 i hi, h.2 i hi⟩⟩
theorem flS_0 {M : Nat} : flS v w M R σ α β 0 = true := by
  unfold flS
  rw [allN_iff]
  intro i hi
  simp
theorem flS_31 {M : Nat} (h : ∀ i, i < R → σ i ≤ 30) : flS v w M R σ α β 31 = fitS v w M R σ α β := by
  unfold flS fitS
  refine allN_ext (fun i hi => ?_)
  have e : σ i < 31 := by have := h i hi; omega
  simp [e]
/-- one row is tried -/
theorem T_fit {j r n0 : Nat} (hT : TV q v) (hb : VB v) (h70 : tI q 70 = nI 1) (hr : WR v (tA q 62)) (hK : ∃ K, K ≤ 40 ∧ tA q 62 182 = nI K) (hs : TWf q v R σ α β) (hw : tA q 62 0 = nI n0) (hn0 : n0 ≤ 999) (hj : j < vC v) (hrr : r < 8) :
    OK (itr (fun s_ : Int32 × Int32 × TS => Bt_laysFits_33 (nI j) (nI r) s_.1 s_.2.1 s_.2.2) 4096 (1, 0, q)) (fun o => o.1 = b32 (fitS v (tA q 62) (min 31 (1000 - n0)) R σ α β) ∧ tA o.2 62 = seasN v (tA q 62) 31 ∧ (∀ i, tA o.2 81 i = if 31 * r ≤ i ∧ i < 31 * r + 31 then seasN v (tA q 62) (i - 31 * r) (2 + j) else tA q 81 i) ∧ TX in71 in7 q o.2) := by
  have hb1 := hb.1
  obtain ⟨K, hK1, hK2⟩ := hK
  rw [← flS_31 (fun i hi => (hs.2.2 i hi).1)]
  refine itr_for (fun k s => ∃ q', s = (b32 (flS v (tA q 62) (min 31 (1000 - n0)) R σ α β k), nI k, q') ∧ tA q' 62 = seasN v (tA q 62) k ∧ (∀ i, tA q' 81 i = if 31 * r ≤ i ∧ i < 31 * r + k then seasN v (tA q 62) (i - 31 * r) (2 + j) else tA q 81 i) ∧ TX in71 in7 q q') _ 0 31 ?_ ?_ (by omega) (by omega) ⟨q, by rw [flS_0]; rfl, rfl, fun i => by rw [if_neg (by omega)], TX.refl _ _ q⟩
  · rintro k s - hk ⟨q', rfl, p1, p2, p3⟩
    have hT' : TV q' v := hT.tx p3 ⟨rfl, rfl⟩ ⟨rfl, rfl, rfl, rfl, rfl, rfl⟩
    have h0 : tA q' 62 0 = nI (n0 + k) := by rw [p1]; exact seasN_0 hb hr hw k
    have hs' : TWf q' v R σ α β := hs.of (p3.1 79 rfl rfl) (fun i => p3.2.2.1 80 i rfl)
    have h9 : ¬ nI 30 < nI k := by rw [nI_ltI (by omega) (by omega)]; omega
    have j58 : ∀ b : Bool, OK (Jt_laysFits_58 (nI j) (nI r) (nI k) (b32 b) q') (fun o => ∃ q2, o = .inl (b32 b, nI (k + 1), q2) ∧ tA q2 62 = seasN v (tA q 62) (k + 1) ∧ (∀ i, tA q2 81 i = if 31 * r ≤ i ∧ i < 31 * r + (k + 1) then seasN v (tA q 62) (i - 31 * r) (2 + j) else tA q 81 i) ∧ TX in71 in7 q q2) := by
      intro b
      have p4 : TX in71 in7 q (sA q' 81 (31 * r + k) (tA q' 62 (2 + j))) := p3.sA rfl
      have e62 : tA (sA q' 81 (31 * r + k) (tA q' 62 (2 + j))) 62 = tA q' 62 := tA_updn (by omega)
      obtain ⟨q2, u0, u1, u2, u3, u4⟩ := T_seasonGoes (K := K) (τ := sA q' 81 (31 * r + k) (tA q' 62 (2 + j))) (hT.tx p4 ⟨rfl, rfl⟩ ⟨rfl, rfl, rfl, rfl, rfl, rfl⟩) hb (by rw [e62, p1]; exact seasN_WR hb hr k) hK1 (by rw [e62, p1, seasN_hi hb hr (by omega)]; exact hK2)
      unfold Jt_laysFits_58
      rw [T_rowOf (by omega), xbd_some, nl_31, pk_mul, nI_add, if_pos (xin_nI (show 31 * r + k < 248 by omega) (by omega)), nI_clamp (show 31 * r + k < 2 ^ 31 by omega), u0, Option.bind_some, nl_1, nI_add]
      refine OK_some ⟨q2, rfl, ?_, fun i => ?_, p4.trans (u4.mono (fun k hk => hk) (fun k hk => by unfold in7 at hk; unfold in72; simp at hk ⊢; omega))⟩
      · rw [u1, e62, show tI (sA q' 81 (31 * r + k) (tA q' 62 (2 + j))) 70 = tI q' 70 from rfl, p3.1 70 rfl rfl, h70, p1, show decide (¬ nI 1 = nI 0) = true by decide, seasonW_G (G' := fun _ => nI 0)]; rfl
      · rw [u4.2.2.1 81 i rfl, tA_sA]
        by_cases ei : i = 31 * r + k
        · subst ei
          rw [if_pos ⟨rfl, rfl⟩, if_pos (by omega), p1, show 31 * r + k - 31 * r = k by omega]
        · rw [if_neg (fun z => ei z.2), p2]
          by_cases e2 : 31 * r ≤ i ∧ i < 31 * r + k
          · rw [if_pos e2, if_pos (by omega)]
          · rw [if_neg e2, if_neg (by omega)]
    show OK (Bt_laysFits_33 (nI j) (nI r) (b32 (flS v (tA q 62) (min 31 (1000 - n0)) R σ α β k)) (nI k) q') _
    unfold Bt_laysFits_33 Jt_laysFits_57
    rw [nl_30, if_neg h9, T_isAsSeen hb hs' h0 (by omega) (by omega), xbd_some, p1]
    rw [flS_s (by omega)]
    cases hf : flS v (tA q 62) (min 31 (1000 - n0)) R σ α β k with
    | false =>
      rw [if_pos (show b32 false = 0 by decide)]
      obtain ⟨o, e, q2, rfl, y1, y2, y3⟩ := j58 false
      exact ⟨_, e, Or.inl ⟨_, rfl, q2, rfl, y1, y2, y3⟩⟩
    | true =>
      rw [if_neg (show ¬ b32 true = 0 by decide)]
      cases hg : allN (seenS (seasN v (tA q 62) k) n0 k σ α β) R with
      | false =>
        rw [if_pos (show b32 false = 0 by decide)]
        obtain ⟨o, e, q2, rfl, y1, y2, y3⟩ := j58 false
        exact ⟨_, e, Or.inl ⟨_, rfl, q2, rfl, y1, y2, y3⟩⟩
      | true =>
        rw [if_neg (show ¬ b32 true = 0 by decide)]
        obtain ⟨o, e, q2, rfl, y1, y2, y3⟩ := j58 true
        exact ⟨_, e, Or.inl ⟨_, rfl, q2, rfl, y1, y2, y3⟩⟩
  · rintro s ⟨q', rfl, p1, p2, p3⟩
    show OK (Bt_laysFits_33 (nI j) (nI r) _ (nI 31) q') _
    unfold Bt_laysFits_33
    rw [nl_30, if_pos (show nI 30 < nI 31 by decide)]
    exact OK_some ⟨_, rfl, rfl, p1, p2, p3⟩
theorem TK.to7 (h : TK τ q w) {q' : TS} {w' : Nat → Int32} (z : TX in71 in7 q q') (e : tA q' 62 = w') : TK τ q' w' := by
  obtain ⟨h1, h2, h3, h4⟩ := h
  exact ⟨h1.trans (z.mono (fun k hk => by unfold fY fZ at hk; unfold in71; simp at hk ⊢; omega) (fun k hk => by unfold aY aZ at hk; unfold in7; simp at hk ⊢; omega)), fun i hi => by rw [z.2.2.1 63 i rfl]; exact h2 i hi, e, by rw [z.1 70 rfl rfl]; exact h4⟩
end ZLs
