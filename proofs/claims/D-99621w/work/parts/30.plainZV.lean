/-! PLAIN LAW: on: both -/
set_option maxRecDepth 100000
section ZVs
variable {g : CG} {c c' c'' : CC} {τ τ' τ'' q : TS} {X V s lo hi n m nl : Nat} {v : VD} {w : Nat → Int32} {B : Nat → Nat} {x : Int32}
theorem CB8.two2 {k j : Nat} (h : CB8 c X B) (hj : k + 1 = j) (h1 : gT g X = 1) (hg : TG g X) (hk : j < 1600) : f_c_X0_twoAt g X (nI k) c = some (nI (256 * B k + B j), c) := by
  subst hj; exact h.two h1 hg hk
theorem RS_s0 (h : RS c s nl w) : RS (uI c 600 s x) s nl (upd w 0 x) := by
  obtain ⟨h1, h2, h3, h4, h5, h6⟩ := h
  exact ⟨by rw [cI_uI, if_pos ⟨rfl, rfl⟩, pk_us], by rw [cI_uI, if_neg (by omega), pk_un (by omega)]; exact h2, fun i hi => by rw [cA_uI, pk_un (by omega)]; exact h3 i hi, fun i r hi hr => by rw [cA_uI, pk_un (by omega)]; exact h4 i r hi hr, fun i r hi hr => by rw [cA_uI, pk_un (by omega)]; exact h5 i r hi hr, fun k hk => by rw [cA_uI, cA_uI, pk_un (by omega), pk_un (by omega)]; exact h6 k hk⟩
theorem RS_s1 (h : RS c s nl w) : RS (uI c 601 s x) s nl (upd w 1 x) := by
  obtain ⟨h1, h2, h3, h4, h5, h6⟩ := h
  exact ⟨by rw [cI_uI, if_neg (by omega), pk_un (by omega)]; exact h1, by rw [cI_uI, if_pos ⟨rfl, rfl⟩, pk_us], fun i hi => by rw [cA_uI, pk_un (by omega)]; exact h3 i hi, fun i r hi hr => by rw [cA_uI, pk_un (by omega)]; exact h4 i r hi hr, fun i r hi hr => by rw [cA_uI, pk_un (by omega)]; exact h5 i r hi hr, fun k hk => by rw [cA_uI, cA_uI, pk_un (by omega), pk_un (by omega)]; exact h6 k hk⟩
theorem RS_k2 (h : RS c s nl w) : RS (uI c 602 s x) s nl w := by
  obtain ⟨h1, h2, h3, h4, h5, h6⟩ := h
  exact ⟨by rw [cI_uI, if_neg (by omega)]; exact h1, by rw [cI_uI, if_neg (by omega)]; exact h2, h3, h4, h5, h6⟩
theorem RS_182 (hn : nl ≤ 5) (h : RS c s nl w) : RS c s nl (upd w 182 x) := by
  obtain ⟨h1, h2, h3, h4, h5, h6⟩ := h
  exact ⟨by rw [pk_un (by omega)]; exact h1, by rw [pk_un (by omega)]; exact h2, fun i hi => by rw [pk_un (by omega)]; exact h3 i hi, fun i r hi hr => by rw [pk_un (by omega)]; exact h4 i r hi hr, fun i r hi hr => by rw [pk_un (by omega)]; exact h5 i r hi hr, fun k hk => by rw [pk_un (by omega), pk_un (by omega)]; exact h6 k hk⟩
theorem rowW_out {j : Nat} : ∀ k, (j < 2 ∨ 2 + k ≤ j) → rowW B w k j = w j
  | 0, _ => rfl
  | k + 1, h => by
    show upd (rowW B w k) (2 + k) _ j = _
    rw [pk_un (by omega)]; exact rowW_out k (by omega)
theorem rowW_in {i : Nat} : ∀ k, i < k → rowW B w k (2 + i) = nI (B (5 + i))
  | 0, h => absurd h (Nat.not_lt_zero i)
  | k + 1, h => by
    show upd (rowW B w k) (2 + k) _ (2 + i) = _
    by_cases e : i = k
    · subst e; rw [pk_us]
    · rw [pk_un (by omega)]; exact rowW_in k (by omega)
theorem cel_lt {k : Nat} (hb : VB v) (hk : k < vC v * vW v) : cel v k < 80 := by
  obtain ⟨d1, d2, d3, d4, -⟩ := cel_b hb hk
  unfold cel
  omega
theorem cellW_out {j : Nat} (hb : VB v) (hj : j < 12 ∨ 172 ≤ j) : ∀ k, k ≤ vC v * vW v → cellW v B w k j = w j
  | 0, _ => rfl
  | k + 1, h => by
    have := cel_lt (k := k) hb (by omega)
    show upd (upd (cellW v B w k) (12 + cel v k) _) (92 + cel v k) _ j = _
    rw [pk_un (by omega), pk_un (by omega)]; exact cellW_out hb hj k (by omega)
theorem cellW_b (hb : VB v) (h1 : W9 w) (h2 : ∀ k, k < 80 → ∃ n, n ≤ 99 ∧ w (92 + k) = nI n) : ∀ k, k ≤ vC v * vW v → (∀ i, i < k → cokS v B i = true) → W9 (cellW v B w k) ∧ ∀ i, i < 80 → ∃ n, n ≤ 99 ∧ cellW v B w k (92 + i) = nI n
  | 0, _, _ => ⟨h1, h2⟩
  | k + 1, h, ho => by
    obtain ⟨i1, i2⟩ := cellW_b hb h1 h2 k (by omega) (fun i hi => ho i (by omega))
    have hc := cel_lt (k := k) hb (by omega)
    have hk := ho k (by omega)
    unfold cokS at hk
    simp only [Bool.and_eq_true, decide_eq_true_eq] at hk
    refine ⟨fun i hi => ?_, fun i hi => ?_⟩
    · show ∃ n, n ≤ 9 ∧ upd (upd (cellW v B w k) (12 + cel v k) _) (92 + cel v k) _ (12 + i) = nI n
      rw [pk_un (by omega)]
      by_cases e : i = cel v k
      · rw [e, pk_us]; exact ⟨_, hk.1, rfl⟩
      · rw [pk_un (by omega)]; exact i1 i hi
    · show ∃ n, n ≤ 99 ∧ upd (upd (cellW v B w k) (12 + cel v k) _) (92 + cel v k) _ (92 + i) = nI n
      by_cases e : i = cel v k
      · rw [e, pk_us]; exact ⟨_, hk.2, rfl⟩
      · rw [pk_un (by omega), pk_un (by omega)]; exact i2 i hi
theorem lordW_out {j : Nat} (hj : j < 172 ∨ 182 ≤ j) : ∀ k, k ≤ 5 → lordW v B w k j = w j
  | 0, _ => rfl
  | k + 1, h => by
    show upd (upd (lordW v B w k) (172 + 2 * k) _) (172 + 2 * k + 1) _ j = _
    rw [pk_un (by omega), pk_un (by omega)]; exact lordW_out hj k (by omega)
theorem lordW_in {i : Nat} : ∀ k, i < k → lordW v B w k (172 + 2 * i) = (if B (lordAt v i) = 1 then nI 1 else nI 0) ∧ lordW v B w k (172 + 2 * i + 1) = nI (256 * B (lordAt v i + 1) + B (lordAt v i + 2))
  | 0, h => absurd h (Nat.not_lt_zero i)
  | k + 1, h => by
    show upd (upd (lordW v B w k) (172 + 2 * k) _) (172 + 2 * k + 1) _ (172 + 2 * i) = _ ∧ upd (upd (lordW v B w k) (172 + 2 * k) _) (172 + 2 * k + 1) _ (172 + 2 * i + 1) = _
    by_cases e : i = k
    · subst e
      rw [pk_un (by omega), pk_us, pk_us]; exact ⟨rfl, rfl⟩
    · rw [pk_un (by omega), pk_un (by omega), pk_un (by omega), pk_un (by omega)]; exact lordW_in k (by omega)
abbrev onW (v : VD) (B : Nat → Nat) (w : Nat → Int32) : Nat → Int32 := lordW v B (cellW v B (rowW B (upd (upd w 0 (nI (256 * B 0 + B 1))) 1 (nI (65536 * B 2 + (256 * B 3 + B 4)))) (vC v)) (vC v * vW v)) (vN v)
/-- the new state is sound -/
theorem onW_ok (hb : VB v) (hW : WB v w) (h9 : W9 w) (h1 : 256 * B 0 + B 1 ≤ 999) (h2 : 65536 * B 2 + (256 * B 3 + B 4) ≤ 999999) (h3 : allN (rokS v B) (vC v) = true) (h4 : allN (cokS v B) (vC v * vW v) = true) (h5 : allN (lokS v B) (vN v) = true) :
    WB v (upd (onW v B w) 182 (nI 0)) ∧ (W9 (upd (onW v B w) 182 (nI 0)) ∧ FB (upd (onW v B w) 182 (nI 0))) ∧ (∃ n, n ≤ 999 ∧ upd (onW v B w) 182 (nI 0) 0 = nI n) ∧ ∀ k, k < vN v → onW v B w (172 + 2 * k) = nI 0 ∨ onW v B w (172 + 2 * k) = nI 1 := by
  have hb1 := hb.1
  have hn := hb.2.2.2.1
  have h3 := (allN_iff _).mp h3
  have h4 := (allN_iff _).mp h4
  have h5 := (allN_iff _).mp h5
  have e0 : onW v B w 0 = nI (256 * B 0 + B 1) := by
    unfold onW
    rw [lordW_out (by omega) _ hn, cellW_out hb (by omega) _ (Nat.le_refl _), rowW_out _ (by omega), pk_un (by omega), pk_us]
  have e1 : onW v B w 1 = nI (65536 * B 2 + (256 * B 3 + B 4)) := by
    unfold onW
    rw [lordW_out (by omega) _ hn, cellW_out hb (by omega) _ (Nat.le_refl _), rowW_out _ (by omega), pk_us]
  have er : ∀ i, i < vC v → onW v B w (2 + i) = nI (B (5 + i)) := fun i hi => by
    unfold onW
    rw [lordW_out (by omega) _ hn, cellW_out hb (by omega) _ (Nat.le_refl _), rowW_in _ hi]
  obtain ⟨c1, c2⟩ := cellW_b (B := B) (w := rowW B (upd (upd w 0 (nI (256 * B 0 + B 1))) 1 (nI (65536 * B 2 + (256 * B 3 + B 4)))) (vC v)) hb (fun k hk => by rw [rowW_out _ (by omega), pk_un (by omega), pk_un (by omega)]; exact h9 k hk) (fun k hk => by rw [rowW_out _ (by omega), pk_un (by omega), pk_un (by omega)]; exact hW.2.2.2.1 k hk) (vC v * vW v) (Nat.le_refl _) h4
  have ew : ∀ k, k < 80 → ∃ n, n ≤ 9 ∧ onW v B w (12 + k) = nI n := fun k hk => by
    unfold onW; rw [lordW_out (by omega) _ hn]; exact c1 k hk
  have ee : ∀ k, k < 80 → ∃ n, n ≤ 99 ∧ onW v B w (92 + k) = nI n := fun k hk => by
    unfold onW; rw [lordW_out (by omega) _ hn]; exact c2 k hk
  have eo : ∀ k, k < vN v → onW v B w (172 + 2 * k) = nI 0 ∨ onW v B w (172 + 2 * k) = nI 1 := fun k hk => by
    unfold onW; rw [(lordW_in _ hk).1]
    split
    · exact Or.inr rfl
    · exact Or.inl rfl
  refine ⟨⟨fun i hi => ?_, ⟨256 * B 0 + B 1, by omega, by rw [pk_un (by omega)]; exact e0⟩, fun k hk => ?_, fun k hk => by rw [pk_un (by omega)]; exact ee k hk, fun k hk => ⟨by rw [pk_un (by omega)]; exact eo k hk, ?_⟩⟩, ⟨fun k hk => by rw [pk_un (by omega)]; exact ew k hk, ⟨_, h2, by rw [pk_un (by omega)]; exact e1⟩⟩, ⟨_, h1, by rw [pk_un (by omega)]; exact e0⟩, eo⟩
  · have := h3 i hi
    unfold rokS at this
    rw [pk_un (by omega), er i hi]
    exact ⟨_, of_decide_eq_true this, rfl⟩
  · rw [pk_un (by omega)]
    obtain ⟨n, hn, e⟩ := ew k hk
    exact ⟨n, by omega, e⟩
  · have := h5 k hk
    unfold lokS at this
    simp only [Bool.and_eq_true, decide_eq_true_eq] at this
    rw [pk_un (by omega)]
    unfold onW
    rw [(lordW_in _ hk).2]
    exact ⟨_, this.2, rfl⟩
def fN (k : Nat) : Bool := k == 1 || fC k
/-- what on leaves alone -/
def FN (X : Nat) (c c' : CC) (τ τ' : TS) : Prop := (∀ k, k ≠ 102 → k ≠ 121 → cI c' k X = cI c k X) ∧ (∀ k, cL c' k X = cL c k X) ∧ (∀ k, cR c' k X = cR c k X) ∧ (∀ a, a ≠ X → ¬ (a = X + 31 ∨ (X + 34 ≤ a ∧ a < X + 297) ∨ (X + 300 ≤ a ∧ a < X + 1670)) → Eq1 c c' a) ∧ TX fN aC τ τ'
/-- refused: the tape is taken, the state that is tried may have moved -/
theorem on_ref (h : CORE g c τ X V v lo hi) (z : CZ X (uI c 102 X (nI 0)) c') (k : ∃ K π, RKp c' (X + 103) K π) : OK2 (Jc_X0_on_153 g X c') (some ((0 : Int32), sA (sI τ 1 (nI 0)) 9 5 (tA τ 9 5 + nI 1))) (fun o r => o.1 = r.1 ∧ CORE g o.2 r.2 X V v lo hi ∧ cI o.2 102 X = nI 0 ∧ tI r.2 1 = nI 0 ∧ FN X c o.2 τ r.2) := by
  have h0 : CORE g (uI c 102 X (nI 0)) (sI τ 1 (nI 0)) X V v lo hi := h.cong rfl (by rw [cI_uI, if_neg (by omega)]) (fun a a1 _ => (Eq1.refl c a).uI a1) (fun k hk => by rw [tI_sI, if_neg (by omega)]) (fun _ _ _ => rfl)
  obtain ⟨h1, f1⟩ := h0.cz z (TX.refl fZ aZ _) k
  obtain ⟨h2, f2⟩ := h1.ref (k := 5) (by omega)
  unfold Jc_X0_on_153 Jc_X0_on_154
  rw [if_pos rfl, if_pos h.1.1, nl_5, C_refuses h.1.1 h.2.1.2.2.2.2.2.2.1 (by omega), xbd_some, if_pos (show (-1 : Int32) < 0 by decide)]
  have f3 := f1.trans f2
  refine OK2_some ⟨rfl, h2, ?_, ?_, fun k k1 k2 => ?_, fun k => ?_, fun k => ?_, fun a a1 a2 => ?_, ?_⟩
  · show cI (uA c' (X + 34) 5 _) 102 X = _
    rw [f3.1.1 102 (by omega), cI_uI, if_pos ⟨rfl, rfl⟩]
  · show tI (sA (sI τ 1 (nI 0)) 9 5 _) 1 = _
    rw [tI_sA, tI_sI, if_pos rfl]
  · show cI (uA c' (X + 34) 5 _) k X = _
    rw [f3.1.1 k k2, cI_uI, if_neg (fun e => k1 e.1)]
  · show cL (uA c' (X + 34) 5 _) k X = _
    rw [f3.1.2.1 k]; rfl
  · show cR (uA c' (X + 34) 5 _) k X = _
    rw [f3.1.2.2.1 k]; rfl
  · exact ((Eq1.refl c a).uI a1).trans (f3.2.1 a a1 a2)
  · exact ((TX.refl fN aC τ).sI (Or.inl rfl)).sA rfl
theorem M_on (h : CORE g c τ X V v lo hi) (hg : TG g X) (hp : TPE c τ X) : OK2 (f_c_X0_on g X c) (f_t_on τ) (fun o r => o.1 = r.1 ∧ CORE g o.2 r.2 X V v lo hi ∧ cI o.2 102 X = nI 0 ∧ tI r.2 1 = nI 0 ∧ FN X c o.2 τ r.2) := by
  obtain ⟨n, hn, t1, t2, t3⟩ := hp
  have hb := h.1.2.2.2.2.2.1
  have hb1 := hb.1
  have hb2 := hb.2.1
  have hb3 := hb.2.2.2.1
  have mono : vC v * vW v ≤ 10 * 8 := Nat.mul_le_mul hb1 hb2
  have hl : lordAt v (vN v) ≤ 190 := by unfold lordAt; omega
  have h0 : CORE g (uI c 102 X (nI 0)) (sI τ 1 (nI 0)) X V v lo hi := h.cong rfl (by rw [cI_uI, if_neg (by omega)]) (fun a a1 _ => (Eq1.refl c a).uI a1) (fun k hk => by rw [tI_sI, if_neg (by omega)]) (fun _ _ _ => rfl)
  have hBt : TB8 τ (bT τ) := fun i hi => t3.b hi
  have hBc : CB8 c X (bT τ) := fun i hi => ⟨by rw [(t3 i hi).1]; exact (t3.b hi).1, (t3.b hi).2⟩
  generalize hBB : bT τ = B at hBt hBc
  have hBc0 : CB8 (uI c 102 X (nI 0)) X B := hBc.of ((Eq1.refl c _).uI (by omega))
  have hBt0 : TB8 (sI τ 1 (nI 0)) B := hBt.of (fun _ => rfl)
  have b0 := (hBt 0 (by omega)).2
  have b1 := (hBt 1 (by omega)).2
  have b2 := (hBt 2 (by omega)).2
  have b3 := (hBt 3 (by omega)).2
  have b4 := (hBt 4 (by omega)).2
  have hx0 := h0.1
  have h1 := h.1.1
  -- the state that is tried is laid
  obtain ⟨k1, k2, k3, k4, K, π, k5, k6⟩ := h0.2.2.1
  obtain ⟨Kt, πt, kt⟩ := h0.2.2.2.1
  obtain ⟨⟨r1, c1⟩, e1, p1, p2, p3, p4, p5, p6⟩ := C_copy h0.2.1.2.2.2.1 h0.2.1.2.2.1 (by omega) kt k5
  have p1 : r1 = X + 103 := p1
  subst p1
  have hBc1 : CB8 c1 X B := hBc0.of (p6 _ (by omega))
  have rs1 : RS c1 (X + 103) (vN v) (tA τ 62) := p2 _ _ hb3 (fun k hk => (k2.2.2.2.2 k hk).1) k1
  have rs2 : RS (uI (uI (uI c1 600 (X + 103) (nI (256 * B 0 + B 1))) 601 (X + 103) (nI (65536 * B 2 + (256 * B 3 + B 4)))) 602 (X + 103) (nI 0)) (X + 103) (vN v) (upd (upd (tA τ 62) 0 (nI (256 * B 0 + B 1))) 1 (nI (65536 * B 2 + (256 * B 3 + B 4)))) := RS_k2 (RS_s1 (RS_s0 rs1))
  have z2 : CS1 (X + 103) (uI c 102 X (nI 0)) (uI (uI (uI c1 600 (X + 103) (nI (256 * B 0 + B 1))) 601 (X + 103) (nI (65536 * B 2 + (256 * B 3 + B 4)))) 602 (X + 103) (nI 0)) := ((p6.uI (by omega)).uI (by omega)).uI (by omega)
  have rk2 : RKp (uI (uI (uI c1 600 (X + 103) (nI (256 * B 0 + B 1))) 601 (X + 103) (nI (65536 * B 2 + (256 * B 3 + B 4)))) 602 (X + 103) (nI 0)) (X + 103) 0 πt := ⟨by rw [cI_uI, if_pos ⟨rfl, rfl⟩], by omega, p4.2.2.1, p4.2.2.2⟩
  have cz : ∀ {c9 : CC}, CS1 (X + 103) (uI c 102 X (nI 0)) c9 → CZ X (uI c 102 X (nI 0)) c9 := fun z a ha => z a (by omega)
  have j95 : ∀ fl : Bool, Jc_X0_on_95 g X (nI (65536 * B 2 + (256 * B 3 + B 4))) (b32 fl) (uI c 102 X (nI 0)) = if b32 fl = nI 0 then Jc_X0_on_153 g X (uI (uI (uI c1 600 (X + 103) (nI (256 * B 0 + B 1))) 601 (X + 103) (nI (65536 * B 2 + (256 * B 3 + B 4)))) 602 (X + 103) (nI 0)) else xbd (f_c_X0_riverOn g X (uI (uI (uI c1 600 (X + 103) (nI (256 * B 0 + B 1))) 601 (X + 103) (nI (65536 * B 2 + (256 * B 3 + B 4)))) 602 (X + 103) (nI 0))) fun r20 τ20 => if r20 = nI 0 then Jc_X0_on_153 g X τ20 else xbd (f_c_X0_lordsOn g X τ20) fun r21 τ21 => if r21 = nI 0 then Jc_X0_on_153 g X τ21 else Jc_X0_on_154 g X 1 τ21 := fun fl => by
    unfold Jc_X0_on_95
    rw [if_pos h1, h.2.1.2.1, Option.bind_some, h.2.1.1, Option.bind_some, if_pos h.2.1.2.2.2.1.1, e1, xbd_some, nl_0, hBc1.two2 (j := 1) rfl h1 hg (by omega), xbd_some, if_pos h.2.1.2.2.2.1.1]
  have hval := I_isValley h0.iv
  have tw0 : tA (sI τ 1 (nI 0)) 9 5 = tA τ 9 5 := rfl
  have tref : ∀ q : TS, q = sI τ 1 (nI 0) → (if xin 5 6 = true then (if xin 5 6 = true then some (nI 0, sA q 9 (5 : Int32).toNatClampNeg ((tA q 9 (5 : Int32).toNatClampNeg) + 1)) else none) else none) = some ((0 : Int32), sA (sI τ 1 (nI 0)) 9 5 (tA τ 9 5 + nI 1)) := fun q hq => by
    subst hq
    rw [if_pos (show xin 5 6 = true by decide), if_pos (show xin 5 6 = true by decide), show ((5 : Int32).toNatClampNeg) = 5 by decide]; rfl
  have refT : ∀ c9, CS1 (X + 103) (uI c 102 X (nI 0)) c9 → (∃ K π, RKp c9 (X + 103) K π) → OK2 (Jc_X0_on_153 g X c9) (some ((0 : Int32), sA (sI τ 1 (nI 0)) 9 5 (tA τ 9 5 + nI 1))) (fun o r => o.1 = r.1 ∧ CORE g o.2 r.2 X V v lo hi ∧ cI o.2 102 X = nI 0 ∧ tI r.2 1 = nI 0 ∧ FN X c o.2 τ r.2) := fun c9 z k => on_ref h (cz z) k
  unfold f_c_X0_on f_t_on
  rw [if_pos h1, C_taken h1 t1, xbd_some, nl_0, nl_2, hBc0.at8 h1 hg (by omega), xbd_some, nl_3, hBc0.two2 (j := 4) rfl h1 hg (by omega), xbd_some, hval, xbd_some, three_nI b2 (by omega), t2]
  by_cases hv : 0 < vC v
  · have en : ((nI 6 + nI (vC v)) + (nI 2 * nI (vC v * vW v))) + (nI 3 * nI (vN v)) = nI (lordAt v (vN v) + 1) := by
      rw [pk_mul, pk_mul, nI_add, nI_add, nI_add]; unfold lordAt; congr 1; omega
    have chk : n = lordAt v (vN v) + 1 → ∃ k, k < 256 ∧ f_c_X0_check g (X + 27) (nI (n - 1)) (uI c 102 X (nI 0)) = some (nI k, uI c 102 X (nI 0)) ∧ f_t_checked 0 (nI (n - 1)) (sI τ 1 (nI 0)) = some (nI k, sI τ 1 (nI 0)) := fun e =>
      chk_two (A := X + 27) (F := 0) hg.2.1 (by rw [hg.2.2]; omega) (by decide) (by rw [show t_len 0 = 1600 by decide]; omega) (by omega) (by rw [hg.2.2]; omega) (by decide) (fun i hi => by rw [(hBc0 i (by omega)).1]; exact (hBt0 i (by omega)).1.symm)
    obtain ⟨kk, hkk, ck1, ck2⟩ : ∃ k, k < 256 ∧ (n = lordAt v (vN v) + 1 → f_c_X0_check g (X + 27) (nI (n - 1)) (uI c 102 X (nI 0)) = some (nI k, uI c 102 X (nI 0))) ∧ (n = lordAt v (vN v) + 1 → f_t_checked 0 (nI (n - 1)) (sI τ 1 (nI 0)) = some (nI k, sI τ 1 (nI 0))) := by
      by_cases e : n = lordAt v (vN v) + 1
      · obtain ⟨k, a1, a2, a3⟩ := chk e
        exact ⟨k, a1, fun _ => a2, fun _ => a3⟩
      · exact ⟨0, by omega, fun z => absurd z e, fun z => absurd z e⟩
    rw [decide_eq_true hv, if_neg (show ¬ b32 true = nI 0 by decide), C_columns h1 hx0.2.1 hx0.b, xbd_some, C_places hx0, xbd_some, C_lords h1 hx0.2.1 hx0.b, xbd_some, nl_6, en, T_isImage h0.2.2.2.2.1.1 hb hBt0 hv hn hkk ck2, xbd_some]
    have pre : (if nI n = nI (lordAt v (vN v) + 1) then xbd (f_c_X0_byteAt g X (nI n - 1) (uI c 102 X (nI 0))) fun r25 τ25 => (gR g 101 X).bind fun b26 => xbd (f_c_X0_check g b26 (nI n - 1) τ25) fun r27 τ27 => if r25 = r27 then xbd (f_c_X0_twoAt g X (nI 0) τ27) fun r28 τ28 => if (999 : Int32) < r28 then Jc_X0_on_94 g X (nI (65536 * B 2 + (256 * B 3 + B 4))) τ28 else if (999999 : Int32) < nI (65536 * B 2 + (256 * B 3 + B 4)) then Jc_X0_on_94 g X (nI (65536 * B 2 + (256 * B 3 + B 4))) τ28 else Jc_X0_on_95 g X (nI (65536 * B 2 + (256 * B 3 + B 4))) 1 τ28 else Jc_X0_on_94 g X (nI (65536 * B 2 + (256 * B 3 + B 4))) τ27 else Jc_X0_on_94 g X (nI (65536 * B 2 + (256 * B 3 + B 4))) (uI c 102 X (nI 0))) = Jc_X0_on_95 g X (nI (65536 * B 2 + (256 * B 3 + B 4))) (b32 (decide (n = lordAt v (vN v) + 1) && decide (B (n - 1) = kk) && decide (256 * B 0 + B 1 ≤ 999) && decide (65536 * B 2 + (256 * B 3 + B 4) ≤ 999999))) (uI c 102 X (nI 0)) := by
      by_cases e1 : n = lordAt v (vN v) + 1
      · have nb := (hBt (n - 1) (by omega)).2
        rw [if_pos (by rw [e1]), nl_1, nI_m1 (by omega), hBc0.at8 h1 hg (by omega), xbd_some, hg.1, Option.bind_some, ck1 e1, xbd_some, decide_eq_true e1, Bool.true_and]
        by_cases e2 : B (n - 1) = kk
        · rw [if_pos (by rw [e2]), hBc0.two2 (j := 1) rfl h1 hg (by omega), xbd_some, decide_eq_true e2, Bool.true_and, nl_999, nl_999999]
          by_cases e3 : 256 * B 0 + B 1 ≤ 999
          · rw [if_neg (by rw [nI_ltI (by omega) (by omega)]; omega), decide_eq_true e3, Bool.true_and]
            by_cases e4 : 65536 * B 2 + (256 * B 3 + B 4) ≤ 999999
            · rw [if_neg (by rw [nI_ltI (by omega) (by omega)]; omega), decide_eq_true e4]; rfl
            · rw [if_pos (by rw [nI_ltI (by omega) (by omega)]; omega), decide_eq_false e4]; rfl
          · rw [if_pos (by rw [nI_ltI (by omega) (by omega)]; omega), decide_eq_false e3, Bool.false_and]; rfl
        · rw [if_neg (by rw [nI_eq (by omega) (by omega)]; exact e2), decide_eq_false e2, Bool.false_and, Bool.false_and]; rfl
      · rw [if_neg (by rw [nI_eq (by omega) (by omega)]; exact e1), decide_eq_false e1, Bool.false_and, Bool.false_and, Bool.false_and]; rfl
    rw [pre, j95]
    have ei : imgOK v B n kk = ((decide (n = lordAt v (vN v) + 1) && decide (B (n - 1) = kk) && decide (256 * B 0 + B 1 ≤ 999) && decide (65536 * B 2 + (256 * B 3 + B 4) ≤ 999999)) && (allN (rokS v B) (vC v) && allN (cokS v B) (vC v * vW v)) && allN (lokS v B) (vN v)) := rfl
    rw [ei]
    cases hfl : (decide (n = lordAt v (vN v) + 1) && decide (B (n - 1) = kk) && decide (256 * B 0 + B 1 ≤ 999) && decide (65536 * B 2 + (256 * B 3 + B 4) ≤ 999999)) with
    | false =>
      rw [if_pos (show b32 false = nI 0 by decide), Bool.false_and, Bool.false_and, if_pos (show b32 false = nI 0 by decide), tref _ rfl]
      exact refT _ z2 ⟨_, _, rk2⟩
    | true =>
      rw [if_neg (show ¬ b32 true = nI 0 by decide), Bool.true_and]
      have hx2 : CX g (uI (uI (uI c1 600 (X + 103) (nI (256 * B 0 + B 1))) 601 (X + 103) (nI (65536 * B 2 + (256 * B 3 + B 4)))) 602 (X + 103) (nI 0)) X V v lo _ := hx0.of2 ((z2 X (by omega)).2.2.1 100) (fun a a1 a2 => z2 a (by omega))
      obtain ⟨⟨r3, c3⟩, e3, q1, q2, q3, q4⟩ := C_riverOn hx2 h.2.1.2.1 hg h.2.1.2.2.2.1 (hBc0.of (z2 _ (by omega))) rs2
      have q1 : r3 = b32 (allN (rokS v B) (vC v) && allN (cokS v B) (vC v * vW v)) := q1
      subst q1
      have z3 := z2.trans q3
      have rk3 := rk2.of q4
      rw [e3, xbd_some]
      cases hf2 : (allN (rokS v B) (vC v) && allN (cokS v B) (vC v * vW v)) with
      | false =>
        rw [if_pos (show b32 false = nI 0 by decide), Bool.false_and, if_pos (show b32 false = nI 0 by decide), tref _ rfl]
        exact refT _ z3 ⟨_, _, rk3⟩
      | true =>
        rw [if_neg (show ¬ b32 true = nI 0 by decide), Bool.true_and]
        have hx3 : CX g c3 X V v lo _ := hx0.of2 ((z3 X (by omega)).2.2.1 100) (fun a a1 a2 => z3 a (by omega))
        obtain ⟨⟨r4, c4⟩, e4, s1, s2, s3, s4⟩ := C_lordsOn hx3 h.2.1.2.1 hg h.2.1.2.2.2.1 (hBc0.of (z3 _ (by omega))) q2
        have s1 : r4 = b32 (allN (lokS v B) (vN v)) := s1
        subst s1
        have z4 := z3.trans s3
        have rk4 := rk3.of s4
        rw [e4, xbd_some]
        cases hf3 : allN (lokS v B) (vN v) with
        | false =>
          rw [if_pos (show b32 false = nI 0 by decide), if_pos (show b32 false = nI 0 by decide), tref _ rfl]
          exact refT _ z4 ⟨_, _, rk4⟩
        | true =>
          rw [if_neg (show ¬ b32 true = nI 0 by decide), if_neg (show ¬ b32 true = nI 0 by decide)]
          simp only [Bool.and_eq_true, decide_eq_true_eq] at hfl hf2
          obtain ⟨w1, w2, w3, w4⟩ := onW_ok (w := tA τ 62) (B := B) hb k2 k3.1 hfl.1.2 hfl.2 hf2.1 hf2.2 hf3
          -- the component
          have z4c := h0.cz (cz z4) (TX.refl fZ aZ _) ⟨_, _, rk4⟩
          obtain ⟨Kn, πn, kn⟩ : ∃ K π, RKp c4 (X + 35) K π := ⟨K, π, k5.of ⟨(z4 _ (by omega)).1 602, fun a a1 a2 => z4 a (by omega)⟩⟩
          obtain ⟨⟨r5, c5⟩, e5, u1, u2, u3, u4, u5, u6⟩ := C_copy h.2.1.2.2.1 h.2.1.2.2.2.1 (by omega) kn rk4
          have rs5 : RS c5 (X + 35) (vN v) (onW v B (tA τ 62)) := u2 _ _ hb3 w4 s2
          have jj : Jc_X0_on_154 g X 1 c4 = some (1, uI c5 121 X (nI 0)) := by
            unfold Jc_X0_on_154
            rw [if_neg (show ¬ (1 : Int32) = 0 by decide), if_pos h1, h.2.1.1, Option.bind_some, h.2.1.2.1, Option.bind_some, if_pos h.2.1.2.2.1.1, e5, xbd_some]; rfl
          rw [show (nI 1 : Int32) = 1 from rfl] at *
          rw [jj]
          -- the twin
          have hT0 := h0.2.2.2.2.1
          rw [hBt0.two2 (k := 0) (j := 1) rfl (by omega), xbd_some, if_pos (show xin (nI 0) 303 = true by decide), if_pos (show xin (nI 2) 1600 = true by decide), show (nI 0).toNatClampNeg = 0 by decide, show (nI 2).toNatClampNeg = 2 by decide]
          have hBt1 : TB8 (sA (sI τ 1 (nI 0)) 62 0 (nI (256 * B 0 + B 1))) B := hBt0.of (fun i => by rw [tA_sA, if_neg (by omega)])
          rw [hBt1.two2 (k := 3) (j := 4) rfl (by omega), xbd_some, if_pos (show xin 1 303 = true by decide), show ((1 : Int32)).toNatClampNeg = 1 by decide, (hBt1 2 (by omega)).1, nl_65536, pk_mul, nI_add]
          have m2 : TX no in62 (sI τ 1 (nI 0)) (sA (sA (sI τ 1 (nI 0)) 62 0 (nI (256 * B 0 + B 1))) 62 1 (nI (65536 * B 2 + (256 * B 3 + B 4)))) := ((TX.refl _ _ _).sA rfl).sA rfl
          have hT2 : TV (sA (sA (sI τ 1 (nI 0)) 62 0 (nI (256 * B 0 + B 1))) 62 1 (nI (65536 * B 2 + (256 * B 3 + B 4)))) v := hT0.tx m2 ⟨rfl, rfl⟩ ⟨rfl, rfl, rfl, rfl, rfl, rfl⟩
          have hB2 : TB8 (sA (sA (sI τ 1 (nI 0)) 62 0 (nI (256 * B 0 + B 1))) 62 1 (nI (65536 * B 2 + (256 * B 3 + B 4)))) B := hBt0.of (fun i => m2.2.2.1 0 i rfl)
          obtain ⟨q3', f3, y1, y2⟩ := T_onRows hT2 hb hB2 (w := upd (upd (tA τ 62) 0 (nI (256 * B 0 + B 1))) 1 (nI (65536 * B 2 + (256 * B 3 + B 4)))) (by rw [tA_upd, tA_upd]; rfl)
          have m3 := m2.trans y2
          obtain ⟨⟨o4, q4'⟩, f4, y3, y4, y5⟩ := T_onCells (hT0.tx m3 ⟨rfl, rfl⟩ ⟨rfl, rfl, rfl, rfl, rfl, rfl⟩) hb (hBt0.of (fun i => m3.2.2.1 0 i rfl)) y1
          have y3 : o4 = nI (lordAt v 0) := y3
          subst y3
          have m4 := m3.trans y5
          obtain ⟨q5', f5, y6, y7⟩ := T_onLords (hT0.tx m4 ⟨rfl, rfl⟩ ⟨rfl, rfl, rfl, rfl, rfl, rfl⟩) hb (hBt0.of (fun i => m4.2.2.1 0 i rfl)) y4 hf3
          have m5 := m4.trans y7
          rw [show (nI 0, sA (sA (sI τ 1 (nI 0)) 62 0 (nI (256 * B 0 + B 1))) 62 1 (nI (65536 * B 2 + (256 * B 3 + B 4)))) = ((0 : Int32), sA (sA (sI τ 1 (nI 0)) 62 0 (nI (256 * B 0 + B 1))) 62 1 (nI (65536 * B 2 + (256 * B 3 + B 4)))) from rfl, f3, Option.bind_some, T_cellsFrom (hT0.tx m3 ⟨rfl, rfl⟩ ⟨rfl, rfl, rfl, rfl, rfl, rfl⟩).1, xbd_some, show (nI (5 + vC v), nI 0, q3') = (nI (5 + vC v), (0 : Int32), q3') from rfl, f4, Option.bind_some, show (nI (lordAt v 0), nI 0, q4') = (nI (lordAt v 0), (0 : Int32), q4') from rfl, f5, Option.bind_some, if_pos (show xin 182 303 = true by decide), show ((182 : Int32)).toNatClampNeg = 182 by decide]
          have e62 : tA (sI (sA q5' 62 182 (nI 0)) 85 (nI 0)) 62 = upd (onW v B (tA τ 62)) 182 (nI 0) := by
            show tA (sA q5' 62 182 (nI 0)) 62 = _
            rw [tA_upd, y6]
          have zc : ∀ a, a ≠ X → ¬ (X + 35 ≤ a ∧ a < X + 171) → Eq1 c (uI c5 121 X (nI 0)) a := fun a a1 a2 => ((((Eq1.refl c a).uI a1).trans (z4 a (by omega))).trans (u6 a (by omega))).uI a1
          have cix : ∀ k, k ≠ 121 → cI (uI c5 121 X (nI 0)) k X = cI (uI c 102 X (nI 0)) k X := fun k hk => by rw [cI_uI, if_neg (fun e => hk e.1), (u6 X (by omega)).1, (z4 X (by omega)).1]
          have mt : TX fN aC τ (sI (sA q5' 62 182 (nI 0)) 85 (nI 0)) := ((((TX.refl fN aC τ).sI (Or.inl rfl)).trans (m5.mono (fun k hk => rfl) (fun k hk => by unfold aC at hk; unfold in62; simp at hk ⊢; omega))).sA rfl).sI (Or.inl rfl)
          refine OK2_some ⟨rfl, ⟨h.1.of2 ?_ (fun a a1 a2 => zc a a1 (by omega)), h.2.1, ?_, ⟨0, πt, rk4.of ⟨(((Eq1.refl c4 _).trans (u6 _ (by omega))).uI (by omega)).1 602, fun a a1 a2 => ((Eq1.refl c4 a).trans (u6 a (by omega))).uI (by omega)⟩⟩, ?_, ?_, ?_, fun i hi => ?_⟩, ?_, ?_, fun k k1 k2 => ?_, fun k => ?_, fun k => ?_, fun a a1 a2 => zc a a1 (by omega), mt⟩
          · show cR c5 100 X = _
            rw [(u6 X (by omega)).2.2.1, (z4 X (by omega)).2.2.1]; rfl
          · show KSt (uI c5 121 X (nI 0)) v (X + 35) _
            rw [e62]
            refine KSt.of (c := c5) ⟨RS_182 hb3 rs5, w1, w2, w3, 0, πn, u4, ⟨pk_us, fun k j hk => absurd hk (Nat.not_lt_zero k)⟩⟩ (fun a a1 a2 => (Eq1.refl c5 a).uI (by omega))
          · exact h.2.2.2.2.1.tx mt ⟨rfl, rfl⟩ ⟨rfl, rfl, rfl, rfl, rfl, rfl⟩
          · rw [mt.1 70 rfl rfl]; exact h.2.2.2.2.2.1
          · obtain ⟨U, N, ρ, hU, hN, a1, a2, a3, a4, a5, a6, a7⟩ := h.2.2.2.2.2.2.1
            refine ⟨0, N, ρ, by omega, hN, by rw [cI_uI, if_pos ⟨rfl, rfl⟩], by rw [tI_sI, if_pos rfl], ?_, fun i hi => ?_, a5, fun i hi => ?_, fun i hi => absurd hi (Nat.not_lt_zero i)⟩
            · rw [tI_sI, if_neg (by omega), tI_sA, m5.1 86 rfl rfl]; exact a3
            · rw [(zc (X + 309) (by omega) (by omega)).2.2.2.2.2]; exact a4 i hi
            · obtain ⟨K9, π9, h9⟩ := a6 i hi
              exact ⟨K9, π9, h9.of ⟨(zc _ (by omega) (by omega)).1 602, fun a b1 b2 => zc a (by omega) (by omega)⟩⟩
          · rw [(zc (X + 34) (by omega) (by omega)).2.2.2.1, tA_sI, tA_sA, if_neg (by omega), m5.2.2.1 9 i rfl]
            exact h.2.2.2.2.2.2.2 i hi
          · rw [cix 102 (by omega), cI_uI, if_pos ⟨rfl, rfl⟩]
          · rw [tI_sI, if_neg (by omega), tI_sA, m5.1 1 rfl rfl, tI_sI, if_pos rfl]
          · rw [cix k k2, cI_uI, if_neg (fun e => k1 e.1)]
          · show cL c5 k X = _
            rw [(u6 X (by omega)).2.1, (z4 X (by omega)).2.1]; rfl
          · show cR c5 k X = _
            rw [(u6 X (by omega)).2.2.1, (z4 X (by omega)).2.2.1]; rfl
  · have e94 : Jc_X0_on_94 g X (nI (65536 * B 2 + (256 * B 3 + B 4))) (uI c 102 X (nI 0)) = Jc_X0_on_95 g X (nI (65536 * B 2 + (256 * B 3 + B 4))) (b32 false) (uI c 102 X (nI 0)) := rfl
    have eT : f_t_isImage (nI n) (sI τ 1 (nI 0)) = some (0, sI τ 1 (nI 0)) := by
      unfold f_t_isImage
      rw [h0.2.2.2.2.1.1.1, decide_eq_false hv, if_pos (show b32 false = 0 by decide)]
    rw [decide_eq_false hv, if_pos (show b32 false = nI 0 by decide), e94, j95, if_pos (show b32 false = nI 0 by decide), eT, xbd_some, if_pos (show (0 : Int32) = nI 0 from rfl), tref _ rfl]
    exact refT _ z2 ⟨_, _, rk2⟩
end ZVs
