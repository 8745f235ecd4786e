/-! PLAIN LAW: tells -/
set_option maxRecDepth 100000
def mxN (f : Nat → Bool) (n : Nat → Nat) : Nat → Nat
  | 0 => 0
  | r + 1 => if f r = true then (if n r ≤ mxN f n r then mxN f n r else n r) else mxN f n r
theorem mxN_le {f : Nat → Bool} {n : Nat → Nat} {B : Nat} (h : ∀ r, n r ≤ B) : ∀ r, mxN f n r ≤ B
  | 0 => Nat.zero_le _
  | r + 1 => by
    have ih := mxN_le (f := f) h r
    unfold mxN
    split
    · split
      · exact ih
      · exact h r
    · exact ih
section ZNs
variable {g : CG} {c c' : CC} {τ τ' q : TS} {X V s lo hi n m : Nat} {v : VD} {w : Nat → Int32} {f : Nat → Bool} {W : Nat → Nat → Int32}
abbrev alk (v : VD) (f : Nat → Bool) (W : Nat → Nat → Int32) (k r : Nat) : Nat := cntN (fun o => f o && decide (W r k = W o k)) (vW v)
theorem C_has8 {S r : Nat} (hS : S < 256) (hr : r < 8) : f_c_X0_has g (nI S) (nI r) c = some (b32 (S.testBit r), c) := by
  unfold f_c_X0_has
  rw [has_nI S hS r hr]
  cases S.testBit r
  · rw [if_neg (show ¬ b32 false = 1 by decide)]; rfl
  · rw [if_pos (show b32 true = 1 by decide)]; rfl
theorem C_alike {x2 x4 x5 x7 : Int32} {M k r : Nat} (hx : CX g c X V v lo hi) (hy : RYG g X) (hW : ∀ r k, r < vW v → k < M → cA c (X + 301 + r) k = W r k) (hM : M ≤ 31) (hk : k < M) (hr : r < vW v) :
    itr (fun s_ : Int32 × Int32 × CC => Bc_X0_tells_68 g X x2 (nI (setP f (vW v))) x4 x5 (nI k) x7 (nI r) s_.1 s_.2.1 s_.2.2) 4096 (0, 0, c) = some (if f r = true then nI (alk v f W k r) else nI 0, c) := by
  have hb := hx.2.2.2.2.2.1
  have hb2 := hb.2.1
  have hbit : ∀ o, o < vW v → (setP f (vW v)).testBit o = f o := fun o ho => by rw [setP_bit, decide_eq_true ho, Bool.true_and]
  have key : OK (itr (fun s_ : Int32 × Int32 × CC => Bc_X0_tells_68 g X x2 (nI (setP f (vW v))) x4 x5 (nI k) x7 (nI r) s_.1 s_.2.1 s_.2.2) 4096 (0, 0, c)) (fun o => o = (if f r = true then nI (alk v f W k r) else nI 0, c)) := by
    refine itr_for (fun i s => s = (if f r = true then nI (cntN (fun o => f o && decide (W r k = W o k)) i) else nI 0, nI i, c)) _ 0 (vW v) ?_ ?_ (by omega) (by omega) (by split <;> rfl)
    · rintro i s - hi rfl
      have h9 : ¬ nI (vW v) ≤ nI i := by rw [nI_leI (by omega) (by omega)]; omega
      show OK (Bc_X0_tells_68 g X x2 (nI (setP f (vW v))) x4 x5 (nI k) x7 (nI r) _ (nI i) c) _
      unfold Bc_X0_tells_68 Jc_X0_tells_127 Jc_X0_tells_128
      rw [if_pos hx.1, hx.2.1, Option.bind_some, if_pos hx.b.1, hx.b.2.2.1, if_neg h9, C_has8 (setP_lt _ (by omega)) (by omega), xbd_some, hbit r hr, C_has8 (setP_lt _ (by omega)) (by omega), xbd_some, hbit i hi]
      rw [hy.1, Option.bind_some, if_pos hy.2.1, hy.2.2.1, if_pos (xin_nI (show r < 8 by omega) (by omega)), nI_clamp (show r < 2 ^ 31 by omega), (hy.2.2.2 r (by omega)).1, if_pos (hy.2.2.2 r (by omega)).2.1, (hy.2.2.2 r (by omega)).2.2, if_pos (xin_nI (show k < 31 by omega) (by omega)), if_pos (xin_nI (show i < 8 by omega) (by omega)), nI_clamp (show i < 2 ^ 31 by omega), (hy.2.2.2 i (by omega)).1, if_pos (hy.2.2.2 i (by omega)).2.1, (hy.2.2.2 i (by omega)).2.2, if_pos (xin_nI (show k < 31 by omega) (by omega)), nI_clamp (show k < 2 ^ 31 by omega), hW r k hr hk, hW i k hi hk, nl_1, nI_add]
      have c1 : cntN (fun o => f o && decide (W r k = W o k)) (i + 1) = cntN (fun o => f o && decide (W r k = W o k)) i + (if (f i && decide (W r k = W i k)) = true then 1 else 0) := rfl
      cases hfr : f r with
      | false =>
        rw [if_pos (show b32 false = 0 by decide)]
        exact OK_some (Or.inl ⟨_, rfl, rfl⟩)
      | true =>
        rw [if_neg (show ¬ b32 true = 0 by decide)]
        cases hfi : f i with
        | false =>
          rw [hfi] at c1
          rw [if_pos (show b32 false = 0 by decide)]
          refine OK_some (Or.inl ⟨_, rfl, ?_⟩)
          rw [c1]
          simp only [reduceIte, nl_0, nI_add, Bool.false_and, Bool.false_eq_true]
        | true =>
          rw [hfi] at c1
          rw [if_neg (show ¬ b32 true = 0 by decide)]
          by_cases e : W r k = W i k
          · rw [if_pos e]
            refine OK_some (Or.inl ⟨_, rfl, ?_⟩)
            rw [c1]
            simp only [reduceIte, e, decide_true, Bool.and_self, nI_add]
          · rw [if_neg e]
            refine OK_some (Or.inl ⟨_, rfl, ?_⟩)
            rw [c1]
            simp only [reduceIte, e, decide_false, Bool.and_false, Bool.false_eq_true, nl_0, nI_add]
    · rintro s rfl
      have h9 : nI (vW v) ≤ nI (vW v) := by rw [nI_leI (by omega) (by omega)]; omega
      show OK (Bc_X0_tells_68 g X x2 (nI (setP f (vW v))) x4 x5 (nI k) x7 (nI r) _ (nI (vW v)) c) _
      unfold Bc_X0_tells_68
      rw [if_pos hx.1, hx.2.1, Option.bind_some, if_pos hx.b.1, hx.b.2.2.1, if_pos h9]
      exact OK_some ⟨_, rfl, rfl⟩
  obtain ⟨o, e, rfl⟩ := key
  exact e
theorem C_most {x2 x4 x5 : Int32} {M k : Nat} (hx : CX g c X V v lo hi) (hy : RYG g X) (hW : ∀ r k, r < vW v → k < M → cA c (X + 301 + r) k = W r k) (hM : M ≤ 31) (hk : k < M) :
    itr (fun s_ : Int32 × Int32 × CC => Bc_X0_tells_50 g X x2 (nI (setP f (vW v))) x4 x5 (nI k) s_.1 s_.2.1 s_.2.2) 4096 (0, 0, c) = some (nI (mxN f (alk v f W k) (vW v)), c) := by
  have hb := hx.2.2.2.2.2.1
  have hb2 := hb.2.1
  have hle : ∀ r, mxN f (alk v f W k) r ≤ 8 := mxN_le (fun r => Nat.le_trans (cntN_le _) hb2)
  have key : OK (itr (fun s_ : Int32 × Int32 × CC => Bc_X0_tells_50 g X x2 (nI (setP f (vW v))) x4 x5 (nI k) s_.1 s_.2.1 s_.2.2) 4096 (0, 0, c)) (fun o => o = (nI (mxN f (alk v f W k) (vW v)), c)) := by
    refine itr_for (fun i s => s = (nI (mxN f (alk v f W k) i), nI i, c)) _ 0 (vW v) ?_ ?_ (by omega) (by omega) rfl
    · rintro i s - hi rfl
      have h9 : ¬ nI (vW v) ≤ nI i := by rw [nI_leI (by omega) (by omega)]; omega
      have l1 := hle i
      have l2 : alk v f W k i ≤ 8 := Nat.le_trans (cntN_le _) hb2
      have c1 : mxN f (alk v f W k) (i + 1) = if f i = true then (if alk v f W k i ≤ mxN f (alk v f W k) i then mxN f (alk v f W k) i else alk v f W k i) else mxN f (alk v f W k) i := rfl
      show OK (Bc_X0_tells_50 g X x2 (nI (setP f (vW v))) x4 x5 (nI k) (nI (mxN f (alk v f W k) i)) (nI i) c) _
      unfold Bc_X0_tells_50
      rw [if_pos hx.1, hx.2.1, Option.bind_some, if_pos hx.b.1, hx.b.2.2.1, if_neg h9, C_alike hx hy hW hM hk hi, Option.bind_some, C_max, xbd_some, nl_1, nI_add]
      refine OK_some (Or.inl ⟨_, rfl, ?_⟩)
      rw [c1]
      cases f i with
      | false =>
        simp only [Bool.false_eq_true, reduceIte]
        rw [if_neg (by rw [nI_ltI (by omega) (by omega)]; omega)]
      | true =>
        simp only [reduceIte]
        by_cases e : alk v f W k i ≤ mxN f (alk v f W k) i
        · rw [if_pos e, if_neg (by rw [nI_ltI (by omega) (by omega)]; omega)]
        · rw [if_neg e, if_pos (by rw [nI_ltI (by omega) (by omega)]; omega)]
    · rintro s rfl
      have h9 : nI (vW v) ≤ nI (vW v) := by rw [nI_leI (by omega) (by omega)]; omega
      show OK (Bc_X0_tells_50 g X x2 (nI (setP f (vW v))) x4 x5 (nI k) _ (nI (vW v)) c) _
      unfold Bc_X0_tells_50
      rw [if_pos hx.1, hx.2.1, Option.bind_some, if_pos hx.b.1, hx.b.2.2.1, if_pos h9]
      exact OK_some ⟨_, rfl, rfl⟩
  obtain ⟨o, e, rfl⟩ := key
  exact e
theorem T_most {k : Nat} (hT : TV q v) (hb : VB v) (hf : ∀ r, r < vW v → tA q 82 r = b32 (f r)) (hW : ∀ r k, r < vW v → k ≤ 30 → tA q 81 (31 * r + k) = W r k) (hk : k ≤ 30) :
    f_t_mostAlike (nI k) q = some (nI (mxN f (alk v f W k) (vW v)), q) := by
  have hb2 := hb.2.1
  have hle : ∀ r, mxN f (alk v f W k) r ≤ 8 := mxN_le (fun r => Nat.le_trans (cntN_le _) hb2)
  have inner : ∀ r, r < vW v → ∀ x2 : Int32, OK (itr (fun s_ : Int32 × Int32 × TS => Bt_mostAlike_30 (nI k) x2 (nI r) s_.1 s_.2.1 s_.2.2) 4096 (0, 0, q)) (fun o => o = (nI (alk v f W k r), q)) := by
    intro r hr x2
    refine itr_for (fun i s => s = (nI (cntN (fun o => f o && decide (W r k = W o k)) i), nI i, q)) _ 0 (vW v) ?_ ?_ (by omega) (by omega) rfl
    · rintro i s - hi rfl
      have h9 : ¬ nI (vW v) ≤ nI i := by rw [nI_leI (by omega) (by omega)]; omega
      have c1 : cntN (fun o => f o && decide (W r k = W o k)) (i + 1) = cntN (fun o => f o && decide (W r k = W o k)) i + (if (f i && decide (W r k = W i k)) = true then 1 else 0) := rfl
      show OK (Bt_mostAlike_30 (nI k) x2 (nI r) _ (nI i) q) _
      unfold Bt_mostAlike_30 Jt_mostAlike_78
      rw [T_rowsMany, xbd_some, hT.1.2.2.1, if_neg h9, if_pos (xin_nI (show i < 8 by omega) (by omega)), nI_clamp (show i < 2 ^ 31 by omega), hf i hi, nl_31, pk_mul, pk_mul, nI_add, nI_add, if_pos (xin_nI (show 31 * r + k < 248 by omega) (by omega)), if_pos (xin_nI (show 31 * i + k < 248 by omega) (by omega)), nI_clamp (show 31 * r + k < 2 ^ 31 by omega), nI_clamp (show 31 * i + k < 2 ^ 31 by omega), hW r k hr hk, hW i k hi hk, nl_1, nI_add, nI_add]
      cases hfi : f i with
      | false =>
        rw [hfi] at c1
        rw [if_pos (show b32 false = 0 by decide)]
        exact OK_some (Or.inl ⟨_, rfl, by rw [c1]; rfl⟩)
      | true =>
        rw [hfi] at c1
        rw [if_neg (show ¬ b32 true = 0 by decide)]
        by_cases e : W r k = W i k
        · rw [if_pos e]
          refine OK_some (Or.inl ⟨_, rfl, ?_⟩)
          rw [c1]
          simp only [e, decide_true, Bool.and_self, reduceIte]
        · rw [if_neg e]
          refine OK_some (Or.inl ⟨_, rfl, ?_⟩)
          rw [c1]
          simp only [e, decide_false, Bool.and_false, Bool.false_eq_true, reduceIte, Nat.add_zero]
    · rintro s rfl
      have h9 : nI (vW v) ≤ nI (vW v) := by rw [nI_leI (by omega) (by omega)]; omega
      show OK (Bt_mostAlike_30 (nI k) x2 (nI r) _ (nI (vW v)) q) _
      unfold Bt_mostAlike_30
      rw [T_rowsMany, xbd_some, hT.1.2.2.1, if_pos h9]
      exact OK_some ⟨_, rfl, rfl⟩
  have key : OK (itr (fun s_ : Int32 × Int32 × TS => Bt_mostAlike_4 (nI k) s_.1 s_.2.1 s_.2.2) 4096 (0, 0, q)) (fun o => o = (nI (mxN f (alk v f W k) (vW v)), q)) := by
    refine itr_for (fun i s => s = (nI (mxN f (alk v f W k) i), nI i, q)) _ 0 (vW v) ?_ ?_ (by omega) (by omega) rfl
    · rintro i s - hi rfl
      have h9 : ¬ nI (vW v) ≤ nI i := by rw [nI_leI (by omega) (by omega)]; omega
      have l1 := hle i
      have l2 : alk v f W k i ≤ 8 := Nat.le_trans (cntN_le _) hb2
      have c1 : mxN f (alk v f W k) (i + 1) = if f i = true then (if alk v f W k i ≤ mxN f (alk v f W k) i then mxN f (alk v f W k) i else alk v f W k i) else mxN f (alk v f W k) i := rfl
      obtain ⟨o, e3, rfl⟩ := inner i hi (nI (mxN f (alk v f W k) i))
      show OK (Bt_mostAlike_4 (nI k) (nI (mxN f (alk v f W k) i)) (nI i) q) _
      unfold Bt_mostAlike_4 Jt_mostAlike_93
      rw [T_rowsMany, xbd_some, hT.1.2.2.1, if_neg h9, if_pos (xin_nI (show i < 8 by omega) (by omega)), nI_clamp (show i < 2 ^ 31 by omega), hf i hi, e3, Option.bind_some, nl_1, nI_add]
      cases hfi : f i with
      | false =>
        rw [hfi] at c1
        rw [if_pos (show b32 false = 0 by decide)]
        exact OK_some (Or.inl ⟨_, rfl, by rw [c1]; rfl⟩)
      | true =>
        rw [hfi] at c1
        rw [if_neg (show ¬ b32 true = 0 by decide)]
        by_cases e : alk v f W k i ≤ mxN f (alk v f W k) i
        · rw [if_pos e] at c1
          rw [if_pos (by rw [nI_leI (by omega) (by omega)]; exact e)]
          exact OK_some (Or.inl ⟨_, rfl, by rw [c1]; rfl⟩)
        · rw [if_neg e] at c1
          rw [if_neg (by rw [nI_leI (by omega) (by omega)]; exact e)]
          exact OK_some (Or.inl ⟨_, rfl, by rw [c1]; rfl⟩)
    · rintro s rfl
      have h9 : nI (vW v) ≤ nI (vW v) := by rw [nI_leI (by omega) (by omega)]; omega
      show OK (Bt_mostAlike_4 (nI k) _ (nI (vW v)) q) _
      unfold Bt_mostAlike_4
      rw [T_rowsMany, xbd_some, hT.1.2.2.1, if_pos h9]
      exact OK_some ⟨_, rfl, rfl⟩
  obtain ⟨o, e, rfl⟩ := key
  unfold f_t_mostAlike
  rw [e]; rfl
theorem neg_1 : -nI 1 = (-1 : Int32) := rfl
theorem nI_m1ne {b : Nat} (h : b < 1000) : ¬ nI b = -1 := by
  intro e
  have := congrArg Int32.toInt e
  rw [nI_toInt (by omega)] at this
  have e2 : (-1 : Int32).toInt = -1 := by decide
  omega
theorem I_tells {x y : Int32} (h : IV g c τ X V v lo hi) (hg : SWG g X) (hy : RYG g X) (hs : SW c τ X v) : OK2 (f_c_X0_tells g X x y c) (f_t_tells x y τ) (RZ X c τ) := by
  have hb := h.1.2.2.2.2.2.1
  have hb1 := hb.1
  have hb2 := hb.2.1
  obtain ⟨R, σ, α, β, hs⟩ := hs.fn hb
  obtain ⟨n0, hn0, hw⟩ := h.2.2.2.2.2.2.2
  have hT := h.2.2.2.2.2.1
  have z1 : (0 : Int64) = (nI 0).toInt64 := rfl
  have z2 : (1 : Int64) = (nI 1).toInt64 := rfl
  by_cases hx : nI 0 ≤ x ∧ x < nI (vC v)
  · obtain ⟨j, hj, rfl⟩ := nI_lto (by omega) hx.1 hx.2
    obtain ⟨K, π, k1, k2⟩ := h.2.2.2.1
    obtain ⟨⟨a, c2⟩, e1, p1, p2, p3⟩ := C_ran (j := j) h hg hy hs hw hn0 hj
    obtain ⟨q, e2, y1, y2, y3, y4⟩ := T_laysFits (j := j) hT hb h.2.2.2.2.2.2.1 h.2.2.1.2.2.1.1 ⟨K, k1.2.1, k2.1⟩ hs.t hw hn0 hj
    have hT' : TV q v := hT.z y1
    have p2 : NZ X c c2 := p2
    have p3 : ∀ r k, r < vW v → k < min 31 (1000 - n0) → cA c2 (X + 301 + r) k = seasN v (upd (tA τ 62) (2 + j) (nI r)) k (2 + j) := p3
    have iv2 : IV g c2 q X V v lo hi := h.cz p2.1 y1 p2.2
    have ec : (decide (nI 0 ≤ nI j) && decide (nI j < nI (vC v))) = true := by simp [hx.1, hx.2]
    have p1 : a = nI (setP (fitR v (tA τ 62) j n0 R σ α β) (vW v)) := p1
    subst p1
    have slt : setP (fitR v (tA τ 62) j n0 R σ α β) (vW v) < 256 := setP_lt (vW v) hb2
    have clt := cntN_le (P := fitR v (tA τ 62) j n0 R σ α β) (vW v)
    unfold f_c_X0_tells f_t_tells
    rw [if_pos h.1.1, e1, xbd_some, C_is, xbd_some, T_isColumn hT.1 hb, xbd_some, ec, if_neg (show ¬ b32 true = 0 by decide), z1, z2, T_isIn32, xbd_some, e2, Option.bind_some, nl_0, nl_1, neg_1]
    have rN : OK2 (some ((-1 : Int32), c2)) (some ((-1 : Int32), τ)) (RZ X c τ) := OK2_some ⟨rfl, p2.1, TX.refl _ _ τ, p2.2⟩
    have rN2 : OK2 (some ((-1 : Int32), c2)) (some ((-1 : Int32), q)) (RZ X c τ) := OK2_some ⟨rfl, p2.1, y1, p2.2⟩
    by_cases hS : setP (fitR v (tA τ 62) j n0 R σ α β) (vW v) = 0
    · rw [if_pos (by rw [hS]; decide)]
      cases hyy : (decide (nI 0 ≤ y) && decide (y ≤ nI 1)) with
      | false => rw [if_pos (show b32 false = nI 0 by decide)]; exact rN
      | true =>
        rw [if_neg (show ¬ b32 true = nI 0 by decide)]
        have eT : itr (fun s_ : Int32 × Int32 × Int32 × TS => Bt_tells_34 y s_.1 s_.2.1 s_.2.2.1 s_.2.2.2) 4096 (-1, nI 0, nI 1, q) = some (-1, nI 0, q) := by
          rw [show (4096 : Nat) = 4095 + 1 from rfl]
          refine itr_inr ?_
          show Bt_tells_34 y (-1) (nI 0) (nI 1) q = _
          unfold Bt_tells_34
          rw [y4, (setP_0 (vW v)).mp hS, if_pos (by decide)]
        rw [eT, Option.bind_some]
        exact rN2
    · rw [if_neg (by rw [nI_leI (by omega) (by omega)]; omega)]
      have hcn : cntN (fitR v (tA τ 62) j n0 R σ α β) (vW v) ≠ 0 := fun z => hS ((setP_0 (vW v)).mpr z)
      cases hyy : (decide (nI 0 ≤ y) && decide (y ≤ nI 1)) with
      | false =>
        rw [if_pos (show b32 false = nI 0 by decide), if_pos (show b32 false = nI 0 by decide)]; exact rN
      | true =>
        rw [if_neg (show ¬ b32 true = nI 0 by decide), if_neg (show ¬ b32 true = nI 0 by decide)]
        have hL : OK2 (itr (fun s_ : Int32 × Int32 × Int32 × CC => Bc_X0_tells_32 g X y (nI (setP (fitR v (tA τ 62) j n0 R σ α β) (vW v))) s_.1 s_.2.1 s_.2.2.1 s_.2.2.2) 4096 (-1, 100000000, nI 1, c2)) (itr (fun s_ : Int32 × Int32 × Int32 × TS => Bt_tells_34 y s_.1 s_.2.1 s_.2.2.1 s_.2.2.2) 4096 (-1, nI 0, nI 1, q)) (fun o r => (o = (-1, 100000000, c2) ∧ r = (-1, nI 0, q)) ∨ ∃ b f, b < 1000 ∧ o = (nI b, nI f, c2) ∧ r = (nI b, nI f, q)) := by
          refine itr_two (fun k s t => (s = (-1, 100000000, nI k, c2) ∧ t = (-1, nI 0, nI k, q)) ∨ ∃ b f, b < 1000 ∧ f ≤ 8 ∧ s = (nI b, nI f, nI k, c2) ∧ t = (nI b, nI f, nI k, q)) _ 1 (min 31 (1000 - n0)) ?_ ?_ (by omega) (by omega) (Or.inl ⟨rfl, rfl⟩)
          · intro k s t hk1 hk2 hI
            have hA := C_isAhead (x := nI k) (a := nI 1) (b := nI 30) iv2
            have hB := T_isAhead (x := nI k) (a := nI 1) (b := nI 30) hT'
            have ew : tA q 62 = tA τ 62 := funext (fun i => y1.2.2.1 62 i rfl)
            rw [ew, ahead_dec (by omega) hw hn0 (by omega) (by omega) (by omega), decide_eq_true (show 1 ≤ k ∧ k ≤ 30 ∧ n0 + k ≤ 999 by omega)] at hA hB
            have mC : ∀ x4 x5 : Int32, itr (fun s_ : Int32 × Int32 × CC => Bc_X0_tells_50 g X y (nI (setP (fitR v (tA τ 62) j n0 R σ α β) (vW v))) x4 x5 (nI k) s_.1 s_.2.1 s_.2.2) 4096 (nI 0, nI 0, c2) = some (nI (mxN (fitR v (tA τ 62) j n0 R σ α β) (alk v (fitR v (tA τ 62) j n0 R σ α β) (fun r k => seasN v (upd (tA τ 62) (2 + j) (nI r)) k (2 + j)) k) (vW v)), c2) := fun x4 x5 : Int32 => C_most (W := fun r k => seasN v (upd (tA τ 62) (2 + j) (nI r)) k (2 + j)) (f := fitR v (tA τ 62) j n0 R σ α β) (x2 := y) (x4 := x4) (x5 := x5) (M := min 31 (1000 - n0)) (k := k) iv2.1 hy p3 (by omega) (by omega)
            have mT := T_most (W := fun r k => seasN v (upd (tA τ 62) (2 + j) (nI r)) k (2 + j)) (f := fitR v (tA τ 62) j n0 R σ α β) (k := k) hT' hb y2 y3 (by omega)
            have hmx : mxN (fitR v (tA τ 62) j n0 R σ α β) (alk v (fitR v (tA τ 62) j n0 R σ α β) (fun r k => seasN v (upd (tA τ 62) (2 + j) (nI r)) k (2 + j)) k) (vW v) ≤ 8 := mxN_le (fun r => Nat.le_trans (cntN_le _) hb2) _
            have h83 : ¬ nI (cntN (fitR v (tA τ 62) j n0 R σ α β) (vW v)) ≤ nI 0 := by rw [nI_leI (by omega) (by omega)]; omega
            rcases hI with ⟨rfl, rfl⟩ | ⟨b, f, hb9, hf9, rfl, rfl⟩
            · show OK2 (Bc_X0_tells_32 g X y (nI (setP (fitR v (tA τ 62) j n0 R σ α β) (vW v))) (-1) 100000000 (nI k) c2) (Bt_tells_34 y (-1) (nI 0) (nI k) q) _
              unfold Bc_X0_tells_32 Bt_tells_34 Jc_X0_tells_170 Jt_tells_76 Jt_tells_83
              rw [if_pos h.1.1, nl_1, neg_1, nl_30, hA, xbd_some, if_neg (show ¬ b32 true = 0 by decide), nl_0, mC, Option.bind_some, y4, if_neg h83, hB, xbd_some, if_neg (show ¬ b32 true = nI 0 by decide), mT, xbd_some, if_pos rfl, nI_add]
              have hlt : nI (mxN (fitR v (tA τ 62) j n0 R σ α β) (alk v (fitR v (tA τ 62) j n0 R σ α β) (fun r k => seasN v (upd (tA τ 62) (2 + j) (nI r)) k (2 + j)) k) (vW v)) < (100000000 : Int32) := by
                rw [show (100000000 : Int32) = nI 100000000 from rfl, nI_ltI (by omega) (by omega)]; omega
              rw [if_pos hlt]
              exact OK2_some (Or.inl ⟨_, _, rfl, rfl, Or.inr ⟨k, _, by omega, hmx, rfl, rfl⟩⟩)
            · show OK2 (Bc_X0_tells_32 g X y (nI (setP (fitR v (tA τ 62) j n0 R σ α β) (vW v))) (nI b) (nI f) (nI k) c2) (Bt_tells_34 y (nI b) (nI f) (nI k) q) _
              unfold Bc_X0_tells_32 Bt_tells_34 Jc_X0_tells_170 Jt_tells_76 Jt_tells_83
              rw [if_pos h.1.1, nl_1, neg_1, nl_30, hA, xbd_some, if_neg (show ¬ b32 true = 0 by decide), nl_0, mC, Option.bind_some, y4, if_neg h83, hB, xbd_some, if_neg (show ¬ b32 true = nI 0 by decide), mT, xbd_some, if_neg (nI_m1ne hb9), nI_add]
              by_cases hlt : nI (mxN (fitR v (tA τ 62) j n0 R σ α β) (alk v (fitR v (tA τ 62) j n0 R σ α β) (fun r k => seasN v (upd (tA τ 62) (2 + j) (nI r)) k (2 + j)) k) (vW v)) < nI f
              · rw [if_pos hlt, if_pos hlt]
                exact OK2_some (Or.inl ⟨_, _, rfl, rfl, Or.inr ⟨k, _, by omega, hmx, rfl, rfl⟩⟩)
              · rw [if_neg hlt, if_neg hlt]
                exact OK2_some (Or.inl ⟨_, _, rfl, rfl, Or.inr ⟨b, f, hb9, hf9, rfl, rfl⟩⟩)
          · intro s t hI
            have hA := C_isAhead (x := nI (min 31 (1000 - n0))) (a := nI 1) (b := nI 30) iv2
            have hB := T_isAhead (x := nI (min 31 (1000 - n0))) (a := nI 1) (b := nI 30) hT'
            have ew : tA q 62 = tA τ 62 := funext (fun i => y1.2.2.1 62 i rfl)
            rw [ew, ahead_dec (by omega) hw hn0 (by omega) (by omega) (by omega), decide_eq_false (show ¬ (1 ≤ min 31 (1000 - n0) ∧ min 31 (1000 - n0) ≤ 30 ∧ n0 + min 31 (1000 - n0) ≤ 999) by omega)] at hA hB
            have h83 : ¬ nI (cntN (fitR v (tA τ 62) j n0 R σ α β) (vW v)) ≤ nI 0 := by rw [nI_leI (by omega) (by omega)]; omega
            have e9 : ∀ x4 x5 : Int32, OK2 (Bc_X0_tells_32 g X y (nI (setP (fitR v (tA τ 62) j n0 R σ α β) (vW v))) x4 x5 (nI (min 31 (1000 - n0))) c2) (some ((.inr (x4, x5, c2) : (Int32 × Int32 × Int32 × CC) ⊕ (Int32 × Int32 × CC)))) (fun o r => o = r) := fun x4 x5 => by
              unfold Bc_X0_tells_32
              rw [if_pos h.1.1, nl_1, nl_30, hA, xbd_some, if_pos (show b32 false = 0 by decide)]
              exact OK2_some rfl
            have f9 : ∀ x4 x5 : Int32, OK2 (Bt_tells_34 y x4 x5 (nI (min 31 (1000 - n0))) q) (some ((.inr (x4, x5, q) : (Int32 × Int32 × Int32 × TS) ⊕ (Int32 × Int32 × TS)))) (fun o r => o = r) := fun x4 x5 => by
              unfold Bt_tells_34
              rw [y4, nl_0, if_neg h83, nl_1, nl_30, hB, xbd_some, if_pos (show b32 false = nI 0 by decide)]
              exact OK2_some rfl
            rcases hI with ⟨rfl, rfl⟩ | ⟨b, f, hb9, hf9, rfl, rfl⟩
            · obtain ⟨o1, o2, d1, d2, rfl⟩ := e9 (-1) 100000000
              obtain ⟨r1, r2, d3, d4, rfl⟩ := f9 (-1) (nI 0)
              cases d2; cases d4
              exact ⟨_, _, d1, d3, _, _, rfl, rfl, Or.inl ⟨rfl, rfl⟩⟩
            · obtain ⟨o1, o2, d1, d2, rfl⟩ := e9 (nI b) (nI f)
              obtain ⟨r1, r2, d3, d4, rfl⟩ := f9 (nI b) (nI f)
              cases d2; cases d4
              exact ⟨_, _, d1, d3, _, _, rfl, rfl, Or.inr ⟨b, f, hb9, rfl, rfl⟩⟩
        obtain ⟨o, r, d1, d2, hz⟩ := hL
        rw [d1, d2, Option.bind_some, Option.bind_some]
        rcases hz with ⟨rfl, rfl⟩ | ⟨b, f, hb9, rfl, rfl⟩
        · show OK2 (if (-1 : Int32) = -1 then _ else _) (Jt_tells_89 y (-1) (nI 0) q) _
          rw [if_pos rfl]
          exact rN2
        · show OK2 (if nI b = (-1 : Int32) then _ else _) (Jt_tells_89 y (nI b) (nI f) q) _
          unfold Jt_tells_89 Jc_X0_tells_186
          rw [if_neg (nI_m1ne hb9), if_neg (nI_m1ne hb9)]
          by_cases e0 : y = nI 0
          · rw [if_pos e0, if_pos (show y = 0 from e0)]; exact OK2_some ⟨rfl, p2.1, y1, p2.2⟩
          · rw [if_neg e0, if_neg (show ¬ y = 0 from e0)]; exact OK2_some ⟨rfl, p2.1, y1, p2.2⟩
  · have ec : (decide (nI 0 ≤ x) && decide (x < nI (vC v))) = false := by
      rw [Bool.eq_false_iff]; intro e; simp only [Bool.and_eq_true, decide_eq_true_eq] at e; exact hx e
    unfold f_c_X0_tells f_t_tells f_c_X0_ran
    rw [if_pos h.1.1, if_pos h.1.1, C_isColumn h.1, xbd_some, T_isColumn hT.1 hb, xbd_some, ec, if_pos (show b32 false = 0 by decide), if_pos (show b32 false = 0 by decide), xbd_some, if_pos (show (-1 : Int32) ≤ 0 by decide)]
    exact OK2_some (RD.mk.z h.2.2.2.2.1.2)
end ZNs
