/-! PLAIN LAW: image -/
set_option maxRecDepth 100000
def OCn (c : CC) (τ : TS) (X m : Nat) : Prop := cI c 124 X = nI m ∧ tI τ 131 = nI m ∧ ∀ i, i < m → cA c (X + 1670) i &&& 255 = tA τ 130 i
def in131 (k : Nat) : Bool := k == 131
def in130 (k : Nat) : Bool := k == 130
/-- octets alone have moved -/
def FO (X : Nat) (c c' : CC) (τ τ' : TS) : Prop := EqF c c' X 124 ∧ (∀ a, a ≠ X → a ≠ X + 1670 → Eq1 c c' a) ∧ TX in131 in130 τ τ'
theorem nI_rem' {a : Nat} (ha : a < 2147483648) : nI a - nI (a / 256) * nI 256 = nI (a % 256) := by
  rw [← nI_div ha (by omega) (by omega)]
  exact nI_rem ha (by omega) (by omega)
section ZSs
variable {g : CG} {c c' c'' : CC} {τ τ' τ'' q : TS} {X V s lo hi n m : Nat} {v : VD} {w : Nat → Int32}
theorem FO.refl : FO X c c τ τ := ⟨EqF.refl c X 124, fun a _ _ => Eq1.refl c a, TX.refl _ _ τ⟩
theorem FO.trans (h : FO X c c' τ τ') (h' : FO X c' c'' τ' τ'') : FO X c c'' τ τ'' := ⟨h.1.trans h'.1, fun a a1 a2 => (h.2.1 a a1 a2).trans (h'.2.1 a a1 a2), h.2.2.trans h'.2.2⟩
theorem FO.cx (h : FO X c c' τ τ') (hx : CX g c X V v lo hi) : CX g c' X V v lo hi := hx.of2 (h.1.2.2.1 100) (fun a a1 a2 => h.2.1 a a1 (by omega))
theorem FO.ct (h : FO X c c' τ τ') (ht : CT g c X (X + 35) v w) : CT g c' X (X + 35) v w := ht.of (fun a a1 a2 => h.2.1 a (by omega) (by omega))
theorem FO.tv (h : FO X c c' τ τ') (hT : TV τ v) : TV τ' v := hT.tx h.2.2 ⟨rfl, rfl⟩ ⟨rfl, rfl, rfl, rfl, rfl, rfl⟩
theorem FO.w62 (h : FO X c c' τ τ') (hw : tA τ 62 = w) : tA τ' 62 = w := by rw [← hw]; exact funext (fun i => h.2.2.2.2.1 62 i rfl)
theorem oct_byte {z : Int32} {y : Nat} (h : OCn c τ X m) (hz : z &&& 255 = nI y) : OCn (uA (uI c 124 X (nI m + 1)) (X + 1670) m (z.toInt8.toInt32.toInt8.toInt32)) (sI (sA τ 130 m (nI y)) 131 (nI m + 1)) X (m + 1) ∧ FO X c (uA (uI c 124 X (nI m + 1)) (X + 1670) m (z.toInt8.toInt32.toInt8.toInt32)) τ (sI (sA τ 130 m (nI y)) 131 (nI m + 1)) := by
  obtain ⟨h1, h2, h3⟩ := h
  refine ⟨⟨by rw [cI_uA, cI_uI, if_pos ⟨rfl, rfl⟩, nl_1, nI_add], by rw [tI_sI, if_pos rfl, nl_1, nI_add], fun j hj => ?_⟩, ?_, fun a a1 a2 => ((Eq1.refl c a).uI a1).uA a2, ((TX.refl _ _ τ).sA rfl).sI (Or.inl rfl)⟩
  · rw [cA_uA, tA_sI, tA_sA, cA_uI]
    by_cases e : j = m
    · subst e
      rw [if_pos ⟨rfl, rfl⟩, if_pos ⟨rfl, rfl⟩, byte_two, hz]
    · rw [if_neg (fun q => e q.2), if_neg (fun q => e q.2)]; exact h3 j (by omega)
  · exact (EqF.uI (c := c) (a := X) (f := 124)).uA' (by omega)
theorem C_wr {x : Int32} {k : Nat} (h1 : gT g X = 1) (hg : OG g X) (h : cI c 124 X = nI m) (hm : m < 191) (hk : k < 3) : Bc_X0_writes_4 g X x (nI k) c = some (.inl (nI k + (-1), uA (uI c 124 X (nI m + 1)) (X + 1670) m ((x >>> ((8 * nI k) &&& 31)).toInt8.toInt32.toInt8.toInt32))) := by
  have e1 : ¬ nI k < 0 := by rw [nl_0, nI_ltI (by omega) (by omega)]; omega
  unfold Bc_X0_writes_4
  rw [if_neg e1, if_pos h1, hg.1, Option.bind_some, if_pos hg.2.1, hg.2.2, h, if_pos (xin_nI hm (by omega)), nI_clamp (show m < 2 ^ 31 by omega)]
theorem C_wrE {x : Int32} : Bc_X0_writes_4 g X x (-1) c = some (.inr c) := by
  unfold Bc_X0_writes_4
  rw [if_pos (show (-1 : Int32) < 0 by decide)]
theorem wr0 {x : Nat} (hx : x < 2147483648) : (nI x >>> ((8 * nI 0) &&& 31)) &&& 255 = nI (x % 256) := by
  rw [pk_shrN (by omega) _ 0 (by decide), Nat.pow_zero, Nat.div_one, pk_andN (by omega) 8 (by decide)]
theorem wr1 {x : Nat} (hx : x < 2147483648) : (nI x >>> ((8 * nI 1) &&& 31)) &&& 255 = nI (x / 256 % 256) := by
  rw [pk_shrN (by omega) _ 8 (by decide), pk_andN (by omega) 8 (by decide)]
theorem wr2 {x : Nat} (hx : x < 2147483648) : (nI x >>> ((8 * nI 2) &&& 31)) &&& 255 = nI (x / 65536 % 256) := by
  rw [pk_shrN (by omega) _ 16 (by decide), pk_andN (by omega) 8 (by decide)]
theorem T_writes {x : Int32} (h : tI τ 131 = nI m) (hm : m < 191) : f_t_writes x τ = some (sI (sA τ 130 m x) 131 (nI m + 1)) := by
  unfold f_t_writes
  rw [h, if_pos (xin_nI hm (by omega)), nI_clamp (show m < 2 ^ 31 by omega), tI_sA, h]
theorem I_w1 {x : Nat} (h1 : gT g X = 1) (hg : OG g X) (h : OCn c τ X m) (hm : m < 191) (hx : x < 256) : OK2 (f_c_X0_writes g X (nI x) 1 c) (f_t_writes (nI x) τ) (fun c' τ' => OCn c' τ' X (m + 1) ∧ FO X c c' τ τ') := by
  have b := oct_byte (z := nI x >>> ((8 * nI 0) &&& 31)) (y := x) h (by rw [wr0 (by omega), Nat.mod_eq_of_lt hx])
  unfold f_c_X0_writes
  rw [show (4096 : Nat) = 4094 + 1 + 1 from rfl, itr_inl (a' := (-1, _)) (C_wr (k := 0) h1 hg h.1 hm (by omega)), itr_inr (b := _) C_wrE, Option.bind_some, T_writes h.2.1 hm]
  exact OK2_some b
theorem I_w2 {x : Nat} (h1 : gT g X = 1) (hg : OG g X) (h : OCn c τ X m) (hm : m + 1 < 191) (hx : x < 65536) : OK2 (f_c_X0_writes g X (nI x) 2 c) (f_t_writesTwo (nI x) τ) (fun c' τ' => OCn c' τ' X (m + 2) ∧ FO X c c' τ τ') := by
  have b := oct_byte (z := nI x >>> ((8 * nI 1) &&& 31)) (y := x / 256) h (by rw [wr1 (by omega), Nat.mod_eq_of_lt (by omega)])
  have b2 := oct_byte (z := nI x >>> ((8 * nI 0) &&& 31)) (y := x % 256) b.1 (by rw [wr0 (by omega)])
  unfold f_c_X0_writes f_t_writesTwo
  rw [show (4096 : Nat) = 4093 + 1 + 1 + 1 from rfl, itr_inl (a' := (nI 0, _)) (C_wr (k := 1) h1 hg h.1 (by omega) (by omega)), itr_inl (a' := (-1, _)) (C_wr (k := 0) h1 hg b.1.1 (by omega) (by omega)), itr_inr (b := _) C_wrE, Option.bind_some, nl_256, nI_div (by omega) (by omega) (by omega), T_writes h.2.1 (by omega), Option.bind_some, nI_rem' (by omega), T_writes b.1.2.1 (by omega), Option.bind_some]
  exact OK2_some ⟨b2.1, b.2.trans b2.2⟩
theorem I_w3 {x : Nat} (h1 : gT g X = 1) (hg : OG g X) (h : OCn c τ X m) (hm : m + 2 < 191) (hx : x < 16777216) : OK2 (f_c_X0_writes g X (nI x) 3 c) ((f_t_writes (nI (x / 65536)) τ).bind fun q => f_t_writesTwo (nI (x % 65536)) q) (fun c' τ' => OCn c' τ' X (m + 3) ∧ FO X c c' τ τ') := by
  have b := oct_byte (z := nI x >>> ((8 * nI 2) &&& 31)) (y := x / 65536) h (by rw [wr2 (by omega), Nat.mod_eq_of_lt (by omega)])
  have b2 := oct_byte (z := nI x >>> ((8 * nI 1) &&& 31)) (y := x % 65536 / 256) b.1 (by rw [wr1 (by omega)]; congr 1; omega)
  have b3 := oct_byte (z := nI x >>> ((8 * nI 0) &&& 31)) (y := x % 65536 % 256) b2.1 (by rw [wr0 (by omega)]; congr 1; omega)
  unfold f_c_X0_writes f_t_writesTwo
  rw [show (4096 : Nat) = 4092 + 1 + 1 + 1 + 1 from rfl, itr_inl (a' := (nI 1, _)) (C_wr (k := 2) h1 hg h.1 (by omega) (by omega)), itr_inl (a' := (nI 0, _)) (C_wr (k := 1) h1 hg b.1.1 (by omega) (by omega)), itr_inl (a' := (-1, _)) (C_wr (k := 0) h1 hg b2.1.1 (by omega) (by omega)), itr_inr (b := _) C_wrE, Option.bind_some, T_writes h.2.1 (by omega), Option.bind_some, nl_256, nI_div (by omega) (by omega) (by omega), T_writes b.1.2.1 (by omega), Option.bind_some, nI_rem' (by omega), T_writes b2.1.2.1 (by omega), Option.bind_some]
  exact OK2_some ⟨b3.1, (b.2.trans b2.2).trans b3.2⟩
/-- sums of checks -/
theorem chk_two {A F N : Nat} (hA : gT g A = 103) (hN : N ≤ gN g A) (hF : t_ak F = 0) (hL : N ≤ t_len F) (hN2 : N ≤ 1600) (hgl : gN g A < 2147483648) (hll : t_len F < 2147483648) (h : ∀ i, i < N → cA c A i &&& 255 = tA τ F i) : ∃ k, k < 256 ∧ f_c_X0_check g A (nI N) c = some (nI k, c) ∧ f_t_checked F (nI N) τ = some (nI k, τ) := by
  have key : OK2 (itr (fun s_ : Int32 × Int32 × CC => Bc_X0_check_6 g A (nI N) s_.1 s_.2.1 s_.2.2) 4096 (179, 0, c)) (itr (fun s_ : Int32 × Int32 × TS => Bt_checked_6 F (nI N) s_.1 s_.2.1 s_.2.2) 4096 (179, 0, τ)) (fun o r => ∃ k, k < 256 ∧ o = (nI k, c) ∧ r = (nI k, τ)) := by
    refine itr_two (fun i s t => ∃ k, k < 256 ∧ s = (nI k, nI i, c) ∧ t = (nI k, nI i, τ)) _ 0 N ?_ ?_ (by omega) (by omega) ⟨179, by omega, rfl, rfl⟩
    · rintro i s t - hi ⟨k, hk, rfl, rfl⟩
      have h9 : ¬ nI N ≤ nI i := by rw [nI_leI (by omega) (by omega)]; omega
      obtain ⟨y, hy, ey⟩ := byte_sm (cA c A i)
      have e3 : (3 : Int32) * nI k + nI y - (3 * nI k + nI y) / 251 * 251 = nI ((3 * k + y) % 251) := by
        rw [nl_3, nl_251, pk_mul, nI_add, nI_rem (by omega) (by omega) (by omega)]
      show OK2 (Bc_X0_check_6 g A (nI N) (nI k) (nI i) c) (Bt_checked_6 F (nI N) (nI k) (nI i) τ) _
      unfold Bc_X0_check_6 Bt_checked_6
      rw [if_neg h9, if_neg h9, if_pos hA, if_pos hF, if_pos (xin_nI (show i < gN g A by omega) hgl), if_pos (xin_nI (show i < t_len F by omega) hll), nI_clamp (show i < 2 ^ 31 by omega), ← h i hi, ey, e3, nl_1, nI_add]
      exact OK2_some (Or.inl ⟨_, _, rfl, rfl, _, Nat.lt_trans (Nat.mod_lt _ (by omega)) (by omega), rfl, rfl⟩)
    · rintro s t ⟨k, hk, rfl, rfl⟩
      have h9 : nI N ≤ nI N := by rw [nI_leI (by omega) (by omega)]; omega
      show OK2 (Bc_X0_check_6 g A (nI N) (nI k) (nI N) c) (Bt_checked_6 F (nI N) (nI k) (nI N) τ) _
      unfold Bc_X0_check_6 Bt_checked_6
      rw [if_pos h9, if_pos h9]
      exact OK2_some ⟨_, _, rfl, rfl, k, hk, rfl, rfl⟩
  obtain ⟨o, r, e1, e2, k, hk, rfl, rfl⟩ := key
  refine ⟨k, hk, ?_, ?_⟩
  · unfold f_c_X0_check; rw [e1]; rfl
  · unfold f_t_checked; rw [e2]; rfl
/-- columns are written -/
theorem img_cols (hx : CX g c X V v lo hi) (h109 : gR g 109 X = some (X + 35)) (hg : OG g X) (ht : CT g c X (X + 35) v w) (hT : TV τ v) (hw : tA τ 62 = w) (h : OCn c τ X m) (hm : m + vC v ≤ 191) :
    OK2 (itr (fun s_ : Int32 × CC => Bc_X0_image_31 g X s_.1 s_.2) 4096 (0, c)) (itr (fun s_ : Int32 × TS => Bt_image_45 s_.1 s_.2) 4096 (0, τ)) (fun c' τ' => OCn c' τ' X (m + vC v) ∧ FO X c c' τ τ') := by
  have hb := hx.2.2.2.2.2.1
  have hb1 := hb.1
  have hb2 := hb.2.1
  refine itr_two (fun i s t => ∃ c' τ', s = (nI i, c') ∧ t = (nI i, τ') ∧ OCn c' τ' X (m + i) ∧ FO X c c' τ τ') _ 0 (vC v) ?_ ?_ (by omega) (by omega) ⟨c, τ, rfl, rfl, h, FO.refl⟩
  · rintro i s t - hi ⟨c', τ', rfl, rfl, p1, p2⟩
    have hx' := p2.cx hx
    have ht' := p2.ct ht
    have hT' := p2.tv hT
    have h9 : ¬ nI (vC v) ≤ nI i := by rw [nI_leI (by omega) (by omega)]; omega
    obtain ⟨r, hr, er⟩ := ht.2.2.1.1 i hi
    obtain ⟨c2, τ2, e1, e2, q1, q2⟩ := I_w1 (x := r) hx'.1 hg p1 (by omega) (by omega)
    show OK2 (Bc_X0_image_31 g X (nI i) c') (Bt_image_45 (nI i) τ') _
    unfold Bc_X0_image_31 Bt_image_45
    rw [if_pos hx'.1, C_columns hx'.1 hx'.2.1 hx'.b, xbd_some, if_neg h9, h109, Option.bind_some, if_pos ht'.1.1, ht'.1.2.2.1.1, Option.bind_some, if_pos ht'.1.2.2.1.2.1, ht'.1.2.2.1.2.2, if_pos (xin_nI (show i < 10 by omega) (by omega)), nI_clamp (show i < 2 ^ 31 by omega), ht'.2.1.2.2.1 i (by omega), er, e1, Option.bind_some, T_columnMany, xbd_some, hT'.1.2.1, if_neg h9, T_rowOf (by omega), xbd_some, p2.w62 hw, er, e2, Option.bind_some, nl_1, nI_add]
    exact OK2_some (Or.inl ⟨_, _, rfl, rfl, c2, τ2, rfl, rfl, q1, p2.trans q2⟩)
  · rintro s t ⟨c', τ', rfl, rfl, p1, p2⟩
    have hx' := p2.cx hx
    have hT' := p2.tv hT
    have h9 : nI (vC v) ≤ nI (vC v) := by rw [nI_leI (by omega) (by omega)]; omega
    show OK2 (Bc_X0_image_31 g X (nI (vC v)) c') (Bt_image_45 (nI (vC v)) τ') _
    unfold Bc_X0_image_31 Bt_image_45
    rw [if_pos hx'.1, C_columns hx'.1 hx'.2.1 hx'.b, xbd_some, if_pos h9, T_columnMany, xbd_some, hT'.1.2.1, if_pos h9]
    exact OK2_some ⟨_, _, rfl, rfl, p1, p2⟩
theorem ix_div {i r W : Nat} (hr : r < W) : (r + i * W) / W = i ∧ (r + i * W) % W = r := by
  refine ⟨?_, ?_⟩
  · rw [Nat.add_mul_div_right r i (by omega), Nat.div_eq_of_lt hr, Nat.zero_add]
  · rw [Nat.add_mul_mod_self_right, Nat.mod_eq_of_lt hr]
/-- the cells of one column -/
theorem img_cell {i : Nat} (hx : CX g c X V v lo hi) (h109 : gR g 109 X = some (X + 35)) (hg : OG g X) (ht : CT g c X (X + 35) v w) (hT : TV τ v) (hw : tA τ 62 = w) (hi : i < vC v) : ∀ d r m c' τ', r + d = vW v → m + 2 * d ≤ 191 → OCn c' τ' X m → FO X c c' τ τ' →
    ∃ c2 τ2, (∀ f, itr (fun s_ : Int32 × CC => Bc_X0_image_61 g X s_.1 s_.2) (f + d) (nI (r + i * vW v), c') = itr (fun s_ : Int32 × CC => Bc_X0_image_61 g X s_.1 s_.2) f (nI (vW v + i * vW v), c2)) ∧ (∀ f, itr (fun s_ : Int32 × TS => Bt_image_80 (nI i) s_.1 s_.2) (f + d + 1) (nI r, τ') = some τ2) ∧ OCn c2 τ2 X (m + 2 * d) ∧ FO X c c2 τ τ2 := by
  have hb := hx.2.2.2.2.2.1
  have hb1 := hb.1
  have hb2 := hb.2.1
  intro d
  induction d with
  | zero =>
    intro r m c' τ' hr hm h hf
    have hT' := hf.tv hT
    refine ⟨c', τ', fun f => by rw [show r = vW v by omega]; rfl, fun f => ?_, h, hf⟩
    refine itr_inr ?_
    show Bt_image_80 (nI i) (nI r) τ' = _
    unfold Bt_image_80
    rw [T_rowsMany, xbd_some, hT'.1.2.2.1, if_pos (by rw [nI_leI (by omega) (by omega)]; omega)]
  | succ d ih =>
    intro r m c' τ' hr hm h hf
    have hx' := hf.cx hx
    have ht' := hf.ct ht
    have hT' := hf.tv hT
    have hw' := hf.w62 hw
    have hrW : r < vW v := by omega
    have mono : vC v * vW v ≤ 10 * 8 := Nat.mul_le_mul hb1 hb2
    have hmul : i * vW v + vW v ≤ vC v * vW v := by
      have := Nat.mul_le_mul_right (vW v) (show i + 1 ≤ vC v by omega)
      rw [Nat.succ_mul] at this; exact this
    obtain ⟨a, ha, ea⟩ := ht.2.2.1.2.2.1 (8 * i + r) (by omega)
    obtain ⟨b, hb9, eb⟩ := ht.2.2.1.2.2.2.1 (8 * i + r) (by omega)
    obtain ⟨c1, τ1, e1, e2, q1, q2⟩ := I_w1 (x := a) hx'.1 hg h (by omega) (by omega)
    have hf1 := hf.trans q2
    have hx1 := hf1.cx hx
    have ht1 := hf1.ct ht
    obtain ⟨c2, τ2, e3, e4, q3, q4⟩ := I_w1 (x := b) hx'.1 hg q1 (by omega) (by omega)
    have hf2 := hf1.trans q4
    have dv := ix_div (i := i) hrW
    have w1 := ht'.1.2.2.2.2.2.1
    have w2 := ht'.1.2.2.2.2.2.2.1
    have eq1 : nI (r + i * vW v) / nI (vW v) = nI i := by rw [nI_div (by omega) (by omega) (by omega), dv.1]
    have eq2 : nI (r + i * vW v) - nI i * nI (vW v) = nI r := by rw [← eq1, nI_rem (by omega) (by omega) (by omega), dv.2]
    have hne : ¬ nI (vW v) = 0 := by rw [nl_0, nI_eq (by omega) (by omega)]; omega
    have sC : Bc_X0_image_61 g X (nI (r + i * vW v)) c' = some (.inl (nI (r + 1 + i * vW v), c2)) := by
      unfold Bc_X0_image_61
      rw [if_pos hx'.1, C_places hx', xbd_some, if_neg (by rw [nI_leI (by omega) (by omega)]; omega), h109, Option.bind_some, if_pos ht'.1.1, w1.1, Option.bind_some, hx'.2.1, Option.bind_some, if_pos hx'.b.1, hx'.b.2.2.1, if_pos hne, if_pos w1.2.1, eq1, w1.2.2.1, if_pos (xin_nI (show i < 10 by omega) (by omega)), Option.bind_some, if_pos hx'.b.1, hx'.b.2.2.1, if_pos hne, eq1, eq2, nI_clamp (show i < 2 ^ 31 by omega), (w1.2.2.2 i (by omega)).1, if_pos (w1.2.2.2 i (by omega)).2.1, (w1.2.2.2 i (by omega)).2.2, if_pos (xin_nI (show r < 8 by omega) (by omega)), nI_clamp (show r < 2 ^ 31 by omega), ht'.2.1.2.2.2.1 i r (by omega) (by omega), ea, e1, Option.bind_some, w2.1, Option.bind_some, hx1.2.1, Option.bind_some, if_pos hx1.b.1, hx1.b.2.2.1, if_pos hne, if_pos w2.2.1, eq1, w2.2.2.1, if_pos (xin_nI (show i < 10 by omega) (by omega)), Option.bind_some, if_pos hx1.b.1, hx1.b.2.2.1, if_pos hne, eq1, eq2, nI_clamp (show i < 2 ^ 31 by omega), (w2.2.2.2 i (by omega)).1, if_pos (w2.2.2.2 i (by omega)).2.1, (w2.2.2.2 i (by omega)).2.2, if_pos (xin_nI (show r < 8 by omega) (by omega)), nI_clamp (show r < 2 ^ 31 by omega), ht1.2.1.2.2.2.2.1 i r (by omega) (by omega), eb, e3, Option.bind_some, nl_1, nI_add, show r + i * vW v + 1 = r + 1 + i * vW v by omega]
    have sT : Bt_image_80 (nI i) (nI r) τ' = some (.inl (nI (r + 1), τ2)) := by
      unfold Bt_image_80
      rw [T_rowsMany, xbd_some, hT'.1.2.2.1, if_neg (by rw [nI_leI (by omega) (by omega)]; omega), nl_8, pk_mul, nI_add, T_willowsAt (by omega), xbd_some, hw', ea, e2, Option.bind_some, T_everAt (by omega), xbd_some, hf1.w62 hw, eb, e4, Option.bind_some, nl_1, nI_add]
    obtain ⟨c3, τ3, z1, z2, z3, z4⟩ := ih (r + 1) (m + 1 + 1) c2 τ2 (by omega) (by omega) q3 hf2
    refine ⟨c3, τ3, fun f => ?_, fun f => ?_, by rw [show m + 2 * (d + 1) = m + 1 + 1 + 2 * d by omega]; exact z3, z4⟩
    · rw [show f + (d + 1) = f + d + 1 from rfl, itr_inl (a' := (_, _)) sC]; exact z1 f
    · rw [show f + (d + 1) + 1 = f + d + 1 + 1 from rfl, itr_inl (a' := (_, _)) sT]; exact z2 f
theorem img_cells (hx : CX g c X V v lo hi) (h109 : gR g 109 X = some (X + 35)) (hg : OG g X) (ht : CT g c X (X + 35) v w) (hT : TV τ v) (hw : tA τ 62 = w) : ∀ d i m c' τ', i + d = vC v → m + 2 * (d * vW v) ≤ 191 → OCn c' τ' X m → FO X c c' τ τ' →
    ∃ c2 τ2, (∀ f, itr (fun s_ : Int32 × CC => Bc_X0_image_61 g X s_.1 s_.2) (f + 1 + d * vW v) (nI (i * vW v), c') = some c2) ∧ (∀ f, itr (fun s_ : Int32 × TS => Bt_image_70 s_.1 s_.2) (f + d + 1) (nI i, τ') = some τ2) ∧ OCn c2 τ2 X (m + 2 * (d * vW v)) ∧ FO X c c2 τ τ2 := by
  have hb := hx.2.2.2.2.2.1
  have hb1 := hb.1
  have hb2 := hb.2.1
  intro d
  induction d with
  | zero =>
    intro i m c' τ' hi hm h hf
    have hx' := hf.cx hx
    have hT' := hf.tv hT
    have mono : vC v * vW v ≤ 10 * 8 := Nat.mul_le_mul hb1 hb2
    refine ⟨c', τ', fun f => ?_, fun f => ?_, by rw [Nat.zero_mul, Nat.mul_zero, Nat.add_zero]; exact h, hf⟩
    · rw [Nat.zero_mul, Nat.add_zero]
      refine itr_inr ?_
      show Bc_X0_image_61 g X (nI (i * vW v)) c' = _
      unfold Bc_X0_image_61
      rw [if_pos hx'.1, C_places hx', xbd_some, show i = vC v by omega, if_pos (by rw [nI_leI (by omega) (by omega)]; omega)]
    · refine itr_inr ?_
      show Bt_image_70 (nI i) τ' = _
      unfold Bt_image_70
      rw [T_columnMany, xbd_some, hT'.1.2.1, if_pos (by rw [nI_leI (by omega) (by omega)]; omega)]
  | succ d ih =>
    intro i m c' τ' hi hm h hf
    have hT' := hf.tv hT
    have es : (d + 1) * vW v = d * vW v + vW v := Nat.succ_mul d (vW v)
    rw [es] at hm
    obtain ⟨c1, τ1, z1, z2, z3, z4⟩ := img_cell (i := i) hx h109 hg ht hT hw (by omega) (vW v) 0 m c' τ' (by omega) (by omega) h hf
    obtain ⟨c2, τ2, y1, y2, y3, y4⟩ := ih (i + 1) (m + 2 * vW v) c1 τ1 (by omega) (by omega) z3 z4
    refine ⟨c2, τ2, fun f => ?_, fun f => ?_, by rw [es, show m + 2 * (d * vW v + vW v) = m + 2 * vW v + 2 * (d * vW v) by omega]; exact y3, y4⟩
    · rw [es, ← Nat.add_assoc]
      have := z1 (f + 1 + d * vW v)
      rw [Nat.zero_add] at this
      rw [this, show vW v + i * vW v = (i + 1) * vW v by rw [Nat.succ_mul]; omega]
      exact y1 f
    · have sT : Bt_image_70 (nI i) τ' = some (.inl (nI (i + 1), τ1)) := by
        unfold Bt_image_70
        have z2' := z2 (4095 - vW v)
        rw [show 4095 - vW v + vW v + 1 = 4096 by omega] at z2'
        rw [T_columnMany, xbd_some, hT'.1.2.1, if_neg (by rw [nI_leI (by omega) (by omega)]; omega), show ((0 : Int32), τ') = (nI 0, τ') from rfl, z2', Option.bind_some, nl_1, nI_add]
      rw [show f + (d + 1) + 1 = f + d + 1 + 1 from rfl, itr_inl (a' := (_, _)) sT]; exact y2 f
/-- lords are written -/
theorem img_lords (hx : CX g c X V v lo hi) (h109 : gR g 109 X = some (X + 35)) (hg : OG g X) (ht : CT g c X (X + 35) v w) (hT : TV τ v) (hw : tA τ 62 = w) (h : OCn c τ X m) (hm : m + 3 * vN v ≤ 191) :
    OK2 (itr (fun s_ : Int32 × CC => Bc_X0_image_141 g X s_.1 s_.2) 4096 (0, c)) (itr (fun s_ : Int32 × TS => Bt_image_130 s_.1 s_.2) 4096 (0, τ)) (fun c' τ' => OCn c' τ' X (m + 3 * vN v) ∧ FO X c c' τ τ') := by
  have hb := hx.2.2.2.2.2.1
  have hb1 := hb.2.2.2.1
  refine itr_two (fun i s t => ∃ c' τ', s = (nI i, c') ∧ t = (nI i, τ') ∧ OCn c' τ' X (m + 3 * i) ∧ FO X c c' τ τ') _ 0 (vN v) ?_ ?_ (by omega) (by omega) ⟨c, τ, rfl, rfl, h, FO.refl⟩
  · rintro i s t - hi ⟨c', τ', rfl, rfl, p1, p2⟩
    have hx' := p2.cx hx
    have ht' := p2.ct ht
    have hT' := p2.tv hT
    have h9 : ¬ nI (vN v) ≤ nI i := by rw [nI_leI (by omega) (by omega)]; omega
    obtain ⟨ho, z, hz, ez⟩ := ht.2.2.1.2.2.2.2 i hi
    have s1 := ht'.1.2.2.2.1
    have s2 := ht'.1.2.2.2.2.1
    have both : ∀ y : Nat, y < 2 → OK2 (Jc_X0_image_167 g X (nI i) (nI y) X c') (Jt_image_152 (nI i) (nI y) τ') (fun o p => (∃ s' t', o = .inl s' ∧ p = .inl t' ∧ ∃ c' τ', s' = (nI (i + 1), c') ∧ t' = (nI (i + 1), τ') ∧ OCn c' τ' X (m + 3 * (i + 1)) ∧ FO X c c' τ τ') ∨ ∃ r r', o = .inr r ∧ p = .inr r' ∧ (OCn r r' X (m + 3 * vN v) ∧ FO X c r τ r')) := by
      intro y hy
      obtain ⟨c1, τ1, e1, e2, q1, q2⟩ := I_w1 (x := y) hx'.1 hg p1 (by omega) (by omega)
      have hf1 := p2.trans q2
      have ht1 := hf1.ct ht
      obtain ⟨c2, τ2, e3, e4, q3, q4⟩ := I_w2 (x := z) hx'.1 hg q1 (by omega) (by omega)
      unfold Jc_X0_image_167 Jt_image_152
      rw [if_pos hx'.1, nl_1, show (nI 1 : Int32) = 1 from rfl, e1, Option.bind_some, if_pos hx'.1, h109, Option.bind_some, if_pos ht'.1.1, s1.1, Option.bind_some, if_pos s1.2.1, s1.2.2, if_pos (xin_nI (show i < 5 by omega) (by omega)), nI_clamp (show i < 2 ^ 31 by omega), (ht1.2.1.2.2.2.2.2 i hi).2, ez, e3, Option.bind_some, e2, Option.bind_some, T_purseOf (by omega), xbd_some, hf1.w62 hw, ez, e4, Option.bind_some, nl_1, nI_add]
      exact OK2_some (Or.inl ⟨_, _, rfl, rfl, c2, τ2, rfl, rfl, by rw [show m + 3 * (i + 1) = m + 3 * i + 1 + 2 by omega]; exact q3, hf1.trans q4⟩)
    show OK2 (Bc_X0_image_141 g X (nI i) c') (Bt_image_130 (nI i) τ') _
    unfold Bc_X0_image_141 Bt_image_130
    rw [if_pos hx'.1, C_lords hx'.1 hx'.2.1 hx'.b, xbd_some, if_neg h9, h109, Option.bind_some, if_pos ht'.1.1, s2.1, Option.bind_some, if_pos s2.2.1, s2.2.2, if_pos (xin_nI (show i < 5 by omega) (by omega)), nI_clamp (show i < 2 ^ 31 by omega), (ht'.2.1.2.2.2.2.2 i hi).1, T_lordMany hT', xbd_some, if_neg h9, T_doesOffer (by omega), xbd_some, p2.w62 hw]
    rcases ho with e | e
    · rw [e, if_pos (show nI 0 = 0 from rfl), show decide (nI 0 = nI 1) = false by decide, if_pos (show b32 false = 0 by decide)]
      exact both 0 (by omega)
    · rw [e, if_neg (show ¬ nI 1 = 0 by decide), show decide (nI 1 = nI 1) = true by decide, if_neg (show ¬ b32 true = 0 by decide)]
      exact both 1 (by omega)
  · rintro s t ⟨c', τ', rfl, rfl, p1, p2⟩
    have hx' := p2.cx hx
    have hT' := p2.tv hT
    have h9 : nI (vN v) ≤ nI (vN v) := by rw [nI_leI (by omega) (by omega)]; omega
    show OK2 (Bc_X0_image_141 g X (nI (vN v)) c') (Bt_image_130 (nI (vN v)) τ') _
    unfold Bc_X0_image_141 Bt_image_130
    rw [if_pos hx'.1, C_lords hx'.1 hx'.2.1 hx'.b, xbd_some, if_pos h9, T_lordMany hT', xbd_some, if_pos h9]
    exact OK2_some ⟨_, _, rfl, rfl, p1, p2⟩
theorem I_image (hx : CX g c X V v lo hi) (h109 : gR g 109 X = some (X + 35)) (hg : OG g X) (ht : CT g c X (X + 35) v (tA τ 62)) (hT : TV τ v) (hn : tA τ 62 0 = nI n) (hn2 : n ≤ 999) (hfb : FB (tA τ 62)) : OK2 (f_c_X0_image g X c) (f_t_image τ) (fun o r => o.1 = r.1 ∧ OC o.2 r.2 X ∧ FO X c o.2 τ r.2) := by
  have hb := hx.2.2.2.2.2.1
  have hb1 := hb.1
  have hb2 := hb.2.1
  have hb3 := hb.2.2.2.1
  obtain ⟨fd, hfd, efd⟩ := hfb
  have mono : vC v * vW v ≤ 10 * 8 := Nat.mul_le_mul hb1 hb2
  have f0 : FO X c (uI c 124 X (nI 0)) τ (sI τ 131 (nI 0)) := ⟨EqF.uI, fun a a1 a2 => (Eq1.refl c a).uI a1, (TX.refl _ _ τ).sI (Or.inl rfl)⟩
  have h0 : OCn (uI c 124 X (nI 0)) (sI τ 131 (nI 0)) X 0 := ⟨by rw [cI_uI, if_pos ⟨rfl, rfl⟩], by rw [tI_sI, if_pos rfl], fun i hi => absurd hi (Nat.not_lt_zero i)⟩
  obtain ⟨c1, τ1, a1, b1, p1, f1⟩ := I_w2 (x := n) hx.1 hg h0 (by omega) (by omega)
  have g1 := f0.trans f1
  obtain ⟨c2, τ2, a2, b2, p2, f2⟩ := I_w3 (x := fd) hx.1 hg p1 (by omega) (by omega)
  have g2 := g1.trans f2
  obtain ⟨c3, τ3, a3, b3, p3, f3⟩ := img_cols (g2.cx hx) h109 hg (g2.ct ht) (g2.tv hT) (g2.w62 rfl) p2 (by omega)
  have g3 := g2.trans f3
  obtain ⟨c4, τ4, a4, b4, p4, f4⟩ := img_cells (g3.cx hx) h109 hg (g3.ct ht) (g3.tv hT) (g3.w62 rfl) (vC v) 0 (0 + 2 + 3 + vC v) c3 τ3 (by omega) (by omega) p3 FO.refl
  have a4 := a4 (4095 - vC v * vW v)
  rw [show 4095 - vC v * vW v + 1 + vC v * vW v = 4096 by omega, Nat.zero_mul] at a4
  have b4 := b4 (4095 - vC v)
  rw [show 4095 - vC v + vC v + 1 = 4096 by omega] at b4
  have g4 := g3.trans f4
  obtain ⟨c5, τ5, a5, b5, p5, f5⟩ := img_lords (g4.cx hx) h109 hg (g4.ct ht) (g4.tv hT) (g4.w62 rfl) p4 (by omega)
  have g5 := g4.trans f5
  obtain ⟨k, hk, a6, b6⟩ := chk_two (g := g) (c := c5) (τ := τ5) (A := X + 1670) (F := 130) (N := 0 + 2 + 3 + vC v + 2 * (vC v * vW v) + 3 * vN v) hg.2.1 (by rw [hg.2.2]; omega) (by decide) (by rw [show t_len 130 = 191 by decide]; omega) (by omega) (by rw [hg.2.2]; omega) (by decide) p5.2.2
  obtain ⟨c7, τ7, a7, b7, p7, f7⟩ := I_w1 (x := k) hx.1 hg p5 (by omega) hk
  have g7 := g5.trans f7
  have e62a : tA τ1 62 1 = nI fd := by rw [g1.w62 rfl]; exact efd
  unfold f_c_X0_image f_t_image
  rw [if_pos hx.1, h109, Option.bind_some, if_pos ht.1.1, nl_0, nl_1, nl_2, nl_3]
  rw [show cI (uI c 124 X (nI 0)) 600 (X + 35) = nI n by rw [cI_uI, if_neg (by omega), ht.2.1.1]; exact hn]
  rw [show (nI 2 : Int32) = 2 from rfl, a1, Option.bind_some]
  rw [show cI c1 601 (X + 35) = nI fd by rw [(g1.ct ht).2.1.2.1]; exact efd]
  rw [show (nI 3 : Int32) = 3 from rfl, a2, Option.bind_some, show (nI 0, c2) = ((0 : Int32), c2) from rfl, a3, Option.bind_some, show (nI 0, c3) = ((nI 0 : Int32), c3) from rfl, a4, Option.bind_some, show (nI 0, c4) = ((0 : Int32), c4) from rfl, a5, Option.bind_some, hg.1, Option.bind_some, p5.1, a6, xbd_some, show (nI 1 : Int32) = 1 from rfl, a7, Option.bind_some]
  rw [if_pos (show xin (nI 0) 303 = true by decide), show (nI 0).toNatClampNeg = 0 by decide, show tA (sI τ 131 (nI 0)) 62 0 = nI n from hn, b1, Option.bind_some, if_pos (show xin 1 303 = true by decide), show ((1 : Int32)).toNatClampNeg = 1 by decide, e62a, nl_65536, nI_div (by omega) (by omega) (by omega)]
  have b2' : ∀ (k : TS → Option (Int32 × TS)), ((f_t_writes (nI (fd / 65536)) τ1).bind fun q => (f_t_writesTwo (nI (fd % 65536)) q).bind k) = k τ2 := fun k => by
    cases hq : f_t_writes (nI (fd / 65536)) τ1 with
    | none => rw [hq] at b2; cases b2
    | some q => rw [hq, Option.bind_some] at b2; rw [Option.bind_some, b2, Option.bind_some]
  have ew : ∀ q, f_t_writes (nI (fd / 65536)) τ1 = some q → tA q 62 1 = nI fd := fun q hq => by
    rw [T_writes p1.2.1 (by omega)] at hq
    cases hq
    rw [tA_sI, tA_sA, if_neg (by omega)]; exact e62a
  have b2q : ∃ q, f_t_writes (nI (fd / 65536)) τ1 = some q ∧ f_t_writesTwo (nI (fd % 65536)) q = some τ2 := by
    cases hq : f_t_writes (nI (fd / 65536)) τ1 with
    | none => rw [hq] at b2; cases b2
    | some q => rw [hq, Option.bind_some] at b2; exact ⟨q, rfl, b2⟩
  obtain ⟨q, hq1, hq2⟩ := b2q
  rw [hq1, Option.bind_some, if_pos (show xin 1 303 = true by decide), ew q hq1, nI_rem (by omega) (by omega) (by omega), hq2, Option.bind_some, show (nI 0, τ2) = ((0 : Int32), τ2) from rfl, b3, Option.bind_some, b4, Option.bind_some, show (nI 0, τ4) = ((0 : Int32), τ4) from rfl, b5, Option.bind_some, p5.2.1, b6, xbd_some, b7, Option.bind_some]
  exact OK2_some ⟨p7.1.trans p7.2.1.symm, ⟨_, by omega, p7.1, p7.2.1, p7.2.2⟩, g7⟩
end ZSs
