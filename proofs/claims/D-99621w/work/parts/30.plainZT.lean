/-! PLAIN LAW: on: the component's side -/
set_option maxRecDepth 100000
/-- bytes of the tape -/
def bT (τ : TS) (i : Nat) : Nat := (tA τ 0 i).toNatClampNeg
def rowW (B : Nat → Nat) (w : Nat → Int32) : Nat → Nat → Int32
  | 0 => w
  | k + 1 => upd (rowW B w k) (2 + k) (nI (B (5 + k)))
def cellW (v : VD) (B : Nat → Nat) (w : Nat → Int32) : Nat → Nat → Int32
  | 0 => w
  | k + 1 => upd (upd (cellW v B w k) (12 + cel v k) (nI (B (5 + vC v + 2 * k)))) (92 + cel v k) (nI (B (5 + vC v + 2 * k + 1)))
def lordAt (v : VD) (k : Nat) : Nat := 5 + vC v + 2 * (vC v * vW v) + 3 * k
def lordW (v : VD) (B : Nat → Nat) (w : Nat → Int32) : Nat → Nat → Int32
  | 0 => w
  | k + 1 => upd (upd (lordW v B w k) (172 + 2 * k) (if B (lordAt v k) = 1 then nI 1 else nI 0)) (172 + 2 * k + 1) (nI (256 * B (lordAt v k + 1) + B (lordAt v k + 2)))
def rokS (v : VD) (B : Nat → Nat) (k : Nat) : Bool := decide (B (5 + k) < vW v)
def cokS (v : VD) (B : Nat → Nat) (k : Nat) : Bool := decide (B (5 + vC v + 2 * k) ≤ 9) && decide (B (5 + vC v + 2 * k + 1) ≤ 99)
def lokS (v : VD) (B : Nat → Nat) (k : Nat) : Bool := decide (B (lordAt v k) ≤ 1) && decide (256 * B (lordAt v k + 1) + B (lordAt v k + 2) ≤ 999)
theorem two_nI {a b : Nat} (ha : a < 256) (hb : b < 256) : ((nI a : Int32) <<< ((8 : Int32) &&& 31)) ||| nI b = nI (256 * a + b) := by
  rw [pk_shlN _ 8 (by decide) (by omega)]
  apply Int32.toBitVec_inj.mp
  apply BitVec.eq_of_toNat_eq
  rw [Int32.toBitVec_or, BitVec.toNat_or, pk_tn (by omega), pk_tn (by omega), pk_tn (by omega)]
  rw [show a * 2 ^ 8 = 2 ^ 8 * a by omega, ← Nat.two_pow_add_eq_or_of_lt (by omega : b < 2 ^ 8)]
theorem three_nI {a b : Nat} (ha : a < 256) (hb : b < 65536) : ((nI a : Int32) <<< ((16 : Int32) &&& 31)) ||| nI b = nI (65536 * a + b) := by
  rw [pk_shlN _ 16 (by decide) (by omega)]
  apply Int32.toBitVec_inj.mp
  apply BitVec.eq_of_toNat_eq
  rw [Int32.toBitVec_or, BitVec.toNat_or, pk_tn (by omega), pk_tn (by omega), pk_tn (by omega)]
  rw [show a * 2 ^ 16 = 2 ^ 16 * a by omega, ← Nat.two_pow_add_eq_or_of_lt (by omega : b < 2 ^ 16)]
section ZTs
variable {g : CG} {c c' c'' : CC} {τ τ' τ'' q : TS} {X V s lo hi n m : Nat} {v : VD} {w : Nat → Int32} {B : Nat → Nat}
theorem TB.b (h : TB c τ X) {i : Nat} (hi : i < 1600) : tA τ 0 i = nI (bT τ i) ∧ bT τ i < 256 := by
  obtain ⟨k, hk, e⟩ := h.sm hi
  unfold bT
  rw [e, nI_clamp (by omega)]
  exact ⟨rfl, hk⟩
/-- the component's tape by bytes -/
def CB8 (c : CC) (X : Nat) (B : Nat → Nat) : Prop := ∀ i, i < 1600 → cA c (X + 27) i &&& 255 = nI (B i) ∧ B i < 256
theorem CB8.at8 {k : Nat} (h : CB8 c X B) (h1 : gT g X = 1) (hg : TG g X) (hk : k < 1600) : f_c_X0_byteAt g X (nI k) c = some (nI (B k), c) := by rw [C_byteAt h1 hg hk, (h k hk).1]
theorem CB8.two {k : Nat} (h : CB8 c X B) (h1 : gT g X = 1) (hg : TG g X) (hk : k + 1 < 1600) : f_c_X0_twoAt g X (nI k) c = some (nI (256 * B k + B (k + 1)), c) := by
  unfold f_c_X0_twoAt
  rw [if_pos h1, h.at8 h1 hg (by omega), xbd_some, nl_1, nI_add, h.at8 h1 hg hk, xbd_some, two_nI (h k (by omega)).2 (h (k + 1) hk).2]
theorem CB8.of (h : CB8 c X B) (e : Eq1 c c' (X + 27)) : CB8 c' X B := fun i hi => by rw [e.2.2.2.1]; exact h i hi
/-- only the state that is tried has moved -/
theorem C_riverRows (hx : CX g c X V v lo hi) (h110 : gR g 110 X = some (X + 103)) (hg : TG g X) (hs : StG g (X + 103) X) (hB : CB8 c X B) (h : RS c (X + 103) (vN v) w) :
    OK (itr (fun s_ : Int32 × Int32 × CC => Bc_X0_riverOn_4 g X s_.1 s_.2.1 s_.2.2) 4096 (1, 0, c)) (fun o => o.1 = b32 (allN (rokS v B) (vC v)) ∧ RS o.2 (X + 103) (vN v) (rowW B w (vC v)) ∧ CS1 (X + 103) c o.2 ∧ KS (X + 103) c o.2) := by
  have hb := hx.2.2.2.2.2.1
  have hb1 := hb.1
  have hb2 := hb.2.1
  refine itr_for (fun i s => ∃ c', s = (b32 (allN (rokS v B) i), nI i, c') ∧ RS c' (X + 103) (vN v) (rowW B w i) ∧ CS1 (X + 103) c c' ∧ KS (X + 103) c c') _ 0 (vC v) ?_ ?_ (by omega) (by omega) ⟨c, rfl, h, CS1.refl _ c, KS.refl _ c⟩
  · rintro i s - hi ⟨c', rfl, p1, p2, p3⟩
    have hx' : CX g c' X V v lo _ := hx.of2 ((p2 X (by omega)).2.2.1 100) (fun a a1 a2 => p2 a (by omega))
    have hB' := hB.of (p2 (X + 27) (by omega))
    have h9 : ¬ nI (vC v) ≤ nI i := by rw [nI_leI (by omega) (by omega)]; omega
    have hB2 : CB8 (uA c' (X + 103 + 1) i (nI (B (5 + i)))) X B := hB'.of ((Eq1.refl c' _).uA (by omega))
    have hx2 : CX g (uA c' (X + 103 + 1) i (nI (B (5 + i)))) X V v lo _ := hx'.of2 rfl (fun a a1 a2 => (Eq1.refl c' a).uA (by omega))
    have q1 : RS (uA c' (X + 103 + 1) i (nI (B (5 + i)))) (X + 103) (vN v) (rowW B w (i + 1)) := RS_row p1 (by omega)
    have q2 : CS1 (X + 103) c (uA c' (X + 103 + 1) i (nI (B (5 + i)))) := p2.uA (by omega)
    have q3 : KS (X + 103) c (uA c' (X + 103 + 1) i (nI (B (5 + i)))) := p3.uA (by omega)
    have hsm := (hB (5 + i) (by omega)).2
    show OK (Bc_X0_riverOn_4 g X (b32 (allN (rokS v B) i)) (nI i) c') _
    unfold Bc_X0_riverOn_4 Jc_X0_riverOn_53 Jc_X0_riverOn_54
    rw [if_pos hx'.1, C_columns hx'.1 hx'.2.1 hx'.b, xbd_some, if_neg h9, h110, Option.bind_some, if_pos hs.1, hs.2.2.1.1, Option.bind_some, nl_5, nI_add, hB'.at8 hx'.1 hg (by omega), xbd_some, if_pos hs.2.2.1.2.1, hs.2.2.1.2.2, if_pos (xin_nI (show i < 10 by omega) (by omega)), nI_clamp (show i < 2 ^ 31 by omega), hB2.at8 hx'.1 hg (by omega), xbd_some, hx2.2.1, Option.bind_some, if_pos hx2.b.1, hx2.b.2.2.1, nl_1, nI_add]
    have c1 : allN (rokS v B) (i + 1) = (allN (rokS v B) i && rokS v B i) := rfl
    cases ha : allN (rokS v B) i with
    | false =>
      rw [ha, Bool.false_and] at c1
      rw [if_pos (show b32 false = 0 by decide)]
      exact OK_some (Or.inl ⟨_, rfl, _, by rw [c1]; rfl, q1, q2, q3⟩)
    | true =>
      rw [ha, Bool.true_and] at c1
      rw [if_neg (show ¬ b32 true = 0 by decide)]
      by_cases e : B (5 + i) < vW v
      · rw [if_neg (by rw [nI_leI (by omega) (by omega)]; omega)]
        exact OK_some (Or.inl ⟨_, rfl, _, by rw [c1]; unfold rokS; rw [decide_eq_true e]; rfl, q1, q2, q3⟩)
      · rw [if_pos (by rw [nI_leI (by omega) (by omega)]; omega)]
        exact OK_some (Or.inl ⟨_, rfl, _, by rw [c1]; unfold rokS; rw [decide_eq_false e]; rfl, q1, q2, q3⟩)
  · rintro s ⟨c', rfl, p1, p2, p3⟩
    have hx' : CX g c' X V v lo _ := hx.of2 ((p2 X (by omega)).2.2.1 100) (fun a a1 a2 => p2 a (by omega))
    have h9 : nI (vC v) ≤ nI (vC v) := by rw [nI_leI (by omega) (by omega)]; omega
    show OK (Bc_X0_riverOn_4 g X _ (nI (vC v)) c') _
    unfold Bc_X0_riverOn_4
    rw [if_pos hx'.1, C_columns hx'.1 hx'.2.1 hx'.b, xbd_some, if_pos h9]
    exact OK_some ⟨_, rfl, rfl, p1, p2, p3⟩
theorem C_riverCells {b0 : Bool} (hx : CX g c X V v lo hi) (h110 : gR g 110 X = some (X + 103)) (hg : TG g X) (hs : StG g (X + 103) X) (hB : CB8 c X B) (h : RS c (X + 103) (vN v) w) :
    OK (itr (fun s_ : Int32 × Int32 × CC => Bc_X0_riverOn_63 g X s_.1 s_.2.1 s_.2.2) 4096 (b32 b0, 0, c)) (fun o => o.1 = b32 (b0 && allN (cokS v B) (vC v * vW v)) ∧ RS o.2 (X + 103) (vN v) (cellW v B w (vC v * vW v)) ∧ CS1 (X + 103) c o.2 ∧ KS (X + 103) c o.2) := by
  have hb := hx.2.2.2.2.2.1
  have hb1 := hb.1
  have hb2 := hb.2.1
  have mono : vC v * vW v ≤ 10 * 8 := Nat.mul_le_mul hb1 hb2
  refine itr_for (fun i s => ∃ c', s = (b32 (b0 && allN (cokS v B) i), nI i, c') ∧ RS c' (X + 103) (vN v) (cellW v B w i) ∧ CS1 (X + 103) c c' ∧ KS (X + 103) c c') _ 0 (vC v * vW v) ?_ ?_ (by omega) (by omega) ⟨c, by show (b32 b0, (0 : Int32), c) = (b32 (b0 && true), nI 0, c); rw [Bool.and_true]; rfl, h, CS1.refl _ c, KS.refl _ c⟩
  · rintro i s - hi ⟨c', rfl, p1, p2, p3⟩
    obtain ⟨d1, d2, -, -, d5, -⟩ := cel_b hb hi
    have hx' : CX g c' X V v lo _ := hx.of2 ((p2 X (by omega)).2.2.1 100) (fun a a1 a2 => p2 a (by omega))
    have hB' := hB.of (p2 (X + 27) (by omega))
    have h9 : ¬ nI (vC v * vW v) ≤ nI i := by rw [nI_leI (by omega) (by omega)]; omega
    generalize hq : i / vW v = qq at d1
    generalize hr : i % vW v = rr at d2
    have ecel : cel v i = 8 * qq + rr := by unfold cel; rw [hq, hr]
    have eq1 : nI i / nI (vW v) = nI qq := by rw [nI_div (by omega) (by omega) (by omega), hq]
    have eq2 : nI i - nI qq * nI (vW v) = nI rr := by rw [← eq1, nI_rem (by omega) (by omega) (by omega), hr]
    have hne : ¬ nI (vW v) = 0 := by rw [nl_0, nI_eq (by omega) (by omega)]; omega
    have w1 := hs.2.2.2.2.2.1
    have w2 := hs.2.2.2.2.2.2.1
    have q1 : RS (uA c' (X + 103 + 5 + qq) rr (nI (B (5 + vC v + 2 * i)))) (X + 103) (vN v) (upd (cellW v B w i) (12 + (8 * qq + rr)) (nI (B (5 + vC v + 2 * i)))) := RS_wil p1 (by omega) (by omega)
    have q2 : RS (uA (uA c' (X + 103 + 5 + qq) rr (nI (B (5 + vC v + 2 * i)))) (X + 103 + 16 + qq) rr (nI (B (5 + vC v + 2 * i + 1)))) (X + 103) (vN v) (cellW v B w (i + 1)) := by
      have := RS_ever (k := qq) (r := rr) (x := nI (B (5 + vC v + 2 * i + 1))) q1 (by omega) (by omega)
      show RS _ _ _ (upd (upd (cellW v B w i) (12 + cel v i) _) (92 + cel v i) _)
      rw [ecel, ← Nat.add_assoc 92]; exact this
    have z1 : CS1 (X + 103) c (uA (uA c' (X + 103 + 5 + qq) rr (nI (B (5 + vC v + 2 * i)))) (X + 103 + 16 + qq) rr (nI (B (5 + vC v + 2 * i + 1)))) := (p2.uA (by omega)).uA (by omega)
    have z2 : KS (X + 103) c (uA (uA c' (X + 103 + 5 + qq) rr (nI (B (5 + vC v + 2 * i)))) (X + 103 + 16 + qq) rr (nI (B (5 + vC v + 2 * i + 1)))) := (p3.uA (by omega)).uA (by omega)
    have hx2 : CX g (uA c' (X + 103 + 5 + qq) rr (nI (B (5 + vC v + 2 * i)))) X V v lo _ := hx'.of2 rfl (fun a a1 a2 => (Eq1.refl c' a).uA (by omega))
    have hB2 : CB8 (uA c' (X + 103 + 5 + qq) rr (nI (B (5 + vC v + 2 * i)))) X B := hB'.of ((Eq1.refl c' _).uA (by omega))
    have hB3 : CB8 (uA (uA c' (X + 103 + 5 + qq) rr (nI (B (5 + vC v + 2 * i)))) (X + 103 + 16 + qq) rr (nI (B (5 + vC v + 2 * i + 1)))) X B := hB2.of ((Eq1.refl _ _).uA (by omega))
    have s1 := (hB (5 + vC v + 2 * i) (by omega)).2
    have s2 := (hB (5 + vC v + 2 * i + 1) (by omega)).2
    have e202 : cI (uA c' (X + 103 + 5 + qq) rr (nI (B (5 + vC v + 2 * i)))) 202 V = nI (vW v) := hx2.b.2.2.1
    show OK (Bc_X0_riverOn_63 g X (b32 (b0 && allN (cokS v B) i)) (nI i) c') _
    unfold Bc_X0_riverOn_63 Jc_X0_riverOn_178 Jc_X0_riverOn_179
    rw [if_pos hx'.1, C_places hx', xbd_some, if_neg h9, C_columns hx'.1 hx'.2.1 hx'.b, xbd_some, h110, Option.bind_some, if_pos hs.1, w1.1, Option.bind_some, hx'.2.1, Option.bind_some, if_pos hx'.b.1, hx'.b.2.2.1, if_pos hne, if_pos w1.2.1, eq1, w1.2.2.1, if_pos (xin_nI (show qq < 10 by omega) (by omega)), Option.bind_some, if_pos hx'.b.1, hx'.b.2.2.1, if_pos hne, eq1, eq2, nl_5, nl_2, nl_1, pk_mul, nI_add, nI_add, nI_add, nI_add, hB'.at8 hx'.1 hg (by omega), xbd_some, nI_clamp (show qq < 2 ^ 31 by omega), nI_clamp (show rr < 2 ^ 31 by omega), (w1.2.2.2 qq (by omega)).1, if_pos (w1.2.2.2 qq (by omega)).2.1, (w1.2.2.2 qq (by omega)).2.2, if_pos (xin_nI (show rr < 8 by omega) (by omega)), w2.1, Option.bind_some, hx2.2.1, Option.bind_some, if_pos hx2.b.1, e202, if_pos hne, if_pos w2.2.1, eq1, w2.2.2.1, if_pos (xin_nI (show qq < 10 by omega) (by omega)), Option.bind_some, if_pos hx2.b.1, e202, if_pos hne, eq1, eq2, hB2.at8 hx'.1 hg (by omega), xbd_some, nI_clamp (show qq < 2 ^ 31 by omega), nI_clamp (show rr < 2 ^ 31 by omega), (w2.2.2.2 qq (by omega)).1, if_pos (w2.2.2.2 qq (by omega)).2.1, (w2.2.2.2 qq (by omega)).2.2, if_pos (xin_nI (show rr < 8 by omega) (by omega)), hB3.at8 hx'.1 hg (by omega), xbd_some, hB3.at8 hx'.1 hg (by omega), xbd_some, nl_9, nl_99]
    have c1 : (b0 && allN (cokS v B) (i + 1)) = ((b0 && allN (cokS v B) i) && cokS v B i) := by show (b0 && (allN (cokS v B) i && cokS v B i)) = _; rw [Bool.and_assoc]
    cases ha : (b0 && allN (cokS v B) i) with
    | false =>
      rw [ha, Bool.false_and] at c1
      rw [if_pos (show b32 false = 0 by decide)]
      exact OK_some (Or.inl ⟨_, rfl, _, by rw [c1]; rfl, q2, z1, z2⟩)
    | true =>
      rw [ha, Bool.true_and] at c1
      rw [if_neg (show ¬ b32 true = 0 by decide)]
      by_cases e : B (5 + vC v + 2 * i) ≤ 9
      · rw [if_neg (by rw [nI_ltI (by omega) (by omega)]; omega)]
        by_cases e2 : B (5 + vC v + 2 * i + 1) ≤ 99
        · rw [if_neg (by rw [nI_ltI (by omega) (by omega)]; omega)]
          exact OK_some (Or.inl ⟨_, rfl, _, by rw [c1]; unfold cokS; rw [decide_eq_true e, decide_eq_true e2]; rfl, q2, z1, z2⟩)
        · rw [if_pos (by rw [nI_ltI (by omega) (by omega)]; omega)]
          exact OK_some (Or.inl ⟨_, rfl, _, by rw [c1]; unfold cokS; rw [decide_eq_false e2, Bool.and_false]; rfl, q2, z1, z2⟩)
      · rw [if_pos (by rw [nI_ltI (by omega) (by omega)]; omega)]
        exact OK_some (Or.inl ⟨_, rfl, _, by rw [c1]; unfold cokS; rw [decide_eq_false e, Bool.false_and]; rfl, q2, z1, z2⟩)
  · rintro s ⟨c', rfl, p1, p2, p3⟩
    have hx' : CX g c' X V v lo _ := hx.of2 ((p2 X (by omega)).2.2.1 100) (fun a a1 a2 => p2 a (by omega))
    have h9 : nI (vC v * vW v) ≤ nI (vC v * vW v) := by rw [nI_leI (by omega) (by omega)]; omega
    show OK (Bc_X0_riverOn_63 g X _ (nI (vC v * vW v)) c') _
    unfold Bc_X0_riverOn_63
    rw [if_pos hx'.1, C_places hx', xbd_some, if_pos h9]
    exact OK_some ⟨_, rfl, rfl, p1, p2, p3⟩
theorem C_riverOn (hx : CX g c X V v lo hi) (h110 : gR g 110 X = some (X + 103)) (hg : TG g X) (hs : StG g (X + 103) X) (hB : CB8 c X B) (h : RS c (X + 103) (vN v) w) :
    OK (f_c_X0_riverOn g X c) (fun o => o.1 = b32 (allN (rokS v B) (vC v) && allN (cokS v B) (vC v * vW v)) ∧ RS o.2 (X + 103) (vN v) (cellW v B (rowW B w (vC v)) (vC v * vW v)) ∧ CS1 (X + 103) c o.2 ∧ KS (X + 103) c o.2) := by
  obtain ⟨⟨b1, c1⟩, e1, p1, p2, p3, p4⟩ := C_riverRows hx h110 hg hs hB h
  have hx' : CX g c1 X V v lo _ := hx.of2 ((p3 X (by omega)).2.2.1 100) (fun a a1 a2 => p3 a (by omega))
  have p1 : b1 = b32 (allN (rokS v B) (vC v)) := p1
  subst p1
  obtain ⟨⟨b2, c2⟩, e2, q1, q2, q3, q4⟩ := C_riverCells (b0 := allN (rokS v B) (vC v)) hx' h110 hg hs (hB.of (p3 _ (by omega))) p2
  have q1 : b2 = b32 (allN (rokS v B) (vC v) && allN (cokS v B) (vC v * vW v)) := q1
  subst q1
  unfold f_c_X0_riverOn
  rw [e1, Option.bind_some, e2, Option.bind_some, nl_1, b32_and]
  exact OK_some ⟨rfl, q2, p3.trans q3, p4.trans q4⟩
theorem C_lordsOn (hx : CX g c X V v lo hi) (h110 : gR g 110 X = some (X + 103)) (hg : TG g X) (hs : StG g (X + 103) X) (hB : CB8 c X B) (h : RS c (X + 103) (vN v) w) :
    OK (f_c_X0_lordsOn g X c) (fun o => o.1 = b32 (allN (lokS v B) (vN v)) ∧ RS o.2 (X + 103) (vN v) (lordW v B w (vN v)) ∧ CS1 (X + 103) c o.2 ∧ KS (X + 103) c o.2) := by
  have hb := hx.2.2.2.2.2.1
  have hb1 := hb.1
  have hb2 := hb.2.1
  have hb3 := hb.2.2.2.1
  have mono : vC v * vW v ≤ 10 * 8 := Nat.mul_le_mul hb1 hb2
  have key : OK (itr (fun s_ : Int32 × Int32 × CC => Bc_X0_lordsOn_4 g X s_.1 s_.2.1 s_.2.2) 4096 (1, 0, c)) (fun o => o.1 = b32 (allN (lokS v B) (vN v)) ∧ RS o.2 (X + 103) (vN v) (lordW v B w (vN v)) ∧ CS1 (X + 103) c o.2 ∧ KS (X + 103) c o.2) := by
    refine itr_for (fun i s => ∃ c', s = (b32 (allN (lokS v B) i), nI i, c') ∧ RS c' (X + 103) (vN v) (lordW v B w i) ∧ CS1 (X + 103) c c' ∧ KS (X + 103) c c') _ 0 (vN v) ?_ ?_ (by omega) (by omega) ⟨c, rfl, h, CS1.refl _ c, KS.refl _ c⟩
    · rintro i s - hi ⟨c', rfl, p1, p2, p3⟩
      have hx' : CX g c' X V v lo _ := hx.of2 ((p2 X (by omega)).2.2.1 100) (fun a a1 a2 => p2 a (by omega))
      have hB' := hB.of (p2 (X + 27) (by omega))
      have h9 : ¬ nI (vN v) ≤ nI i := by rw [nI_leI (by omega) (by omega)]; omega
      have eat : ((nI 5 + nI (vC v)) + (nI 2 * nI (vC v * vW v))) + (nI 3 * nI i) = nI (lordAt v i) := by rw [nI_add, pk_mul, nI_add, pk_mul, nI_add]; rfl
      have lat : lordAt v i ≤ 200 := by unfold lordAt; omega
      generalize hA : lordAt v i = A at lat eat
      have s0 := (hB A (by omega)).2
      have s1 := (hB (A + 1) (by omega)).2
      have s2 := (hB (A + 2) (by omega)).2
      have o1 := hs.2.2.2.2.1
      have o2 := hs.2.2.2.1
      have c1 : allN (lokS v B) (i + 1) = (allN (lokS v B) i && (decide (B A ≤ 1) && decide (256 * B (A + 1) + B (A + 2) ≤ 999))) := by
        show (allN (lokS v B) i && lokS v B i) = _
        unfold lokS; rw [hA]
      have j52 : ∀ y : Nat, y < 2 → (y = 1 ↔ B A = 1) → OK (Jc_X0_lordsOn_52 g X (b32 (allN (lokS v B) i)) (nI i) (nI A) (nI y) (nI i) (X + 103 + 3) c') (fun o => (∃ s', o = .inl s' ∧ ∃ c', s' = (b32 (allN (lokS v B) (i + 1)), nI (i + 1), c') ∧ RS c' (X + 103) (vN v) (lordW v B w (i + 1)) ∧ CS1 (X + 103) c c' ∧ KS (X + 103) c c') ∨ ∃ r, o = .inr r ∧ (r.1 = b32 (allN (lokS v B) (vN v)) ∧ RS r.2 (X + 103) (vN v) (lordW v B w (vN v)) ∧ CS1 (X + 103) c r.2 ∧ KS (X + 103) c r.2)) := by
        intro y hy hyA
        have ey : nI y &&& nI 1 = nI y := by rcases (show y = 0 ∨ y = 1 by omega) with rfl | rfl <;> decide
        have q1 : RS (uA c' (X + 103 + 3) i (nI y)) (X + 103) (vN v) (upd (lordW v B w i) (172 + 2 * i) (nI y)) := RS_off p1 hb3 (by omega)
        have q2 : RS (uA (uA c' (X + 103 + 3) i (nI y)) (X + 103 + 2) i (nI (256 * B (A + 1) + B (A + 2)))) (X + 103) (vN v) (lordW v B w (i + 1)) := by
          have := RS_purse (k := i) (x := nI (256 * B (A + 1) + B (A + 2))) q1 hb3 (by omega)
          show RS _ _ _ (upd (upd (lordW v B w i) (172 + 2 * i) (if B (lordAt v i) = 1 then nI 1 else nI 0)) (172 + 2 * i + 1) (nI (256 * B (lordAt v i + 1) + B (lordAt v i + 2))))
          rw [hA, show (if B A = 1 then nI 1 else nI 0) = nI y by
            rcases (show y = 0 ∨ y = 1 by omega) with rfl | rfl
            · rw [if_neg (fun z => by have := hyA.mpr z; omega)]
            · rw [if_pos (hyA.mp rfl)]]
          exact this
        have z1 : CS1 (X + 103) c (uA (uA c' (X + 103 + 3) i (nI y)) (X + 103 + 2) i (nI (256 * B (A + 1) + B (A + 2)))) := (p2.uA (by omega)).uA (by omega)
        have z2 : KS (X + 103) c (uA (uA c' (X + 103 + 3) i (nI y)) (X + 103 + 2) i (nI (256 * B (A + 1) + B (A + 2)))) := (p3.uA (by omega)).uA (by omega)
        have hB2 : CB8 (uA c' (X + 103 + 3) i (nI y)) X B := hB'.of ((Eq1.refl c' _).uA (by omega))
        have hB3 : CB8 (uA (uA c' (X + 103 + 3) i (nI y)) (X + 103 + 2) i (nI (256 * B (A + 1) + B (A + 2)))) X B := hB2.of ((Eq1.refl _ _).uA (by omega))
        have ec : cA (uA (uA c' (X + 103 + 3) i (nI y)) (X + 103 + 2) i (nI (256 * B (A + 1) + B (A + 2)))) (X + 103 + 2) i = nI (256 * B (A + 1) + B (A + 2)) := by rw [cA_uA, if_pos ⟨rfl, rfl⟩]
        unfold Jc_X0_lordsOn_52 Jc_X0_lordsOn_101 Jc_X0_lordsOn_102
        rw [if_pos o1.2.1, o1.2.2, if_pos (xin_nI (show i < 5 by omega) (by omega)), if_pos hx'.1, h110, Option.bind_some, if_pos hs.1, o2.1, Option.bind_some, nI_clamp (show i < 2 ^ 31 by omega), nl_1, ey, nI_add, nI_add, hB2.two hx'.1 hg (by omega), xbd_some, show A + 1 + 1 = A + 2 from rfl, if_pos o2.2.1, o2.2.2, if_pos (xin_nI (show i < 5 by omega) (by omega)), hB3.at8 hx'.1 hg (by omega), xbd_some, if_pos (xin_nI (show i < 5 by omega) (by omega)), ec, nl_999]
        cases ha : allN (lokS v B) i with
        | false =>
          rw [ha, Bool.false_and] at c1
          rw [if_pos (show b32 false = 0 by decide)]
          exact OK_some (Or.inl ⟨_, rfl, _, by rw [c1]; rfl, q2, z1, z2⟩)
        | true =>
          rw [ha, Bool.true_and] at c1
          rw [if_neg (show ¬ b32 true = 0 by decide)]
          by_cases e : B A ≤ 1
          · rw [if_neg (by rw [nI_ltI (by omega) (by omega)]; omega)]
            by_cases e2 : 256 * B (A + 1) + B (A + 2) ≤ 999
            · rw [if_neg (by rw [nI_ltI (by omega) (by omega)]; omega)]
              exact OK_some (Or.inl ⟨_, rfl, _, by rw [c1, decide_eq_true e, decide_eq_true e2]; rfl, q2, z1, z2⟩)
            · rw [if_pos (by rw [nI_ltI (by omega) (by omega)]; omega)]
              exact OK_some (Or.inl ⟨_, rfl, _, by rw [c1, decide_eq_false e2, Bool.and_false]; rfl, q2, z1, z2⟩)
          · rw [if_pos (by rw [nI_ltI (by omega) (by omega)]; omega)]
            exact OK_some (Or.inl ⟨_, rfl, _, by rw [c1, decide_eq_false e, Bool.false_and]; rfl, q2, z1, z2⟩)
      show OK (Bc_X0_lordsOn_4 g X (b32 (allN (lokS v B) i)) (nI i) c') _
      unfold Bc_X0_lordsOn_4
      rw [if_pos hx'.1, C_lords hx'.1 hx'.2.1 hx'.b, xbd_some, if_neg h9, C_columns hx'.1 hx'.2.1 hx'.b, xbd_some, C_places hx', xbd_some, h110, Option.bind_some, if_pos hs.1, o1.1, Option.bind_some, nl_5, nl_2, nl_3, eat, hB'.at8 hx'.1 hg (by omega), xbd_some]
      by_cases e : B A = 1
      · rw [if_pos (by rw [e]; rfl)]; exact j52 1 (by omega) ⟨fun _ => e, fun _ => rfl⟩
      · rw [if_neg (by rw [nl_1, nI_eq (by omega) (by omega)]; exact e)]; exact j52 0 (by omega) ⟨fun z => by omega, fun z => absurd z e⟩
    · rintro s ⟨c', rfl, p1, p2, p3⟩
      have hx' : CX g c' X V v lo _ := hx.of2 ((p2 X (by omega)).2.2.1 100) (fun a a1 a2 => p2 a (by omega))
      have h9 : nI (vN v) ≤ nI (vN v) := by rw [nI_leI (by omega) (by omega)]; omega
      show OK (Bc_X0_lordsOn_4 g X _ (nI (vN v)) c') _
      unfold Bc_X0_lordsOn_4
      rw [if_pos hx'.1, C_lords hx'.1 hx'.2.1 hx'.b, xbd_some, if_pos h9]
      exact OK_some ⟨_, rfl, rfl, p1, p2, p3⟩
  obtain ⟨⟨b1, c1⟩, e1, p1, p2⟩ := key
  have p1 : b1 = b32 (allN (lokS v B) (vN v)) := p1
  subst p1
  unfold f_c_X0_lordsOn
  rw [e1, Option.bind_some, nl_1, b32_and]
  exact OK_some ⟨rfl, p2⟩
end ZTs
