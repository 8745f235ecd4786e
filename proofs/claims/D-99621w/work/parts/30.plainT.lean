/-! PLAIN LAW: rest of both: what the lords have by each set -/
set_option maxRecDepth 100000
def bitS (S l : Nat) : Int32 := (nI S >>> (nI l &&& 31)) &&& 1
theorem bit01 : ∀ S, S < 32 → ∀ l, l < 5 → bitS S l = nI 0 ∨ bitS S l = nI 1 := by decide
theorem shl_nI {n : Nat} (h : n ≤ 5) : (1 : Int32) <<< (nI n &&& 31) = nI (2 ^ n) := by
  rcases (show n = 0 ∨ n = 1 ∨ n = 2 ∨ n = 3 ∨ n = 4 ∨ n = 5 by omega) with rfl | rfl | rfl | rfl | rfl | rfl <;> decide
theorem pow_b {n : Nat} (h : n ≤ 5) : 2 ^ n ≤ 32 ∧ 1 ≤ 2 ^ n := by
  rcases (show n = 0 ∨ n = 1 ∨ n = 2 ∨ n = 3 ∨ n = 4 ∨ n = 5 by omega) with rfl | rfl | rfl | rfl | rfl | rfl <;> decide
def HG (g : CG) (X : Nat) : Prop := gR g 112 X = some (X + 172) ∧ gT g (X + 172) = 105 ∧ gN g (X + 172) = 32 ∧ ∀ i, i < 32 → gA g (X + 172) i = X + 173 + i ∧ gT g (X + 173 + i) = 100 ∧ gN g (X + 173 + i) = 5
/-- the offers by a set of lords -/
def offW (w : Nat → Int32) (S : Nat) : Nat → Nat → Int32
  | 0 => w
  | k + 1 => upd (offW w S k) (172 + 2 * k) (bitS S k)
theorem offW_out {w : Nat → Int32} {S j : Nat} (hj : j < 172 ∨ 182 ≤ j) : ∀ k, k ≤ 5 → offW w S k j = w j
  | 0, _ => rfl
  | k + 1, h => by
    show upd (offW w S k) (172 + 2 * k) (bitS S k) j = w j
    rw [pk_un (by omega)]; exact offW_out hj k (by omega)
section TTs
variable {g : CG} {c : CC} {τ q : TS} {X V s lo hi : Nat} {v : VD} {w : Nat → Int32}
theorem RS_off {c' : CC} {nl k : Nat} {x : Int32} (h : RS c' s nl w) (hnl : nl ≤ 5) (hk : k < 5) : RS (uA c' (s + 3) k x) s nl (upd w (172 + 2 * k) x) := by
  obtain ⟨h1, h2, h3, h4, h5, h6⟩ := h
  refine ⟨by rw [cI_uA, pk_un (by omega)]; exact h1, by rw [cI_uA, pk_un (by omega)]; exact h2, fun i hi => ?_, fun i r hi hr => ?_, fun i r hi hr => ?_, fun j hj => ⟨?_, ?_⟩⟩
  · rw [cA_uA, if_neg (by omega), pk_un (by omega)]; exact h3 i hi
  · rw [cA_uA, if_neg (by omega), pk_un (by omega)]; exact h4 i r hi hr
  · rw [cA_uA, if_neg (by omega), pk_un (by omega)]; exact h5 i r hi hr
  · rw [cA_uA]
    by_cases e : j = k
    · subst e; rw [if_pos ⟨rfl, rfl⟩, pk_us]
    · rw [if_neg (by omega), pk_un (by omega)]; exact (h6 j hj).1
  · rw [cA_uA, if_neg (by omega), pk_un (by omega)]; exact (h6 j hj).2
theorem WB_off {k S : Nat} (hb : VB v) (hS : S < 32) (hk : k < 5) (h : WB v w) : WB v (upd w (172 + 2 * k) (bitS S k)) := by
  have hb1 := hb.1
  obtain ⟨b1, b2, b3, b4, b5⟩ := h
  refine ⟨fun i hi => by rw [pk_un (by omega)]; exact b1 i hi, by rw [pk_un (by omega)]; exact b2, fun i hi => by rw [pk_un (by omega)]; exact b3 i hi, fun i hi => by rw [pk_un (by omega)]; exact b4 i hi, fun i hi => ⟨?_, by rw [pk_un (by omega)]; exact (b5 i hi).2⟩⟩
  by_cases e : i = k
  · subst e; rw [pk_us]; exact bit01 S hS i hk
  · rw [pk_un (by omega)]; exact (b5 i hi).1
theorem C_has {S l : Nat} (hS : S < 32) (hl : l < 5) : f_c_X0_has g (nI S) (nI l) c = some (bitS S l, c) := by
  unfold f_c_X0_has
  show (if bitS S l = 1 then some ((1 : Int32), c) else some (0, c)) = _
  rcases bit01 S hS l hl with e | e <;> rw [e] <;> rfl
theorem C_offs {S : Nat} {x1 : Int32} (hx : CX g c X V v lo hi) (h110 : gR g 110 X = some (X + 103)) (ht : CT g c X (X + 103) v w) (hS : S < 32) :
    OK (itr (fun s_ : Int32 × CC => Bc_X0_rest_39 g X x1 (nI S) s_.1 s_.2) 4096 (0, c)) (fun c' => CT g c' X (X + 103) v (offW w S (vN v)) ∧ CF X (X + 103) c c' ∧ KS (X + 103) c c' ∧ ∀ j, cA c' (X + 103 + 67) j = cA c (X + 103 + 67) j) := by
  have hb := hx.2.2.2.2.2.1
  have hn := hb.2.2.2.1
  refine itr_for (fun k p => ∃ c', p = (nI k, c') ∧ CT g c' X (X + 103) v (offW w S k) ∧ CF X (X + 103) c c' ∧ KS (X + 103) c c' ∧ ∀ j, cA c' (X + 103 + 67) j = cA c (X + 103 + 67) j) _ 0 (vN v) ?_ ?_ (by omega) (by omega) ⟨c, rfl, ht, CF.refl _ _ c, KS.refl _ c, fun _ => rfl⟩
  · rintro k p - hk ⟨c', rfl, p1, p2, p3, p4⟩
    have hx' := hx.cf (by omega) p2
    show OK (Bc_X0_rest_39 g X x1 (nI S) (nI k) c') _
    unfold Bc_X0_rest_39
    have h9 : ¬ nI (vN v) ≤ nI k := by rw [nI_leI (by omega) (by omega)]; omega
    have hb1 : bitS S k &&& nI 1 = bitS S k := by rcases bit01 S hS k (by omega) with e | e <;> rw [e] <;> decide
    simp only [hx'.1, C_lords hx'.1 hx'.2.1 hx'.b, xbd_some, h9, reduceIte, h110, Option.bind_some, p1.1.1, p1.1.2.2.2.2.1, C_has hS (show k < 5 by omega), hb1, xin_nI (show k < 5 by omega) (show 5 < 2147483648 by omega), nI_clamp (show k < 2 ^ 31 by omega), nl_1, nI_add]
    refine ⟨_, rfl, Or.inl ⟨_, rfl, _, rfl, ⟨p1.1, RS_off (k := k) (x := bitS S k) p1.2.1 hn (by omega), WB_off (k := k) hb hS (by omega) p1.2.2.1, p1.2.2.2⟩, p2.uA (by omega), p3.uA (by omega), fun j => ?_⟩⟩
    rw [cA_uA, if_neg (by omega)]; exact p4 j
  · rintro p ⟨c', rfl, p1, p2, p3, p4⟩
    have hx' := hx.cf (by omega) p2
    show OK (Bc_X0_rest_39 g X x1 (nI S) (nI (vN v)) c') _
    unfold Bc_X0_rest_39
    have h9 : nI (vN v) ≤ nI (vN v) := by rw [nI_leI (by omega) (by omega)]; omega
    simp only [hx'.1, C_lords hx'.1 hx'.2.1 hx'.b, xbd_some, h9, reduceIte]
    exact ⟨_, rfl, _, rfl, p1, p2, p3, p4⟩
theorem T_offs {S : Nat} {x1 : Int32} (hT : TV q v) (hb : VB v) :
    OK (itr (fun s_ : Int32 × TS => Bt_laysHavings_18 x1 (nI S) s_.1 s_.2) 4096 (0, q)) (fun q' => tA q' 62 = offW (tA q 62) S (vN v) ∧ (∀ l, l < vN v → tA q' 72 l = nI 0) ∧ TX no in72 q q') := by
  have hn := hb.2.2.2.1
  refine itr_for (fun k p => ∃ q', p = (nI k, q') ∧ tA q' 62 = offW (tA q 62) S k ∧ (∀ l, l < k → tA q' 72 l = nI 0) ∧ TX no in72 q q') _ 0 (vN v) ?_ ?_ (by omega) (by omega) ⟨q, rfl, rfl, fun l hl => absurd hl (Nat.not_lt_zero _), TX.refl _ _ q⟩
  · rintro k p - hk ⟨q', rfl, p1, p2, p3⟩
    have hT' : TV q' v := hT.tx p3 ⟨rfl, rfl⟩ ⟨rfl, rfl, rfl, rfl, rfl, rfl⟩
    show OK (Bt_laysHavings_18 x1 (nI S) (nI k) q') _
    unfold Bt_laysHavings_18
    have h9 : ¬ nI (vN v) ≤ nI k := by rw [nI_leI (by omega) (by omega)]; omega
    rw [T_lordMany hT', xbd_some, if_neg h9]
    have e1 : (172 : Int32) + 2 * nI k = nI (172 + 2 * k) := by rw [nl_172, nl_2, pk_mul, nI_add]
    rw [e1, if_pos (xin_nI (show 172 + 2 * k < 303 by omega) (by omega)), if_pos (xin_nI (show k < 5 by omega) (by omega)), nI_clamp (show 172 + 2 * k < 2 ^ 31 by omega), nI_clamp (show k < 2 ^ 31 by omega), nl_1, nI_add]
    refine ⟨_, rfl, Or.inl ⟨_, rfl, _, rfl, ?_, fun l hl => ?_, (p3.sA rfl).sA rfl⟩⟩
    · rw [tA_updn (by omega), tA_upd, p1]; rfl
    · rw [tA_sA]
      by_cases e : l = k
      · subst e; rw [if_pos ⟨rfl, rfl⟩]; rfl
      · rw [if_neg (fun h => e h.2), tA_sA, if_neg (by omega)]; exact p2 l (by omega)
  · rintro p ⟨q', rfl, p1, p2, p3⟩
    have hT' : TV q' v := hT.tx p3 ⟨rfl, rfl⟩ ⟨rfl, rfl, rfl, rfl, rfl, rfl⟩
    show OK (Bt_laysHavings_18 x1 (nI S) (nI (vN v)) q') _
    unfold Bt_laysHavings_18
    have h9 : nI (vN v) ≤ nI (vN v) := by rw [nI_leI (by omega) (by omega)]; omega
    rw [T_lordMany hT', xbd_some, if_pos h9]
    exact ⟨_, rfl, _, rfl, p1, p2, p3⟩
theorem C_havs {S : Nat} {x1 : Int32} (hx : CX g c X V v lo hi) (h110 : gR g 110 X = some (X + 103)) (hg : HG g X) (ht : StG g (X + 103) X) (hS : S < 32) :
    OK (itr (fun s_ : Int32 × CC => Bc_X0_rest_78 g X x1 (nI S) s_.1 s_.2) 4096 (0, c)) (fun c' => (∀ l, l < vN v → cA c' (X + 173 + S) l = cA c (X + 103 + 67) l) ∧ ∀ a, a ≠ X + 173 + S → Eq1 c c' a) := by
  have hb := hx.2.2.2.2.2.1
  have hn := hb.2.2.2.1
  obtain ⟨g1, g2, g3, g4⟩ := hg
  refine itr_for (fun k p => ∃ c', p = (nI k, c') ∧ (∀ l, l < k → cA c' (X + 173 + S) l = cA c (X + 103 + 67) l) ∧ ∀ a, a ≠ X + 173 + S → Eq1 c c' a) _ 0 (vN v) ?_ ?_ (by omega) (by omega) ⟨c, rfl, fun l hl => absurd hl (Nat.not_lt_zero _), fun a _ => Eq1.refl c a⟩
  · rintro k p - hk ⟨c', rfl, p1, p2⟩
    have hx' : CX g c' X V v lo hi := hx.cz (fun a ha => p2 a (by omega))
    show OK (Bc_X0_rest_78 g X x1 (nI S) (nI k) c') _
    unfold Bc_X0_rest_78
    have h9 : ¬ nI (vN v) ≤ nI k := by rw [nI_leI (by omega) (by omega)]; omega
    simp only [hx'.1, C_lords hx'.1 hx'.2.1 hx'.b, xbd_some, h9, reduceIte, g1, g2, g3, h110, Option.bind_some, ht.1, ht.2.2.2.2.2.2.2.2, xin_nI hS (show 32 < 2147483648 by omega), nI_clamp (show S < 2 ^ 31 by omega), (g4 S hS).1, (g4 S hS).2.1, (g4 S hS).2.2, xin_nI (show k < 5 by omega) (show 5 < 2147483648 by omega), nI_clamp (show k < 2 ^ 31 by omega), nl_1, nI_add]
    refine ⟨_, rfl, Or.inl ⟨_, rfl, _, rfl, fun l hl => ?_, fun a ha => (p2 a ha).uA ha⟩⟩
    rw [cA_uA, (p2 (X + 103 + 67) (by omega)).2.2.2.1]
    by_cases e : l = k
    · subst e; rw [if_pos ⟨rfl, rfl⟩]
    · rw [if_neg (fun h => e h.2)]; exact p1 l (by omega)
  · rintro p ⟨c', rfl, p1, p2⟩
    have hx' : CX g c' X V v lo hi := hx.cz (fun a ha => p2 a (by omega))
    show OK (Bc_X0_rest_78 g X x1 (nI S) (nI (vN v)) c') _
    unfold Bc_X0_rest_78
    have h9 : nI (vN v) ≤ nI (vN v) := by rw [nI_leI (by omega) (by omega)]; omega
    simp only [hx'.1, C_lords hx'.1 hx'.2.1 hx'.b, xbd_some, h9, reduceIte]
    exact ⟨_, rfl, _, rfl, p1, p2⟩
def in75 (k : Nat) : Bool := k == 75
theorem T_havs {S : Nat} {x1 : Int32} (hT : TV q v) (hb : VB v) (hS : S < 32) :
    OK (itr (fun s_ : Int32 × TS => Bt_laysHavings_63 x1 (nI S) s_.1 s_.2) 4096 (0, q)) (fun q' => (∀ l, l < vN v → tA q' 75 (5 * S + l) = tA q 72 l) ∧ (∀ i, ¬ (5 * S ≤ i ∧ i < 5 * S + vN v) → tA q' 75 i = tA q 75 i) ∧ TX no in75 q q') := by
  have hn := hb.2.2.2.1
  refine itr_for (fun k p => ∃ q', p = (nI k, q') ∧ (∀ l, l < k → tA q' 75 (5 * S + l) = tA q 72 l) ∧ (∀ i, ¬ (5 * S ≤ i ∧ i < 5 * S + vN v) → tA q' 75 i = tA q 75 i) ∧ TX no in75 q q') _ 0 (vN v) ?_ ?_ (by omega) (by omega) ⟨q, rfl, fun l hl => absurd hl (Nat.not_lt_zero _), fun _ _ => rfl, TX.refl _ _ q⟩
  · rintro k p - hk ⟨q', rfl, p1, p2, p3⟩
    have hT' : TV q' v := hT.tx p3 ⟨rfl, rfl⟩ ⟨rfl, rfl, rfl, rfl, rfl, rfl⟩
    show OK (Bt_laysHavings_63 x1 (nI S) (nI k) q') _
    unfold Bt_laysHavings_63
    have h9 : ¬ nI (vN v) ≤ nI k := by rw [nI_leI (by omega) (by omega)]; omega
    rw [T_lordMany hT', xbd_some, if_neg h9]
    have e1 : (5 : Int32) * nI S + nI k = nI (5 * S + k) := by rw [nl_5, pk_mul, nI_add]
    rw [e1, if_pos (xin_nI (show k < 5 by omega) (by omega)), if_pos (xin_nI (show 5 * S + k < 160 by omega) (by omega)), nI_clamp (show 5 * S + k < 2 ^ 31 by omega), nI_clamp (show k < 2 ^ 31 by omega), nl_1, nI_add]
    refine ⟨_, rfl, Or.inl ⟨_, rfl, _, rfl, fun l hl => ?_, fun i hi => ?_, p3.sA rfl⟩⟩
    · rw [tA_sA, p3.2.2.1 72 k rfl]
      by_cases e : l = k
      · subst e; rw [if_pos ⟨rfl, rfl⟩]
      · rw [if_neg (by omega)]; exact p1 l (by omega)
    · rw [tA_sA, if_neg (by omega)]; exact p2 i hi
  · rintro p ⟨q', rfl, p1, p2, p3⟩
    have hT' : TV q' v := hT.tx p3 ⟨rfl, rfl⟩ ⟨rfl, rfl, rfl, rfl, rfl, rfl⟩
    show OK (Bt_laysHavings_63 x1 (nI S) (nI (vN v)) q') _
    unfold Bt_laysHavings_63
    have h9 : nI (vN v) ≤ nI (vN v) := by rw [nI_leI (by omega) (by omega)]; omega
    rw [T_lordMany hT', xbd_some, if_pos h9]
    exact ⟨_, rfl, _, rfl, p1, p2, p3⟩
end TTs
