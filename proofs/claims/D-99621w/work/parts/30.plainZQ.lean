/-! PLAIN LAW: dreams: the twin's; both -/
set_option maxRecDepth 100000
def FilT (q : TS) (v : VD) (w : Nat → Int32) (d a r : Nat) : Prop := ∀ d' a' r', d' < vC v → a' < vW v → r' < vW v → laid3 d a r d' a' r' → tA q 76 (64 * (vC v - 1 - d') + 8 * a' + r') = nI (dvS v w d' a' r') ∧ ∀ e, d' = e + 1 → tA q 77 (64 * (vC v - 1 - d') + 8 * a' + r') = nI (dnS v w e a' r')
def bsT (q : TS) (i : Nat) (o : Option (Nat × Nat)) : Prop := match o with
  | none => tA q 77 i = -1
  | some (m, b) => tA q 76 i = nI m ∧ tA q 77 i = nI b
def in767 (k : Nat) : Bool := k == 76 || k == 77 || k == 78
section ZQs
variable {g : CG} {c c' c'' : CC} {τ τ' q : TS} {X V s lo hi n m : Nat} {v : VD} {w : Nat → Int32}
theorem T_isReach {r h : Nat} (hT : TV0 q v) (hb : VB v) (hr : r < 8) (hh : h < 8) : f_t_isReach (nI r) (nI h) q = some (b32 (nrS v r h), q) := by
  have hX := hb.2.2.1
  unfold f_t_isReach
  rw [if_pos (show xin 5 6 = true by decide), if_pos (show xin 5 6 = true by decide), show ((5 : Int32).toNatClampNeg) = 5 by decide, hT.2.2.2.1, T_isIn32, xbd_some, nl_1, b32_and]
  have e := nr2 r hr h hh (vX v) (by omega)
  unfold nrS
  by_cases z : r ≤ h + vX v ∧ h ≤ r + vX v
  · have y := e.mpr z
    rw [decide_eq_true z, decide_eq_true y.1, decide_eq_true y.2]; rfl
  · rw [decide_eq_false z]
    have y : (decide (-(nI (vX v)) ≤ nI r - nI h) && decide (nI r - nI h ≤ nI (vX v))) = false := by
      rw [Bool.eq_false_iff]; intro u; simp only [Bool.and_eq_true, decide_eq_true_eq] at u; exact z (e.mp u)
    rw [y]
theorem TN.x7 {q' : TS} (h : TN q q') : TX no in767 q q' := ⟨fun k _ hk => h.1 k hk, h.2.1, fun k i _ => h.2.2.1 k i, h.2.2.2⟩
theorem FilT.put {d a r : Nat} {q' : TS} (h : FilT q v w d a r) (hb : VB v) (hd : d < vC v) (ha : a < vW v) (h1 : ∀ i, tA q' 76 i = if i = 64 * (vC v - 1 - d) + 8 * a + r then nI (dvS v w d a r) else tA q 76 i) (h2 : ∀ i, i ≠ 64 * (vC v - 1 - d) + 8 * a + r → tA q' 77 i = tA q 77 i) (h3 : ∀ e, d = e + 1 → tA q' 77 (64 * (vC v - 1 - d) + 8 * a + r) = nI (dnS v w e a r)) (hr : r < vW v) : FilT q' v w d a (r + 1) := by
  have hb1 := hb.1
  have hb2 := hb.2.1
  intro d' a' r' k1 k2 k3 k4
  unfold laid3 at k4
  rw [h1]
  by_cases e : d' = d ∧ a' = a ∧ r' = r
  · obtain ⟨rfl, rfl, rfl⟩ := e
    rw [if_pos rfl]
    exact ⟨rfl, h3⟩
  · have e2 : 64 * (vC v - 1 - d') + 8 * a' + r' ≠ 64 * (vC v - 1 - d) + 8 * a + r := by omega
    rw [if_neg e2, h2 _ e2]
    refine h d' a' r' k1 k2 k3 ?_
    unfold laid3
    omega
theorem FilT.mono {d a r d2 a2 r2 : Nat} (h : FilT q v w d a r) (hh : ∀ d' a' r', d' < vC v → a' < vW v → r' < vW v → laid3 d2 a2 r2 d' a' r' → laid3 d a r d' a' r') : FilT q v w d2 a2 r2 := fun d' a' r' h1 h2 h3 h4 => h d' a' r' h1 h2 h3 (hh d' a' r' h1 h2 h3 h4)
theorem T_dreamsOf {k d a r : Nat} (hT : TV q v) (hb : VB v) (hw : tA q 62 = w) (hk : k + d + 1 = vC v) (ha : a < vW v) (hr : r < vW v) (hP : ∀ d', d = d' + 1 → ∀ h, h < vW v → tA q 76 (64 * (k + 1) + 8 * r + h) = nI (dvS v w d' r h)) :
    OK (f_t_dreamsOf (nI k) (nI a) (nI r) q) (fun q' => (∀ i, tA q' 76 i = if i = 64 * k + 8 * a + r then nI (dvS v w d a r) else tA q 76 i) ∧ (∀ i, i ≠ 64 * k + 8 * a + r → tA q' 77 i = tA q 77 i) ∧ (∀ e, d = e + 1 → tA q' 77 (64 * k + 8 * a + r) = nI (dnS v w e a r)) ∧ TX no in767 q q') := by
  have hb1 := hb.1
  have hb2 := hb.2.1
  have eix : (((64 : Int32) * nI k) + (8 * nI a)) + nI r = nI (64 * k + 8 * a + r) := by rw [nl_64, nl_8, pk_mul, pk_mul, nI_add, nI_add]
  have hT1 : TV (sA q 77 (64 * k + 8 * a + r) (-1)) v := hT.of rfl rfl (fun k' i hk' => by rw [tA_sA, if_neg (by omega)])
  have t1 : TX no in767 q (sA q 77 (64 * k + 8 * a + r) (-1)) := (TX.refl _ _ q).sA rfl
  have w1 : tA (sA q 77 (64 * k + 8 * a + r) (-1)) 62 = w := by rw [tA_updn (by omega)]; exact hw
  unfold f_t_dreamsOf
  rw [T_payOf hT.1 hb, xbd_some, eix, if_pos (xin_nI (show 64 * k + 8 * a + r < 640 by omega) (by omega)), nI_clamp (show 64 * k + 8 * a + r < 2 ^ 31 by omega), T_columnMany, xbd_some, hT1.1.2.1, nl_1, nI_m1 (by omega), neg_1, hw, (payC_ok hb).1]
  cases d with
  | zero =>
    obtain ⟨⟨b, q2⟩, e1, p1, p2⟩ := T_isBendBy (c := k) (b := nI a) (r := nI r) (s := nI r) hT1 hb (by omega)
    have p1 : b = b32 (bendB v (w 0) k (nI a) (nI r) (nI r)) := by rw [← w1]; exact p1
    rw [if_pos (show nI k = nI (vC v - 1) by rw [show vC v - 1 = k by omega]), e1, xbd_some, p1, if_pos (xin_nI (show 64 * k + 8 * a + r < 640 by omega) (by omega))]
    have fin : ∀ x : Int32, x = nI (dvS v w 0 a r) → OK (some (sA q2 76 (64 * k + 8 * a + r) x)) (fun q' => (∀ i, tA q' 76 i = if i = 64 * k + 8 * a + r then nI (dvS v w 0 a r) else tA q 76 i) ∧ (∀ i, i ≠ 64 * k + 8 * a + r → tA q' 77 i = tA q 77 i) ∧ (∀ e, 0 = e + 1 → tA q' 77 (64 * k + 8 * a + r) = nI (dnS v w e a r)) ∧ TX no in767 q q') := fun x hx => by
      refine OK_some ⟨fun i => ?_, fun i hi => ?_, fun e he => by omega, (t1.trans p2.x7).sA rfl⟩
      · rw [tA_sA]
        by_cases ei : i = 64 * k + 8 * a + r
        · rw [if_pos ⟨rfl, ei⟩, if_pos ei, hx]
        · rw [if_neg (fun z => ei z.2), if_neg ei, p2.2.2.1, tA_sA, if_neg (by omega)]
      · rw [tA_sA, if_neg (by omega), p2.2.2.1, tA_sA, if_neg (fun z => hi z.2)]
    have ed : dvS v w 0 a r = pbS v w k a r r := by show pbS v w (vC v - 1) a r r = _; rw [show vC v - 1 = k by omega]
    cases hbd : bendB v (w 0) k (nI a) (nI r) (nI r) with
    | false =>
      rw [if_pos (show b32 false = 0 by decide)]
      exact fin 0 (by rw [ed]; unfold pbS; rw [hbd]; rfl)
    | true =>
      rw [if_neg (show ¬ b32 true = 0 by decide)]
      rw [if_pos (xin_nI (show 64 * k + 8 * a + r < 640 by omega) (by omega))]
      exact fin (nI (payC v w k)) (by rw [ed]; unfold pbS; rw [hbd]; rfl)
  | succ d =>
    rw [if_neg (by rw [nI_eq (by omega) (by omega)]; omega)]
    have hd := hP d rfl
    have ek : vC v - 2 - d = k := by omega
    have fin := dvS_s (v := v) (w := w) (d := d) (a := a) hr
    have main : OK (itr (fun s_ : Int32 × TS => Bt_dreamsOf_66 (nI k) (nI a) (nI r) (nI (64 * k + 8 * a + r)) (nI (payC v w k)) s_.1 s_.2) 4096 (0, sA q 77 (64 * k + 8 * a + r) (-1))) (fun q' => (∀ i, i ≠ 64 * k + 8 * a + r → tA q' 76 i = tA q 76 i ∧ tA q' 77 i = tA q 77 i) ∧ (tA q' 76 (64 * k + 8 * a + r) = nI (dvS v w (d + 1) a r) ∧ tA q' 77 (64 * k + 8 * a + r) = nI (dnS v w d a r)) ∧ TX no in767 q q') := by
      refine itr_for (fun h s => ∃ q', s = (nI h, q') ∧ (∀ i, i ≠ 64 * k + 8 * a + r → tA q' 76 i = tA q 76 i ∧ tA q' 77 i = tA q 77 i) ∧ bsT q' (64 * k + 8 * a + r) (bsN (nrS v r) (fun h => pbS v w (vC v - 2 - d) a r h + dvS v w d r h) h) ∧ TX no in767 q q') _ 0 (vW v) ?_ ?_ (by omega) (by omega) ⟨_, rfl, fun i hi => ⟨by rw [tA_sA, if_neg (by omega)], by rw [tA_sA, if_neg (fun z => hi z.2)]⟩, by show tA _ 77 _ = -1; rw [tA_sA, if_pos ⟨rfl, rfl⟩], t1⟩
      · rintro h s - hh ⟨q', rfl, q1, q2, q3⟩
        have hT' : TV q' v := hT.tx q3 ⟨rfl, rfl⟩ ⟨rfl, rfl, rfl, rfl, rfl, rfl⟩
        have w' : tA q' 62 = w := by rw [← hw]; exact funext (fun i => q3.2.2.1 62 i rfl)
        have h9 : ¬ nI (vW v) ≤ nI h := by rw [nI_leI (by omega) (by omega)]; omega
        show OK (Bt_dreamsOf_66 (nI k) (nI a) (nI r) (nI (64 * k + 8 * a + r)) (nI (payC v w k)) (nI h) q') _
        unfold Bt_dreamsOf_66 Jt_dreamsOf_173
        rw [T_rowsMany, xbd_some, hT'.1.2.2.1, if_neg h9, T_isReach hT'.1 hb (by omega) (by omega), xbd_some, nl_1, nI_add]
        have cs : bsN (nrS v r) (fun h => pbS v w (vC v - 2 - d) a r h + dvS v w d r h) (h + 1) = if nrS v r h = true then (match bsN (nrS v r) (fun h => pbS v w (vC v - 2 - d) a r h + dvS v w d r h) h with | none => some (pbS v w (vC v - 2 - d) a r h + dvS v w d r h, h) | some (m, b) => if m < pbS v w (vC v - 2 - d) a r h + dvS v w d r h then some (pbS v w (vC v - 2 - d) a r h + dvS v w d r h, h) else some (m, b)) else bsN (nrS v r) (fun h => pbS v w (vC v - 2 - d) a r h + dvS v w d r h) h := rfl
        cases hnr : nrS v r h with
        | false =>
          rw [if_pos (show b32 false = 0 by decide)]
          rw [hnr, if_neg (by decide)] at cs
          exact OK_some (Or.inl ⟨_, rfl, q', rfl, q1, by rw [cs]; exact q2, q3⟩)
        | true =>
          rw [if_neg (show ¬ b32 true = 0 by decide)]
          rw [hnr, if_pos rfl] at cs
          obtain ⟨⟨b, q4⟩, e1, p1, p2⟩ := T_isBendBy (c := k) (b := nI a) (r := nI r) (s := nI h) hT' hb (by omega)
          have p1 : b = b32 (bendB v (w 0) k (nI a) (nI r) (nI h)) := by rw [← w']; exact p1
          have l1 := pbS_le (w := w) (c := k) (a := a) (r := r) (h := h) hb
          have l2 := dvS_le (w := w) hb d r h hh
          have ei2 : (((((64 : Int32) * nI k) + 64) + (8 * nI r)) + nI h) = nI (64 * (k + 1) + 8 * r + h) := by rw [nl_64, nl_8, pk_mul, pk_mul, nI_add, nI_add, nI_add]; rfl
          have ev : tA q4 76 (64 * (k + 1) + 8 * r + h) = nI (dvS v w d r h) := by rw [p2.2.2.1, (q1 _ (by omega)).1]; exact hd h hh
          have g1 : ∀ i, i ≠ 64 * k + 8 * a + r → tA q4 76 i = tA q 76 i ∧ tA q4 77 i = tA q 77 i := fun i hi => by rw [p2.2.2.1, p2.2.2.1]; exact q1 i hi
          have g3 : TX no in767 q q4 := q3.trans p2.x7
          have j106 : ∀ x : Nat, x = pbS v w k a r h → OK (Jt_dreamsOf_106 (nI k) (nI a) (nI r) (nI (64 * k + 8 * a + r)) (nI (payC v w k)) (nI h) (nI x) q4) (fun o => ∃ q', o = (.inl (nI (h + 1), q') : (Int32 × TS) ⊕ TS) ∧ (∀ i, i ≠ 64 * k + 8 * a + r → tA q' 76 i = tA q 76 i ∧ tA q' 77 i = tA q 77 i) ∧ bsT q' (64 * k + 8 * a + r) (bsN (nrS v r) (fun h => pbS v w (vC v - 2 - d) a r h + dvS v w d r h) (h + 1)) ∧ TX no in767 q q') := by
            intro x hx
            subst hx
            unfold Jt_dreamsOf_106 Jt_dreamsOf_155 Jt_dreamsOf_173
            rw [ei2, if_pos (xin_nI (show 64 * (k + 1) + 8 * r + h < 640 by omega) (by omega)), nI_clamp (show 64 * (k + 1) + 8 * r + h < 2 ^ 31 by omega), ev, nI_add, nI_clamp (show 64 * k + 8 * a + r < 2 ^ 31 by omega), nl_1, neg_1, nI_add]
            simp only [xin_nI (show 64 * k + 8 * a + r < 640 by omega) (show 640 < 2147483648 by omega), reduceIte]
            have f1 : ∀ y i, i ≠ 64 * k + 8 * a + r → tA (sA (sA q4 76 (64 * k + 8 * a + r) y) 77 (64 * k + 8 * a + r) (nI h)) 76 i = tA q 76 i ∧ tA (sA (sA q4 76 (64 * k + 8 * a + r) y) 77 (64 * k + 8 * a + r) (nI h)) 77 i = tA q 77 i := fun y i hi => by
              rw [tA_sA, if_neg (by omega), tA_sA, if_neg (fun z => hi z.2), tA_sA, if_neg (fun z => hi z.2), tA_sA, if_neg (by omega)]; exact g1 i hi
            have f2 : ∀ y, tA (sA (sA q4 76 (64 * k + 8 * a + r) y) 77 (64 * k + 8 * a + r) (nI h)) 76 (64 * k + 8 * a + r) = y ∧ tA (sA (sA q4 76 (64 * k + 8 * a + r) y) 77 (64 * k + 8 * a + r) (nI h)) 77 (64 * k + 8 * a + r) = nI h := fun y => by
              rw [tA_sA, if_neg (by omega), tA_sA, if_pos ⟨rfl, rfl⟩, tA_sA, if_pos ⟨rfl, rfl⟩]; exact ⟨rfl, rfl⟩
            have f3 : ∀ y, TX no in767 q (sA (sA q4 76 (64 * k + 8 * a + r) y) 77 (64 * k + 8 * a + r) (nI h)) := fun y => (g3.sA rfl).sA rfl
            have okk := bsN_ok (P := nrS v r) (f := fun h => pbS v w (vC v - 2 - d) a r h + dvS v w d r h) h
            rw [cs]
            revert okk q2
            cases bsN (nrS v r) (fun h => pbS v w (vC v - 2 - d) a r h + dvS v w d r h) h with
            | none =>
              intro q2 okk
              have q2 : tA q4 77 (64 * k + 8 * a + r) = -1 := by rw [p2.2.2.1]; exact q2
              rw [q2, if_pos rfl]
              refine OK_some ⟨_, rfl, f1 _, ?_, f3 _⟩
              have := f2 (nI (pbS v w k a r h + dvS v w d r h))
              rw [ek]; exact this
            | some mb =>
              obtain ⟨m, b2⟩ := mb
              intro q2 okk
              have o1 := okk.1
              have lb := dvS_le (w := w) hb d r b2 (by omega)
              have lc := pbS_le (w := w) (c := k) (a := a) (r := r) (h := b2) hb
              have em : pbS v w (vC v - 2 - d) a r b2 + dvS v w d r b2 = m := okk.2.2.1
              rw [ek] at em
              have q2a : tA q4 76 (64 * k + 8 * a + r) = nI m := by rw [p2.2.2.1]; exact q2.1
              have q2b : tA q4 77 (64 * k + 8 * a + r) = nI b2 := by rw [p2.2.2.1]; exact q2.2
              rw [q2a, q2b, if_neg (nI_m1ne (b := b2) (by omega))]
              by_cases e : m < pbS v w k a r h + dvS v w d r h
              · rw [if_pos (by rw [nI_ltI (by omega) (by omega)]; exact e)]
                refine OK_some ⟨_, rfl, f1 _, ?_, f3 _⟩
                show bsT _ _ (if m < pbS v w (vC v - 2 - d) a r h + dvS v w d r h then some (pbS v w (vC v - 2 - d) a r h + dvS v w d r h, h) else some (m, b2))
                rw [ek, if_pos e]; exact f2 _
              · rw [if_neg (by rw [nI_ltI (by omega) (by omega)]; exact e)]
                refine OK_some ⟨q4, rfl, g1, ?_, g3⟩
                show bsT _ _ (if m < pbS v w (vC v - 2 - d) a r h + dvS v w d r h then some (pbS v w (vC v - 2 - d) a r h + dvS v w d r h, h) else some (m, b2))
                rw [ek, if_neg e]; exact ⟨q2a, q2b⟩
          rw [e1, xbd_some, p1]
          cases hbd : bendB v (w 0) k (nI a) (nI r) (nI h) with
          | false =>
            rw [if_pos (show b32 false = 0 by decide)]
            obtain ⟨o, eo, q9, rfl, u1, u2, u3⟩ := j106 0 (by unfold pbS; rw [hbd]; rfl)
            exact ⟨_, eo, Or.inl ⟨_, rfl, q9, rfl, u1, u2, u3⟩⟩
          | true =>
            rw [if_neg (show ¬ b32 true = 0 by decide)]
            obtain ⟨o, eo, q9, rfl, u1, u2, u3⟩ := j106 (payC v w k) (by unfold pbS; rw [hbd]; rfl)
            exact ⟨_, eo, Or.inl ⟨_, rfl, q9, rfl, u1, u2, u3⟩⟩
      · rintro s ⟨q', rfl, q1, q2, q3⟩
        have hT' : TV q' v := hT.tx q3 ⟨rfl, rfl⟩ ⟨rfl, rfl, rfl, rfl, rfl, rfl⟩
        have h9 : nI (vW v) ≤ nI (vW v) := by rw [nI_leI (by omega) (by omega)]; omega
        show OK (Bt_dreamsOf_66 (nI k) (nI a) (nI r) (nI (64 * k + 8 * a + r)) (nI (payC v w k)) (nI (vW v)) q') _
        unfold Bt_dreamsOf_66
        rw [T_rowsMany, xbd_some, hT'.1.2.2.1, if_pos h9]
        rw [fin.1] at q2
        exact OK_some ⟨_, rfl, q1, q2, q3⟩
    obtain ⟨q9, e9, z1, z2, z3⟩ := main
    rw [e9, Option.bind_some]
    refine OK_some ⟨fun i => ?_, fun i hi => (z1 i hi).2, fun e he => ?_, z3⟩
    · by_cases ei : i = 64 * k + 8 * a + r
      · subst ei; rw [if_pos rfl]; exact z2.1
      · rw [if_neg ei]; exact (z1 i ei).1
    · have : e = d := by omega
      subst this
      exact z2.2
end ZQs
