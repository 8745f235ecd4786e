/-! PLAIN LAW: dream of both -/
set_option maxRecDepth 100000
section ZRs
variable {g : CG} {c c' c'' : CC} {τ τ' q : TS} {X V s lo hi n m : Nat} {v : VD} {w : Nat → Int32}
theorem TX.tv7 {q' : TS} (h : TX no in767 q q') (hT : TV q v) : TV q' v := hT.tx h ⟨rfl, rfl⟩ ⟨rfl, rfl, rfl, rfl, rfl, rfl⟩
theorem TX.w7 {q' : TS} (h : TX no in767 q q') (hw : tA q 62 = w) : tA q' 62 = w := by rw [← hw]; exact funext (fun i => h.2.2.1 62 i rfl)
theorem T_dreamRow {d a : Nat} (hT : TV q v) (hb : VB v) (hw : tA q 62 = w) (hd : d + 1 < vC v) (ha : a < vW v) (hF : FilT q v w d a 0) :
    OK (itr (fun s_ : Int32 × TS => Bt_dreamPays_23 (nI (vC v - 1 - d)) (nI a) s_.1 s_.2) 4096 (0, q)) (fun q' => FilT q' v w d (a + 1) 0 ∧ TX no in767 q q') := by
  have hb1 := hb.1
  have hb2 := hb.2.1
  refine itr_for (fun r s => ∃ q', s = (nI r, q') ∧ FilT q' v w d a r ∧ TX no in767 q q') _ 0 (vW v) ?_ ?_ (by omega) (by omega) ⟨q, rfl, hF, TX.refl _ _ q⟩
  · rintro r s - hr ⟨q', rfl, q1, q2⟩
    have hT' := q2.tv7 hT
    have h9 : ¬ nI (vW v) ≤ nI r := by rw [nI_leI (by omega) (by omega)]; omega
    obtain ⟨q3, e1, p1, p2, p3, p4⟩ := T_dreamsOf (k := vC v - 1 - d) (d := d) (a := a) (r := r) hT' hb (q2.w7 hw) (by omega) ha hr (fun d' hd' h hh => by
      have := (q1 d' r h (by omega) hr hh (Or.inl (by omega))).1
      rw [show vC v - 1 - d + 1 = vC v - 1 - d' by omega]; exact this)
    show OK (Bt_dreamPays_23 (nI (vC v - 1 - d)) (nI a) (nI r) q') _
    unfold Bt_dreamPays_23
    rw [T_rowsMany, xbd_some, hT'.1.2.2.1, if_neg h9, e1, Option.bind_some, nl_1, nI_add]
    exact OK_some (Or.inl ⟨_, rfl, q3, rfl, q1.put hb (by omega) ha p1 p2 p3 hr, q2.trans p4⟩)
  · rintro s ⟨q', rfl, q1, q2⟩
    have hT' := q2.tv7 hT
    have h9 : nI (vW v) ≤ nI (vW v) := by rw [nI_leI (by omega) (by omega)]; omega
    show OK (Bt_dreamPays_23 (nI (vC v - 1 - d)) (nI a) (nI (vW v)) q') _
    unfold Bt_dreamPays_23
    rw [T_rowsMany, xbd_some, hT'.1.2.2.1, if_pos h9]
    exact OK_some ⟨_, rfl, q1.mono (fun d' a' r' _ _ h3 h4 => by unfold laid3 at h4 ⊢; omega), q2⟩
theorem T_dreamCol {d : Nat} (hT : TV q v) (hb : VB v) (hw : tA q 62 = w) (hd : d + 1 < vC v) (hF : FilT q v w d 0 0) :
    OK (itr (fun s_ : Int32 × TS => Bt_dreamPays_13 (nI (vC v - 1 - d)) s_.1 s_.2) 4096 (0, q)) (fun q' => FilT q' v w (d + 1) 0 0 ∧ TX no in767 q q') := by
  have hb2 := hb.2.1
  refine itr_for (fun a s => ∃ q', s = (nI a, q') ∧ FilT q' v w d a 0 ∧ TX no in767 q q') _ 0 (vW v) ?_ ?_ (by omega) (by omega) ⟨q, rfl, hF, TX.refl _ _ q⟩
  · rintro a s - ha ⟨q', rfl, q1, q2⟩
    have hT' := q2.tv7 hT
    have h9 : ¬ nI (vW v) ≤ nI a := by rw [nI_leI (by omega) (by omega)]; omega
    obtain ⟨q3, e1, p1, p2⟩ := T_dreamRow (d := d) (a := a) hT' hb (q2.w7 hw) hd ha q1
    show OK (Bt_dreamPays_13 (nI (vC v - 1 - d)) (nI a) q') _
    unfold Bt_dreamPays_13
    rw [T_rowsMany, xbd_some, hT'.1.2.2.1, if_neg h9, e1, Option.bind_some, nl_1, nI_add]
    exact OK_some (Or.inl ⟨_, rfl, q3, rfl, p1, q2.trans p2⟩)
  · rintro s ⟨q', rfl, q1, q2⟩
    have hT' := q2.tv7 hT
    have h9 : nI (vW v) ≤ nI (vW v) := by rw [nI_leI (by omega) (by omega)]; omega
    show OK (Bt_dreamPays_13 (nI (vC v - 1 - d)) (nI (vW v)) q') _
    unfold Bt_dreamPays_13
    rw [T_rowsMany, xbd_some, hT'.1.2.2.1, if_pos h9]
    exact OK_some ⟨_, rfl, q1.mono (fun d' a' r' _ h2 _ h4 => by unfold laid3 at h4 ⊢; omega), q2⟩
theorem T_dreamAll (hT : TV q v) (hb : VB v) (hw : tA q 62 = w) (hc : 0 < vC v) :
    OK (itr (fun s_ : Int32 × TS => Bt_dreamPays_7 s_.1 s_.2) 4096 (nI (vC v - 1), q)) (fun q' => FilT q' v w (vC v - 1) 0 0 ∧ TX no in767 q q') := by
  have hb1 := hb.1
  refine itr_for (fun d s => ∃ q', s = (nI (vC v - 1 - d), q') ∧ FilT q' v w d 0 0 ∧ TX no in767 q q') _ 0 (vC v - 1) ?_ ?_ (by omega) (by omega) ⟨q, rfl, fun d' a' r' _ _ _ h4 => by unfold laid3 at h4; omega, TX.refl _ _ q⟩
  · rintro d s - hd ⟨q', rfl, q1, q2⟩
    have h9 : ¬ nI (vC v - 1 - d) ≤ nI 0 := by rw [nI_leI (by omega) (by omega)]; omega
    obtain ⟨q3, e1, p1, p2⟩ := T_dreamCol (d := d) (q2.tv7 hT) hb (q2.w7 hw) (by omega) q1
    show OK (Bt_dreamPays_7 (nI (vC v - 1 - d)) q') _
    unfold Bt_dreamPays_7
    rw [nl_0, if_neg h9, show (nI 0, q') = ((0 : Int32), q') from rfl, e1, Option.bind_some]
    refine OK_some (Or.inl ⟨_, rfl, q3, ?_, p1, q2.trans p2⟩)
    rw [show vC v - 1 - d = vC v - 1 - (d + 1) + 1 by omega, pk_m1]
  · rintro s ⟨q', rfl, q1, q2⟩
    show OK (Bt_dreamPays_7 (nI (vC v - 1 - (vC v - 1))) q') _
    unfold Bt_dreamPays_7
    rw [show vC v - 1 - (vC v - 1) = 0 by omega, if_pos (by decide)]
    exact OK_some ⟨_, rfl, q1, q2⟩
/-- the first row: laid for rows below i; the best so far -/
def bI (o : Option (Nat × Nat)) : Int32 := match o with
  | none => -1
  | some (_, b) => nI b
def FilZ (q : TS) (v : VD) (w : Nat → Int32) (i : Nat) : Prop := ∀ r, r < i → tA q 76 (9 * r) = nI (dvS v w (vC v - 1) r r) ∧ tA q 77 (9 * r) = nI (dnS v w (vC v - 2) r r)
theorem T_dreamFirst (hT : TV q v) (hb : VB v) (hw : tA q 62 = w) (hc : 1 < vC v) (hF : FilT q v w (vC v - 1) 0 0) :
    OK (itr (fun s_ : Int32 × Int32 × TS => Bt_dreamPays_60 s_.1 s_.2.1 s_.2.2) 4096 (-1, 0, q)) (fun o => o.1 = bI (b0S v w (vW v)) ∧ FilT o.2 v w (vC v - 1) 0 0 ∧ FilZ o.2 v w (vW v) ∧ TX no in767 q o.2) := by
  have hb1 := hb.1
  have hb2 := hb.2.1
  refine itr_for (fun i s => ∃ q', s = (bI (b0S v w i), nI i, q') ∧ FilT q' v w (vC v - 1) 0 0 ∧ FilZ q' v w i ∧ TX no in767 q q') _ 0 (vW v) ?_ ?_ (by omega) (by omega) ⟨q, rfl, hF, fun r hr => absurd hr (Nat.not_lt_zero r), TX.refl _ _ q⟩
  · rintro i s - hi ⟨q', rfl, q1, q2, q3⟩
    have hT' := q3.tv7 hT
    have h9 : ¬ nI (vW v) ≤ nI i := by rw [nI_leI (by omega) (by omega)]; omega
    obtain ⟨q4, e1, p1, p2, p3, p4⟩ := T_dreamsOf (k := 0) (d := vC v - 1) (a := i) (r := i) hT' hb (q3.w7 hw) (by omega) hi hi (fun d' hd' h hh => by
      have := (q1 d' i h (by omega) hi hh (Or.inl (by omega))).1
      rw [show 0 + 1 = vC v - 1 - d' by omega]; exact this)
    have eix : 64 * 0 + 8 * i + i = 9 * i := by omega
    rw [eix] at p1 p2 p3
    have f1 : FilT q4 v w (vC v - 1) 0 0 := fun d' a' r' h1 h2 h3 h4 => by
      have h4' := h4
      unfold laid3 at h4'
      rw [p1, if_neg (by omega), p2 _ (by omega)]
      exact q1 d' a' r' h1 h2 h3 h4
    have f2 : FilZ q4 v w (i + 1) := fun r hr => by
      rw [p1]
      by_cases e : r = i
      · subst e
        rw [if_pos rfl]
        exact ⟨rfl, p3 (vC v - 2) (by omega)⟩
      · rw [if_neg (by omega), p2 _ (by omega)]
        exact q2 r (by omega)
    have f3 := q3.trans p4
    have e9i : (9 : Int32) * nI i = nI (9 * i) := by rw [nl_9, pk_mul]
    show OK (Bt_dreamPays_60 (bI (b0S v w i)) (nI i) q') _
    unfold Bt_dreamPays_60 Jt_dreamPays_101 Jt_dreamPays_103
    rw [T_rowsMany, xbd_some, hT'.1.2.2.1, if_neg h9, nl_0, e1, Option.bind_some, e9i, if_pos (xin_nI (show 9 * i < 640 by omega) (by omega)), nI_clamp (show 9 * i < 2 ^ 31 by omega), (f2 i (by omega)).1, nl_1, neg_1, nI_add]
    have l2 := dvS_le (w := w) hb (vC v - 1) i i hi
    have l3 : dvS v w (vC v - 1) i i ≤ 4950 := by omega
    have cs : b0S v w (i + 1) = (match b0S v w i with | none => some (dvS v w (vC v - 1) i i, i) | some (m, b) => if m < dvS v w (vC v - 1) i i then some (dvS v w (vC v - 1) i i, i) else some (m, b)) := rfl
    have okk : bsOk (fun _ => true) (fun r => dvS v w (vC v - 1) r r) i (b0S v w i) := bsN_ok i
    revert cs okk
    cases b0S v w i with
    | none =>
      intro cs okk
      rw [if_pos (show bI none = -1 from rfl)]
      exact OK_some (Or.inl ⟨_, rfl, q4, by rw [cs]; rfl, f1, f2, f3⟩)
    | some mb =>
      obtain ⟨m, b⟩ := mb
      intro cs okk
      have o1 := okk.1
      have em : dvS v w (vC v - 1) b b = m := okk.2.2.1
      have lm := dvS_le (w := w) hb (vC v - 1) b b (by omega)
      have cs : b0S v w (i + 1) = if m < dvS v w (vC v - 1) i i then some (dvS v w (vC v - 1) i i, i) else some (m, b) := cs
      have e9b : (9 : Int32) * bI (some (m, b)) = nI (9 * b) := by show (9 : Int32) * nI b = _; rw [nl_9, pk_mul]
      rw [if_neg (show ¬ bI (some (m, b)) = -1 from nI_m1ne (by omega)), e9b, if_pos (xin_nI (show 9 * b < 640 by omega) (by omega)), nI_clamp (show 9 * b < 2 ^ 31 by omega), (f2 b (by omega)).1, em]
      by_cases e : m < dvS v w (vC v - 1) i i
      · rw [if_neg (by rw [nI_leI (by omega) (by omega)]; omega)]
        rw [if_pos e] at cs
        exact OK_some (Or.inl ⟨_, rfl, q4, by rw [cs]; rfl, f1, f2, f3⟩)
      · rw [if_pos (by rw [nI_leI (by omega) (by omega)]; omega)]
        rw [if_neg e] at cs
        exact OK_some (Or.inl ⟨_, rfl, q4, by rw [cs], f1, f2, f3⟩)
  · rintro s ⟨q', rfl, q1, q2, q3⟩
    have hT' := q3.tv7 hT
    have h9 : nI (vW v) ≤ nI (vW v) := by rw [nI_leI (by omega) (by omega)]; omega
    show OK (Bt_dreamPays_60 _ (nI (vW v)) q') _
    unfold Bt_dreamPays_60
    rw [T_rowsMany, xbd_some, hT'.1.2.2.1, if_pos h9]
    exact OK_some ⟨_, rfl, rfl, q1, q2, q3⟩
theorem T_dreamWalk {b : Nat} {x1 : Int32} (hT : TV q v) (hb : VB v) (hc : 1 < vC v) (hbw : b < vW v) (hF : FilT q v w (vC v - 1) 0 0) (hZ : FilZ q v w (vW v)) :
    OK (itr (fun s_ : Int32 × Int32 × Int32 × TS => Bt_dreamPays_116 x1 s_.1 s_.2.1 s_.2.2.1 s_.2.2.2) 4096 (nI b, nI b, 0, q)) (fun q' => (∀ i, i < vC v → tA q' 78 i = nI (crs v w b i).2) ∧ (∀ i, tA q' 76 i = tA q 76 i) ∧ TX no in767 q q') := by
  have hb1 := hb.1
  have hb2 := hb.2.1
  have nxt : ∀ i, i + 1 < vC v → tA q 77 (64 * i + 8 * (crs v w b i).1 + (crs v w b i).2) = nI (crs v w b (i + 1)).2 := fun i hi => by
    obtain ⟨l1, l2⟩ := crs_lt (w := w) hbw i
    by_cases e : i = 0
    · subst e
      show tA q 77 (64 * 0 + 8 * b + b) = nI (dnS v w (vC v - 2 - 0) b b)
      rw [show 64 * 0 + 8 * b + b = 9 * b by omega]
      exact (hZ b hbw).2
    · have := (hF (vC v - 1 - i) (crs v w b i).1 (crs v w b i).2 (by omega) l1 l2 (Or.inl (by omega))).2 (vC v - 2 - i) (by omega)
      rw [show vC v - 1 - (vC v - 1 - i) = i by omega] at this
      exact this
  refine itr_for (fun i s => ∃ q' y, s = (nI (crs v w b i).1, y, nI i, q') ∧ (i < vC v → y = nI (crs v w b i).2) ∧ (∀ j, j < i → tA q' 78 j = nI (crs v w b j).2) ∧ (∀ j, tA q' 76 j = tA q 76 j) ∧ (∀ j, tA q' 77 j = tA q 77 j) ∧ TX no in767 q q') _ 0 (vC v) ?_ ?_ (by omega) (by omega) ⟨q, nI b, rfl, fun _ => rfl, fun j hj => absurd hj (Nat.not_lt_zero j), fun _ => rfl, fun _ => rfl, TX.refl _ _ q⟩
  · rintro i s - hi ⟨q', y, rfl, hy, q1, q2, q3, q4⟩
    have hT' := q4.tv7 hT
    have h9 : ¬ nI (vC v) ≤ nI i := by rw [nI_leI (by omega) (by omega)]; omega
    obtain ⟨l1, l2⟩ := crs_lt (w := w) hbw i
    have hy := hy hi
    subst hy
    show OK (Bt_dreamPays_116 x1 (nI (crs v w b i).1) (nI (crs v w b i).2) (nI i) q') _
    unfold Bt_dreamPays_116
    rw [T_columnMany, xbd_some, hT'.1.2.1, if_neg h9, if_pos (xin_nI (show i < 10 by omega) (by omega)), nl_64, nl_8, pk_mul, pk_mul, nI_add, nI_add, if_pos (xin_nI (show 64 * i + 8 * (crs v w b i).1 + (crs v w b i).2 < 640 by omega) (by omega)), nI_clamp (show i < 2 ^ 31 by omega), nI_clamp (show 64 * i + 8 * (crs v w b i).1 + (crs v w b i).2 < 2 ^ 31 by omega), nl_1, nI_add]
    refine OK_some (Or.inl ⟨_, rfl, _, _, rfl, fun h => ?_, fun j hj => ?_, fun j => by rw [tA_sA, if_neg (by omega)]; exact q2 j, fun j => by rw [tA_sA, if_neg (by omega)]; exact q3 j, q4.sA rfl⟩)
    · rw [tA_sA, if_neg (by omega), q3]; exact nxt i h
    · rw [tA_sA]
      by_cases e : j = i
      · subst e; rw [if_pos ⟨rfl, rfl⟩]
      · rw [if_neg (fun z => e z.2)]; exact q1 j (by omega)
  · rintro s ⟨q', y, rfl, hy, q1, q2, q3, q4⟩
    have hT' := q4.tv7 hT
    have h9 : nI (vC v) ≤ nI (vC v) := by rw [nI_leI (by omega) (by omega)]; omega
    show OK (Bt_dreamPays_116 x1 _ _ (nI (vC v)) q') _
    unfold Bt_dreamPays_116
    rw [T_columnMany, xbd_some, hT'.1.2.1, if_pos h9]
    exact OK_some ⟨_, rfl, q1, q2, q4⟩
theorem T_dreamPays {b : Nat} (hT : TV q v) (hb : VB v) (hw : tA q 62 = w) (hc : 0 < vC v) (h0 : b0S v w (vW v) = some (m, b)) (hbw : b < vW v) (hm : dvS v w (vC v - 1) b b = m) :
    OK (f_t_dreamPays q) (fun o => o.1 = nI m ∧ (∀ i, i < vC v → tA o.2 78 i = nI (crs v w b i).2) ∧ TX no in767 q o.2) := by
  have hb1 := hb.1
  have hb2 := hb.2.1
  have h3 := hb.2.2.2.2.1 hc
  obtain ⟨q1, e1, p1, p2⟩ := T_dreamAll hT hb hw hc
  obtain ⟨⟨o2, q2⟩, e2, r1, r2, r3, r4⟩ := T_dreamFirst (p2.tv7 hT) hb (p2.w7 hw) (by omega) p1
  have r1 : o2 = nI b := by have : o2 = bI (b0S v w (vW v)) := r1; rw [this, h0]; rfl
  subst r1
  have r2 : FilT q2 v w (vC v - 1) 0 0 := r2
  have r3 : FilZ q2 v w (vW v) := r3
  have r4 : TX no in767 q1 q2 := r4
  obtain ⟨q3, e3, s1, s2, s3⟩ := T_dreamWalk (b := b) (x1 := nI b) (r4.tv7 (p2.tv7 hT)) hb (by omega) hbw r2 r3
  unfold f_t_dreamPays
  rw [T_columnMany, xbd_some, hT.1.2.1, nl_1, nI_m1 (by omega), neg_1, e1, Option.bind_some, e2, Option.bind_some]
  show OK ((itr (fun s_ : Int32 × Int32 × Int32 × TS => Bt_dreamPays_116 (nI b) s_.1 s_.2.1 s_.2.2.1 s_.2.2.2) 4096 (nI b, nI b, 0, q2)).bind fun b12 => if xin (9 * nI b) 640 = true then some (tA b12 76 (9 * nI b).toNatClampNeg, b12) else none) _
  rw [e3, Option.bind_some, nl_9, pk_mul, if_pos (xin_nI (show 9 * b < 640 by omega) (by omega)), nI_clamp (show 9 * b < 2 ^ 31 by omega), s2, (r3 b hbw).1, hm]
  exact OK_some ⟨rfl, s1, (p2.trans r4).trans s3⟩
theorem I_dream {x : Int32} (h : IV g c τ X V v lo hi) (hg : PG g X) : OK2 (f_c_X0_dream g X x c) (f_t_dream x τ) (RZ X c τ) := by
  have hV := I_isValley h
  obtain ⟨n0, hn0, hw⟩ := h.2.2.2.2.2.2.2
  have hb := h.1.2.2.2.2.2.1
  have hb1 := hb.1
  have hT := h.2.2.2.2.2.1
  have rN : OK2 (some ((-1 : Int32), c)) (some ((-1 : Int32), τ)) (RZ X c τ) := OK2_some (RD.mk.z h.2.2.2.2.1.2)
  unfold f_c_X0_dream f_t_dream
  rw [if_pos h.1.1, hV, xbd_some, hT.1.1]
  by_cases hc : 0 < vC v
  · rw [decide_eq_true hc, if_neg (show ¬ b32 true = 0 by decide), if_neg (show ¬ b32 true = 0 by decide)]
    obtain ⟨m, b, d1, d2, d3, d4, ⟨o1, c1⟩, d5, d6, d7, d8⟩ := C_dreams h.1 h.2.1.1 hg h.2.2.1 hw (by omega) hc
    obtain ⟨⟨o2, q1⟩, e5, e6, e7, e8⟩ := T_dreamPays (b := b) (m := m) (w := tA τ 62) hT hb rfl hc d1 d2 d4
    have d6 : o1 = nI m := d6
    have e6 : o2 = nI m := e6
    subst d6 e6
    have cz : CZ X c c1 := fun a ha => d8 a (by omega) (by omega)
    have tz : TX fZ aZ τ q1 := e8.mono (fun k hk => rfl) (fun k hk => by unfold aZ at hk; unfold in767; simp at hk ⊢; omega)
    have rk : ∃ K π, RKp c1 (X + 103) K π := by
      obtain ⟨K, π, hk⟩ := h.2.2.2.2.1.2
      exact ⟨K, π, hk.of ⟨(d8 _ (by omega) (by omega)).1 602, fun a a1 a2 => d8 a (by omega) (by omega)⟩⟩
    have j1 : Jc_X0_dream_22 g X x c = if x = -1 then some (nI m, c1) else (gR g 114 X).bind fun b5 => if gT g b5 = 100 then (if xin x (gN g b5) = true then some (cA c1 b5 x.toNatClampNeg, c1) else none) else none := by
      unfold Jc_X0_dream_22
      rw [if_pos h.1.1, d5, xbd_some]
    have j2 : Jt_dream_23 x τ = if x = -1 then some (nI m, q1) else if xin x 10 = true then some (tA q1 78 x.toNatClampNeg, q1) else none := by
      unfold Jt_dream_23
      rw [e5, xbd_some]
    by_cases hx : x = -1
    · rw [if_pos hx, if_pos hx, j1, j2, if_pos hx, if_pos hx]
      exact OK2_some ⟨rfl, cz, tz, rk⟩
    · rw [if_neg hx, if_neg hx, C_isColumn h.1, xbd_some, T_isColumn hT.1 hb, xbd_some, j1, j2, if_neg hx, if_neg hx]
      by_cases hz : nI 0 ≤ x ∧ x < nI (vC v)
      · obtain ⟨j, hj, rfl⟩ := nI_lto (by omega) hz.1 hz.2
        rw [show (decide (nI 0 ≤ nI j) && decide (nI j < nI (vC v))) = true by simp [hz.1, hz.2], if_neg (show ¬ b32 true = 0 by decide), if_neg (show ¬ b32 true = 0 by decide), hg.2.1, Option.bind_some, if_pos hg.2.2.1, hg.2.2.2, if_pos (xin_nI (show j < 10 by omega) (by omega)), if_pos (xin_nI (show j < 10 by omega) (by omega)), nI_clamp (show j < 2 ^ 31 by omega)]
        exact OK2_some ⟨(d7 j hj).trans (e7 j hj).symm, cz, tz, rk⟩
      · have ec : (decide (nI 0 ≤ x) && decide (x < nI (vC v))) = false := by
          rw [Bool.eq_false_iff]; intro e; simp only [Bool.and_eq_true, decide_eq_true_eq] at e; exact hz e
        rw [ec, if_pos (show b32 false = 0 by decide), if_pos (show b32 false = 0 by decide)]
        exact rN
  · rw [decide_eq_false hc, if_pos (show b32 false = 0 by decide), if_pos (show b32 false = 0 by decide)]
    exact rN
end ZRs
