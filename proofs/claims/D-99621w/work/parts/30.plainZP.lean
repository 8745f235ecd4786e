/-! PLAIN LAW: dreams: the component's whole -/
set_option maxRecDepth 100000
/-- what of the dreams is laid: columns behind, rows ahead, rows -/
def laid3 (d a r d' a' r' : Nat) : Prop := d' < d ∨ (d' = d ∧ (a' < a ∨ (a' = a ∧ r' < r)))
def FilC (c : CC) (X : Nat) (v : VD) (w : Nat → Int32) (d a r : Nat) : Prop := ∀ d' a' r', d' < vC v → a' < vW v → r' < vW v → laid3 d a r d' a' r' → cA c (X + 207 + 9 * (vC v - 1 - d') + a') r' = nI (dvS v w d' a' r')
/-- the dreams alone have moved -/
def FDr (X : Nat) (c c' : CC) : Prop := ∀ a, a ≠ X + 31 → ¬ (X + 205 ≤ a ∧ a < X + 297) → Eq1 c c' a
/-- the course -/
def crs (v : VD) (w : Nat → Int32) (b : Nat) : Nat → Nat × Nat
  | 0 => (b, b)
  | i + 1 => ((crs v w b i).2, dnS v w (vC v - 2 - i) (crs v w b i).1 (crs v w b i).2)
theorem crs_lt {v : VD} {w : Nat → Int32} {b : Nat} (hb : b < vW v) : ∀ i, (crs v w b i).1 < vW v ∧ (crs v w b i).2 < vW v
  | 0 => ⟨hb, hb⟩
  | i + 1 => ⟨(crs_lt hb i).2, (dvS_s (crs_lt hb i).2).2.1⟩
section ZPs
variable {g : CG} {c c' c'' : CC} {τ τ' q : TS} {X V s lo hi n m : Nat} {v : VD} {w : Nat → Int32}
theorem FDr.refl : FDr X c c := fun a _ _ => Eq1.refl c a
theorem FDr.trans (h : FDr X c c') (h' : FDr X c' c'') : FDr X c c'' := fun a a1 a2 => (h a a1 a2).trans (h' a a1 a2)
theorem FDr.cn (h : FDr X c c') (n : CN X c' c'') : FDr X c c'' := fun a a1 a2 => (h a a1 a2).trans (n a a1)
theorem FDr.uA {b i : Nat} {x : Int32} (h : FDr X c c') (hb : X + 205 ≤ b ∧ b < X + 297) : FDr X c (uA c' b i x) := fun a a1 a2 => (h a a1 a2).uA (by omega)
theorem FDr.cx (h : FDr X c c') (hx : CX g c X V v lo hi) : CX g c' X V v lo hi := hx.of2 ((h X (by omega) (by omega)).2.2.1 100) (fun a a1 a2 => h a (by omega) (by omega))
theorem FDr.ct (h : FDr X c c') (ht : CT g c X (X + 35) v w) : CT g c' X (X + 35) v w := ht.of (fun a a1 a2 => h a (by omega) (by omega))
theorem FilC.cn {d a r : Nat} (h : FilC c X v w d a r) (hb : vC v ≤ 10) (n : CN X c c') : FilC c' X v w d a r := fun d' a' r' h1 h2 h3 h4 => by
  rw [(n _ (by omega)).2.2.2.1]; exact h d' a' r' h1 h2 h3 h4
theorem FilC.put {d a r : Nat} (h : FilC c X v w d a r) (hb : VB v) (hd : d < vC v) (ha : a < vW v) : FilC (uA c (X + 207 + 9 * (vC v - 1 - d) + a) r (nI (dvS v w d a r))) X v w d a (r + 1) := by
  have hb1 := hb.1
  have hb2 := hb.2.1
  intro d' a' r' h1 h2 h3 h4
  unfold laid3 at h4
  rw [cA_uA]
  by_cases e : d' = d ∧ a' = a ∧ r' = r
  · obtain ⟨rfl, rfl, rfl⟩ := e
    rw [if_pos ⟨rfl, rfl⟩]
  · by_cases e2 : X + 207 + 9 * (vC v - 1 - d') + a' = X + 207 + 9 * (vC v - 1 - d) + a ∧ r' = r
    · exfalso; omega
    · rw [if_neg e2]
      refine h d' a' r' h1 h2 h3 ?_
      unfold laid3
      omega
theorem FilC.mono {d a r d2 a2 r2 : Nat} (h : FilC c X v w d a r) (hh : ∀ d' a' r', d' < vC v → a' < vW v → r' < vW v → laid3 d2 a2 r2 d' a' r' → laid3 d a r d' a' r') : FilC c X v w d2 a2 r2 := fun d' a' r' h1 h2 h3 h4 => h d' a' r' h1 h2 h3 (hh d' a' r' h1 h2 h3 h4)
theorem C_dreamRow {d a : Nat} (hx : CX g c X V v lo hi) (h109 : gR g 109 X = some (X + 35)) (hg : PG g X) (ht : CT g c X (X + 35) v w) (hn : w 0 = nI n) (hn2 : n ≤ 5000) (hd : d + 1 < vC v) (ha : a < vW v) (hF : FilC c X v w d a 0) :
    OK (itr (fun s_ : Int32 × CC => Bc_X0_dreams_26 g X (nI (vC v - 1 - d)) (nI a) s_.1 s_.2) 4096 (0, c)) (fun c' => FilC c' X v w d (a + 1) 0 ∧ FDr X c c') := by
  have hb := hx.2.2.2.2.2.1
  have hb1 := hb.1
  have hb2 := hb.2.1
  refine itr_for (fun r s => ∃ c', s = (nI r, c') ∧ FilC c' X v w d a r ∧ FDr X c c') _ 0 (vW v) ?_ ?_ (by omega) (by omega) ⟨c, rfl, hF, FDr.refl⟩
  · rintro r s - hr ⟨c', rfl, q1, q2⟩
    have hx' := q2.cx hx
    have ht' := q2.ct ht
    have h9 : ¬ nI (vW v) ≤ nI r := by rw [nI_leI (by omega) (by omega)]; omega
    obtain ⟨⟨b, c1⟩, e1, p1, p2⟩ := C_mostFrom (k := vC v - 1 - d) (d := d) (a := a) (r := r) hx' h109 hg ht' hn hn2 (by omega) ha hr (fun d' hd' h hh => by
      have := q1 d' r h (by omega) hr hh (Or.inl (by omega))
      rw [show vC v - 1 - d + 1 = vC v - 1 - d' by omega]; exact this)
    have p1 : b = nI (dvS v w d a r) := p1
    subst p1
    have gi := hg.1.2.2.2 (vC v - 1 - d) (by omega)
    show OK (Bc_X0_dreams_26 g X (nI (vC v - 1 - d)) (nI a) (nI r) c') _
    unfold Bc_X0_dreams_26
    rw [if_pos hx'.1, hx'.2.1, Option.bind_some, if_pos hx'.b.1, hx'.b.2.2.1, if_neg h9, hg.1.1, Option.bind_some, if_pos hg.1.2.1, hg.1.2.2.1, if_pos (xin_nI (show vC v - 1 - d < 10 by omega) (by omega)), nI_clamp (show vC v - 1 - d < 2 ^ 31 by omega), gi.1.1, if_pos gi.1.2.1, gi.1.2.2, if_pos (xin_nI (show a < 8 by omega) (by omega)), e1, xbd_some, nI_clamp (show a < 2 ^ 31 by omega), (gi.2 a (by omega)).1, if_pos (gi.2 a (by omega)).2.1, (gi.2 a (by omega)).2.2, if_pos (xin_nI (show r < 8 by omega) (by omega)), nI_clamp (show r < 2 ^ 31 by omega), nl_1, nI_add]
    exact OK_some (Or.inl ⟨_, rfl, _, rfl, (q1.cn hb1 p2).put hb (by omega) ha, (q2.cn p2).uA (by omega)⟩)
  · rintro s ⟨c', rfl, q1, q2⟩
    have hx' := q2.cx hx
    have h9 : nI (vW v) ≤ nI (vW v) := by rw [nI_leI (by omega) (by omega)]; omega
    show OK (Bc_X0_dreams_26 g X (nI (vC v - 1 - d)) (nI a) (nI (vW v)) c') _
    unfold Bc_X0_dreams_26
    rw [if_pos hx'.1, hx'.2.1, Option.bind_some, if_pos hx'.b.1, hx'.b.2.2.1, if_pos h9]
    exact OK_some ⟨_, rfl, q1.mono (fun d' a' r' _ _ h3 h4 => by unfold laid3 at h4 ⊢; omega), q2⟩
theorem C_dreamCol {d : Nat} (hx : CX g c X V v lo hi) (h109 : gR g 109 X = some (X + 35)) (hg : PG g X) (ht : CT g c X (X + 35) v w) (hn : w 0 = nI n) (hn2 : n ≤ 5000) (hd : d + 1 < vC v) (hF : FilC c X v w d 0 0) :
    OK (itr (fun s_ : Int32 × CC => Bc_X0_dreams_13 g X (nI (vC v - 1 - d)) s_.1 s_.2) 4096 (0, c)) (fun c' => FilC c' X v w (d + 1) 0 0 ∧ FDr X c c') := by
  have hb := hx.2.2.2.2.2.1
  have hb2 := hb.2.1
  refine itr_for (fun a s => ∃ c', s = (nI a, c') ∧ FilC c' X v w d a 0 ∧ FDr X c c') _ 0 (vW v) ?_ ?_ (by omega) (by omega) ⟨c, rfl, hF, FDr.refl⟩
  · rintro a s - ha ⟨c', rfl, q1, q2⟩
    have hx' := q2.cx hx
    have ht' := q2.ct ht
    have h9 : ¬ nI (vW v) ≤ nI a := by rw [nI_leI (by omega) (by omega)]; omega
    obtain ⟨c1, e1, p1, p2⟩ := C_dreamRow (d := d) (a := a) hx' h109 hg ht' hn hn2 hd ha q1
    show OK (Bc_X0_dreams_13 g X (nI (vC v - 1 - d)) (nI a) c') _
    unfold Bc_X0_dreams_13
    rw [if_pos hx'.1, hx'.2.1, Option.bind_some, if_pos hx'.b.1, hx'.b.2.2.1, if_neg h9, e1, Option.bind_some, nl_1, nI_add]
    exact OK_some (Or.inl ⟨_, rfl, c1, rfl, p1, q2.trans p2⟩)
  · rintro s ⟨c', rfl, q1, q2⟩
    have hx' := q2.cx hx
    have h9 : nI (vW v) ≤ nI (vW v) := by rw [nI_leI (by omega) (by omega)]; omega
    show OK (Bc_X0_dreams_13 g X (nI (vC v - 1 - d)) (nI (vW v)) c') _
    unfold Bc_X0_dreams_13
    rw [if_pos hx'.1, hx'.2.1, Option.bind_some, if_pos hx'.b.1, hx'.b.2.2.1, if_pos h9]
    exact OK_some ⟨_, rfl, q1.mono (fun d' a' r' _ h2 _ h4 => by unfold laid3 at h4 ⊢; omega), q2⟩
theorem C_dreamAll (hx : CX g c X V v lo hi) (h109 : gR g 109 X = some (X + 35)) (hg : PG g X) (ht : CT g c X (X + 35) v w) (hn : w 0 = nI n) (hn2 : n ≤ 5000) (hc : 0 < vC v) :
    OK (itr (fun s_ : Int32 × CC => Bc_X0_dreams_7 g X s_.1 s_.2) 4096 (nI (vC v - 1), c)) (fun c' => FilC c' X v w (vC v - 1) 0 0 ∧ FDr X c c') := by
  have hb := hx.2.2.2.2.2.1
  have hb1 := hb.1
  refine itr_for (fun d s => ∃ c', s = (nI (vC v - 1 - d), c') ∧ FilC c' X v w d 0 0 ∧ FDr X c c') _ 0 (vC v - 1) ?_ ?_ (by omega) (by omega) ⟨c, rfl, fun d' a' r' _ _ _ h4 => by unfold laid3 at h4; omega, FDr.refl⟩
  · rintro d s - hd ⟨c', rfl, q1, q2⟩
    have h9 : ¬ nI (vC v - 1 - d) ≤ nI 0 := by rw [nI_leI (by omega) (by omega)]; omega
    obtain ⟨c1, e1, p1, p2⟩ := C_dreamCol (d := d) (q2.cx hx) h109 hg (q2.ct ht) hn hn2 (by omega) q1
    show OK (Bc_X0_dreams_7 g X (nI (vC v - 1 - d)) c') _
    unfold Bc_X0_dreams_7
    rw [nl_0, if_neg h9, show (nI 0, c') = ((0 : Int32), c') from rfl, e1, Option.bind_some]
    refine OK_some (Or.inl ⟨_, rfl, c1, ?_, p1, q2.trans p2⟩)
    rw [show vC v - 1 - d = vC v - 1 - (d + 1) + 1 by omega, pk_m1]
  · rintro s ⟨c', rfl, q1, q2⟩
    show OK (Bc_X0_dreams_7 g X (nI (vC v - 1 - (vC v - 1))) c') _
    unfold Bc_X0_dreams_7
    rw [show vC v - 1 - (vC v - 1) = 0 by omega, if_pos (by decide)]
    exact OK_some ⟨_, rfl, q1, q2⟩
/-- the best first row -/
abbrev b0S (v : VD) (w : Nat → Int32) (i : Nat) : Option (Nat × Nat) := bsN (fun _ => true) (fun r => dvS v w (vC v - 1) r r) i
theorem C_dreamFirst (hx : CX g c X V v lo hi) (h109 : gR g 109 X = some (X + 35)) (hg : PG g X) (ht : CT g c X (X + 35) v w) (hn : w 0 = nI n) (hn2 : n ≤ 5000) (hc : 1 < vC v) (hF : FilC c X v w (vC v - 1) 0 0) :
    OK (itr (fun s_ : Int32 × Int32 × CC => Bc_X0_dreams_76 g X s_.1 s_.2.1 s_.2.2) 4096 (-1, 0, c)) (fun o => o.1 = mI (b0S v w (vW v)) ∧ FilC o.2 X v w (vC v - 1) 0 0 ∧ FDr X c o.2 ∧ ∀ m b, b0S v w (vW v) = some (m, b) → cA o.2 (X + 296) 0 = nI b) := by
  have hb := hx.2.2.2.2.2.1
  have hb1 := hb.1
  have hb2 := hb.2.1
  refine itr_for (fun i s => ∃ c', s = (mI (b0S v w i), nI i, c') ∧ FilC c' X v w (vC v - 1) 0 0 ∧ FDr X c c' ∧ ∀ m b, b0S v w i = some (m, b) → cA c' (X + 296) 0 = nI b) _ 0 (vW v) ?_ ?_ (by omega) (by omega) ⟨c, rfl, hF, FDr.refl, fun m b e => by cases e⟩
  · rintro i s - hi ⟨c', rfl, q1, q2, q3⟩
    have hx' := q2.cx hx
    have ht' := q2.ct ht
    have h9 : ¬ nI (vW v) ≤ nI i := by rw [nI_leI (by omega) (by omega)]; omega
    have hP : ∀ c2, FilC c2 X v w (vC v - 1) 0 0 → ∀ d', vC v - 1 = d' + 1 → ∀ h, h < vW v → cA c2 (X + 207 + 9 * (0 + 1) + i) h = nI (dvS v w d' i h) := fun c2 hc2 d' hd' h hh => by
      have := hc2 d' i h (by omega) hi hh (Or.inl (by omega))
      rw [show 0 + 1 = vC v - 1 - d' by omega]; exact this
    obtain ⟨⟨b1, c1⟩, e1, p1, p2⟩ := C_mostFrom (k := 0) (d := vC v - 1) (a := i) (r := i) hx' h109 hg ht' hn hn2 (by omega) hi hi (hP c' q1)
    have p1 : b1 = nI (dvS v w (vC v - 1) i i) := p1
    subst p1
    obtain ⟨⟨b2, c2⟩, e2, r1, r2⟩ := C_mostFrom (k := 0) (d := vC v - 1) (a := i) (r := i) (hx'.cn p2) h109 hg (ht'.cn p2) hn hn2 (by omega) hi hi (hP c1 (q1.cn hb1 p2))
    have r1 : b2 = nI (dvS v w (vC v - 1) i i) := r1
    subst r1
    have l2 := dvS_le (w := w) hb (vC v - 1) i i hi
    have l3 : dvS v w (vC v - 1) i i ≤ 4950 := by omega
    show OK (Bc_X0_dreams_76 g X (mI (b0S v w i)) (nI i) c') _
    unfold Bc_X0_dreams_76 Jc_X0_dreams_116
    rw [if_pos hx'.1, hx'.2.1, Option.bind_some, if_pos hx'.b.1, hx'.b.2.2.1, if_neg h9, nl_0, e1, xbd_some, e2, xbd_some, hg.2.1, Option.bind_some, if_pos hg.2.2.1, hg.2.2.2, if_pos (show xin (nI 0) 10 = true by decide), nl_1, nI_add, show (nI 0).toNatClampNeg = 0 by decide]
    have cs : b0S v w (i + 1) = (match b0S v w i with | none => some (dvS v w (vC v - 1) i i, i) | some (m, b) => if m < dvS v w (vC v - 1) i i then some (dvS v w (vC v - 1) i i, i) else some (m, b)) := rfl
    have f1 : FilC (uA c2 (X + 296) 0 (nI i)) X v w (vC v - 1) 0 0 := fun d' a' r' h1 h2 h3 h4 => by rw [cA_uA, if_neg (by omega)]; exact ((q1.cn hb1 p2).cn hb1 r2) d' a' r' h1 h2 h3 h4
    have f2 : FDr X c (uA c2 (X + 296) 0 (nI i)) := ((q2.cn p2).cn r2).uA (by omega)
    have f3 : cA (uA c2 (X + 296) 0 (nI i)) (X + 296) 0 = nI i := by rw [cA_uA, if_pos ⟨rfl, rfl⟩]
    have okk : bsOk (fun _ => true) (fun r => dvS v w (vC v - 1) r r) i (b0S v w i) := bsN_ok i
    revert cs okk q3
    cases b0S v w i with
    | none =>
      intro q3 cs okk
      rw [if_pos (show mI none < nI (dvS v w (vC v - 1) i i) by
        show (-1 : Int32) < _
        rw [i32_lt, nI_toInt (by omega)]
        have : (-1 : Int32).toInt = -1 := by decide
        omega)]
      exact OK_some (Or.inl ⟨_, rfl, _, by rw [cs]; rfl, f1, f2, fun m b e => by rw [cs] at e; cases e; exact f3⟩)
    | some mb =>
      obtain ⟨m, b⟩ := mb
      intro q3 cs okk
      have lm := dvS_le (w := w) hb (vC v - 1) b b (by have := okk.1; omega)
      have em : dvS v w (vC v - 1) b b = m := okk.2.2.1
      have cs : b0S v w (i + 1) = if m < dvS v w (vC v - 1) i i then some (dvS v w (vC v - 1) i i, i) else some (m, b) := cs
      show OK (if nI m < nI (dvS v w (vC v - 1) i i) then _ else _) _
      by_cases e : m < dvS v w (vC v - 1) i i
      · rw [if_pos (by rw [nI_ltI (by omega) (by omega)]; exact e)]
        rw [if_pos e] at cs
        exact OK_some (Or.inl ⟨_, rfl, _, by rw [cs]; rfl, f1, f2, fun m' b' e' => by rw [cs] at e'; cases e'; exact f3⟩)
      · rw [if_neg (by rw [nI_ltI (by omega) (by omega)]; exact e)]
        rw [if_neg e] at cs
        exact OK_some (Or.inl ⟨_, rfl, c1, by rw [cs], q1.cn hb1 p2, q2.cn p2, fun m' b' e' => by rw [cs] at e'; rw [(p2 _ (by omega)).2.2.2.1]; exact q3 m' b' e'⟩)
  · rintro s ⟨c', rfl, q1, q2, q3⟩
    have hx' := q2.cx hx
    have h9 : nI (vW v) ≤ nI (vW v) := by rw [nI_leI (by omega) (by omega)]; omega
    show OK (Bc_X0_dreams_76 g X _ (nI (vW v)) c') _
    unfold Bc_X0_dreams_76
    rw [if_pos hx'.1, hx'.2.1, Option.bind_some, if_pos hx'.b.1, hx'.b.2.2.1, if_pos h9]
    exact OK_some ⟨_, rfl, rfl, q1, q2, q3⟩
theorem C_dreamWalk {b : Nat} {x1 : Int32} (hx : CX g c X V v lo hi) (h109 : gR g 109 X = some (X + 35)) (hg : PG g X) (ht : CT g c X (X + 35) v w) (hn : w 0 = nI n) (hn2 : n ≤ 5000) (hc : 1 < vC v) (hbw : b < vW v) (hF : FilC c X v w (vC v - 1) 0 0) (h0 : cA c (X + 296) 0 = nI b) :
    OK (itr (fun s_ : Int32 × CC => Bc_X0_dreams_124 g X x1 s_.1 s_.2) 4096 (1, c)) (fun c' => (∀ i, i < vC v → cA c' (X + 296) i = nI (crs v w b i).2) ∧ FDr X c c') := by
  have hb := hx.2.2.2.2.2.1
  have hb1 := hb.1
  have hb2 := hb.2.1
  refine itr_for (fun i s => ∃ c', s = (nI i, c') ∧ FilC c' X v w (vC v - 1) 0 0 ∧ (∀ j, j < i → cA c' (X + 296) j = nI (crs v w b j).2) ∧ FDr X c c') _ 1 (vC v) ?_ ?_ (by omega) (by omega) ⟨c, rfl, hF, fun j hj => by rw [show j = 0 by omega]; exact h0, FDr.refl⟩
  · rintro i s hi1 hi ⟨c', rfl, q1, q2, q3⟩
    have hx' := q3.cx hx
    have ht' := q3.ct ht
    have h9 : ¬ nI (vC v) ≤ nI i := by rw [nI_leI (by omega) (by omega)]; omega
    obtain ⟨l1, l2⟩ := crs_lt (w := w) hbw (i - 1)
    generalize ha : (crs v w b (i - 1)).1 = a at l1
    generalize hr : (crs v w b (i - 1)).2 = r at l2
    have hrow : cA c' (X + 296) (i - 1) = nI r := by rw [q2 (i - 1) (by omega), hr]
    have hP : ∀ d', vC v - i = d' + 1 → ∀ h, h < vW v → cA c' (X + 207 + 9 * (i - 1 + 1) + r) h = nI (dvS v w d' r h) := fun d' hd' h hh => by
      have := q1 d' r h (by omega) l2 hh (Or.inl (by omega))
      rw [show i - 1 + 1 = vC v - 1 - d' by omega]; exact this
    obtain ⟨⟨b1, c1⟩, e1, p1, p2⟩ := C_mostFrom (k := i - 1) (d := vC v - i) (a := a) (r := r) hx' h109 hg ht' hn hn2 (by omega) l1 l2 hP
    obtain ⟨d, hd⟩ : ∃ d, vC v - i = d + 1 := ⟨vC v - i - 1, by omega⟩
    have p1 : b1 = nI (dvS v w (d + 1) a r) := by have : b1 = nI (dvS v w (vC v - i) a r) := p1; rw [this, hd]
    subst p1
    have hx1 := hx'.cn p2
    have ht1 := ht'.cn p2
    have q1' := q1.cn hb1 p2
    obtain ⟨s1, s2, s3, s4, s5⟩ := dvS_s (v := v) (w := w) (d := d) (a := a) l2
    have ecr : (crs v w b i).2 = dnS v w d a r := by
      obtain ⟨i', rfl⟩ : ∃ i', i = i' + 1 := ⟨i - 1, by omega⟩
      show dnS v w (vC v - 2 - i') (crs v w b i').1 (crs v w b i').2 = _
      rw [show i' + 1 - 1 = i' by omega] at ha hr
      rw [ha, hr, show vC v - 2 - i' = d by omega]
    have gi := hg.1.2.2.2 i (by omega)
    have e21 : nI i - nI 1 = nI (i - 1) := nI_m1 (by omega)
    have ek : vC v - 2 - d = i - 1 := by omega
    have walk : OK (itr (fun s_ : Int32 × CC => Bc_X0_dreams_176 g X x1 (nI i) (nI a) (nI (dvS v w (d + 1) a r)) s_.1 s_.2) 4096 (0, c1)) (fun o => o.1 = nI (dnS v w d a r) ∧ CN X c1 o.2) := by
      have step : ∀ h c2, h < vW v → CN X c1 c2 → OK (Bc_X0_dreams_176 g X x1 (nI i) (nI a) (nI (dvS v w (d + 1) a r)) (nI h) c2) (fun o => ∃ c3, CN X c1 c3 ∧ o = (if nrS v r h = true ∧ pbS v w (vC v - 2 - d) a r h + dvS v w d r h = dvS v w (d + 1) a r then .inr (nI h, c3) else .inl (nI (h + 1), c3))) := by
        intro h c2 hh n2
        have hx2 := hx1.cn n2
        have ht2 := ht1.cn n2
        have er2 : cA c2 (X + 296) (i - 1) = nI r := by rw [(n2 _ (by omega)).2.2.2.1, (p2 _ (by omega)).2.2.2.1]; exact hrow
        unfold Bc_X0_dreams_176 Jc_X0_dreams_235
        rw [if_pos hx2.1, hg.2.1, Option.bind_some, if_pos hg.2.2.1, hg.2.2.2, nl_1, e21, if_pos (xin_nI (show i - 1 < 10 by omega) (by omega)), nI_clamp (show i - 1 < 2 ^ 31 by omega), er2, C_areNear hx2 (by omega) (by omega), xbd_some, nI_add]
        cases hnr : nrS v r h with
        | false =>
          rw [if_pos (show b32 false = 0 by decide)]
          exact OK_some ⟨c2, n2, by rw [if_neg (by rintro ⟨z, -⟩; cases z)]⟩
        | true =>
          obtain ⟨⟨b3, c3⟩, e3, t1, t2⟩ := C_paidBy (k := i - 1) (a := a) (r := r) (h := h) hx2 h109 ht2 hn hn2 (by omega) (by omega) (by omega) (by omega)
          have t1 : b3 = nI (pbS v w (i - 1) a r h) := t1
          subst t1
          have er3 : cA c3 (X + 296) (i - 1) = nI r := by rw [(t2 _ (by omega)).2.2.2.1]; exact er2
          have ev : cA c3 (X + 207 + 9 * i + r) h = nI (dvS v w d r h) := by
            have := ((q1'.cn hb1 n2).cn hb1 t2) d r h (by omega) l2 hh (Or.inl (by omega))
            rw [show vC v - 1 - d = i by omega] at this; exact this
          have m1 := pbS_le (w := w) (c := i - 1) (a := a) (r := r) (h := h) hb
          have m2 := dvS_le (w := w) hb d r h hh
          have m3 := dvS_le (w := w) hb (d + 1) a r l2
          rw [if_neg (show ¬ b32 true = 0 by decide), if_pos (xin_nI (show i - 1 < 10 by omega) (by omega)), er2, e3, xbd_some, hg.1.1, Option.bind_some, if_pos hg.1.2.1, hg.1.2.2.1, if_pos (xin_nI (show i < 10 by omega) (by omega)), if_pos (xin_nI (show i - 1 < 10 by omega) (by omega)), nI_clamp (show i < 2 ^ 31 by omega), gi.1.1, if_pos gi.1.2.1, er3, gi.1.2.2, if_pos (xin_nI (show r < 8 by omega) (by omega)), nI_clamp (show r < 2 ^ 31 by omega), (gi.2 r (by omega)).1, if_pos (gi.2 r (by omega)).2.1, (gi.2 r (by omega)).2.2, if_pos (xin_nI (show h < 8 by omega) (by omega)), nI_clamp (show h < 2 ^ 31 by omega), ev, nI_add]
          rw [ek]
          by_cases e : pbS v w (i - 1) a r h + dvS v w d r h = dvS v w (d + 1) a r
          · rw [if_pos (by rw [e])]
            exact OK_some ⟨c3, n2.trans t2, by rw [if_pos ⟨rfl, e⟩]⟩
          · rw [if_neg (by rw [nI_eq (by omega) (by omega)]; exact e)]
            exact OK_some ⟨c3, n2.trans t2, by rw [if_neg (fun z => e z.2)]⟩
      refine itr_for (fun h s => ∃ c2, s = (nI h, c2) ∧ CN X c1 c2) _ 0 (dnS v w d a r) ?_ ?_ (by omega) (by omega) ⟨c1, rfl, CN.refl X c1⟩
      · rintro h s - hh ⟨c2, rfl, n2⟩
        obtain ⟨o, e, c3, n3, rfl⟩ := step h c2 (by omega) n2
        refine ⟨_, e, Or.inl ⟨(nI (h + 1), c3), ?_, c3, rfl, n3⟩⟩
        rw [if_neg]
        rintro ⟨z1, z2⟩
        have := s5 h hh z1
        omega
      · rintro s ⟨c2, rfl, n2⟩
        obtain ⟨o, e, c3, n3, rfl⟩ := step (dnS v w d a r) c2 s2 n2
        refine ⟨_, e, (nI (dnS v w d a r), c3), ?_, rfl, n3⟩
        rw [if_pos ⟨s3, s4⟩]
    obtain ⟨⟨b4, c4⟩, e4, u1, u2⟩ := walk
    have u1 : b4 = nI (dnS v w d a r) := u1
    subst u1
    have j154 : OK (Jc_X0_dreams_154 g X x1 (nI i) (nI a) c') (fun o => (∃ s', o = .inl s' ∧ ∃ c', s' = (nI (i + 1), c') ∧ FilC c' X v w (vC v - 1) 0 0 ∧ (∀ j, j < i + 1 → cA c' (X + 296) j = nI (crs v w b j).2) ∧ FDr X c c') ∨ ∃ r, o = .inr r ∧ ((∀ i, i < vC v → cA r (X + 296) i = nI (crs v w b i).2) ∧ FDr X c r)) := by
      unfold Jc_X0_dreams_154
      rw [if_pos hx'.1, hg.2.1, Option.bind_some, if_pos hg.2.2.1, hg.2.2.2, nl_1, e21, if_pos (xin_nI (show i - 1 < 10 by omega) (by omega)), nI_clamp (show i - 1 < 2 ^ 31 by omega), hrow, e1, xbd_some, show ((0 : Int32), c1) = (0, c1) from rfl, e4, Option.bind_some, if_pos (xin_nI (show i < 10 by omega) (by omega)), nI_clamp (show i < 2 ^ 31 by omega), nI_add]
      refine OK_some (Or.inl ⟨_, rfl, _, rfl, fun d' a' r' h1 h2 h3 h4 => by rw [cA_uA, if_neg (by omega)]; exact (q1'.cn hb1 u2) d' a' r' h1 h2 h3 h4, fun j hj => ?_, ((q3.cn p2).cn u2).uA (by omega)⟩)
      rw [cA_uA]
      by_cases ej : j = i
      · subst ej; rw [if_pos ⟨rfl, rfl⟩, ecr]
      · rw [if_neg (fun z => ej z.2), (u2 _ (by omega)).2.2.2.1, (p2 _ (by omega)).2.2.2.1]; exact q2 j (by omega)
    show OK (Bc_X0_dreams_124 g X x1 (nI i) c') _
    unfold Bc_X0_dreams_124
    rw [if_pos hx'.1, C_columns hx'.1 hx'.2.1 hx'.b, xbd_some, if_neg h9, hg.2.1, Option.bind_some, if_pos hg.2.2.1, hg.2.2.2, nl_1]
    by_cases e1' : i = 1
    · subst e1'
      rw [if_pos rfl, nl_0, if_pos (show xin (nI 0) 10 = true by decide), show (nI 0).toNatClampNeg = 0 by decide, q2 0 (by omega)]
      have ea : (crs v w b 0).2 = a := ha
      rw [ea]
      exact j154
    · rw [if_neg (by rw [nI_eq (by omega) (by omega)]; exact e1'), Option.bind_some, if_pos hg.2.2.1, nl_2, pk_sub (show 2 ≤ i by omega), hg.2.2.2, if_pos (xin_nI (show i - 2 < 10 by omega) (by omega)), nI_clamp (show i - 2 < 2 ^ 31 by omega), q2 (i - 2) (by omega)]
      have ea : (crs v w b (i - 2)).2 = a := by
        obtain ⟨i', rfl⟩ : ∃ i', i = i' + 2 := ⟨i - 2, by omega⟩
        exact ha
      rw [ea]
      exact j154
  · rintro s ⟨c', rfl, q1, q2, q3⟩
    have hx' := q3.cx hx
    have h9 : nI (vC v) ≤ nI (vC v) := by rw [nI_leI (by omega) (by omega)]; omega
    show OK (Bc_X0_dreams_124 g X x1 (nI (vC v)) c') _
    unfold Bc_X0_dreams_124
    rw [if_pos hx'.1, C_columns hx'.1 hx'.2.1 hx'.b, xbd_some, if_pos h9]
    exact OK_some ⟨_, rfl, q2, q3⟩
theorem C_dreams (hx : CX g c X V v lo hi) (h109 : gR g 109 X = some (X + 35)) (hg : PG g X) (ht : CT g c X (X + 35) v w) (hn : w 0 = nI n) (hn2 : n ≤ 5000) (hc : 0 < vC v) : ∃ m b, b0S v w (vW v) = some (m, b) ∧ b < vW v ∧ m ≤ 4950 ∧ dvS v w (vC v - 1) b b = m ∧ OK (f_c_X0_dreams g X c) (fun o => o.1 = nI m ∧ (∀ i, i < vC v → cA o.2 (X + 296) i = nI (crs v w b i).2) ∧ FDr X c o.2) := by
  have hb := hx.2.2.2.2.2.1
  have hb1 := hb.1
  have h3 := hb.2.2.2.2.1 hc
  obtain ⟨m, b, e, h1, h2, h4, -⟩ := bsN_some (P := fun _ => true) (f := fun r => dvS v w (vC v - 1) r r) (n := vW v) (h := 0) (by omega) rfl
  have hm := dvS_le (w := w) hb (vC v - 1) b b h1
  have h4 : dvS v w (vC v - 1) b b = m := h4
  refine ⟨m, b, e, h1, by omega, h4, ?_⟩
  obtain ⟨c1, e1, p1, p2⟩ := C_dreamAll hx h109 hg ht hn hn2 hc
  obtain ⟨⟨o2, c2⟩, e2, q0, q1, q2, q3⟩ := C_dreamFirst (p2.cx hx) h109 hg (p2.ct ht) hn hn2 (by omega) p1
  have q0 : o2 = nI m := by have : o2 = mI (b0S v w (vW v)) := q0; rw [this]; unfold b0S; rw [e]; rfl
  subst q0
  have q1 : FilC c2 X v w (vC v - 1) 0 0 := q1
  have q2 : FDr X c1 c2 := q2
  obtain ⟨c3, e3, r1, r2⟩ := C_dreamWalk (x1 := nI m) (q2.cx (p2.cx hx)) h109 hg (q2.ct (p2.ct ht)) hn hn2 (by omega) h1 q1 (show cA c2 (X + 296) 0 = nI b from q3 m b e)
  unfold f_c_X0_dreams
  rw [if_pos hx.1, C_columns hx.1 hx.2.1 hx.b, xbd_some, nl_1, nI_m1 (by omega), neg_1, e1, Option.bind_some, e2, Option.bind_some]
  show OK ((itr (fun s_ : Int32 × CC => Bc_X0_dreams_124 g X (nI m) s_.1 s_.2) 4096 (1, c2)).bind fun b45 => some (nI m, b45)) _
  rw [e3, Option.bind_some]
  exact OK_some ⟨rfl, r1, (p2.trans q2).trans r2⟩
end ZPs
