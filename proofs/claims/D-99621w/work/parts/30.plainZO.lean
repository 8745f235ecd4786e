/-! PLAIN LAW: dreams as plain functions; the component's -/
set_option maxRecDepth 100000
def bsN (P : Nat → Bool) (f : Nat → Nat) : Nat → Option (Nat × Nat)
  | 0 => none
  | h + 1 => if P h = true then (match bsN P f h with
    | none => some (f h, h)
    | some (m, b) => if m < f h then some (f h, h) else some (m, b)) else bsN P f h
def bsOk (P : Nat → Bool) (f : Nat → Nat) (n : Nat) (o : Option (Nat × Nat)) : Prop := match o with
  | none => ∀ h, h < n → P h = false
  | some (m, b) => b < n ∧ P b = true ∧ f b = m ∧ (∀ h, h < n → P h = true → f h ≤ m) ∧ ∀ h, h < b → P h = true → f h < m
theorem bsN_ok {P : Nat → Bool} {f : Nat → Nat} : ∀ n, bsOk P f n (bsN P f n)
  | 0 => fun h hh => absurd hh (Nat.not_lt_zero h)
  | n + 1 => by
    have ih := bsN_ok (P := P) (f := f) n
    unfold bsN
    by_cases hP : P n = true
    · rw [if_pos hP]
      revert ih
      cases bsN P f n with
      | none =>
        intro ih
        refine ⟨by omega, hP, rfl, fun h hh hp => ?_, fun h hh hp => ?_⟩
        · by_cases e : h = n
          · rw [e]; exact Nat.le_refl _
          · rw [ih h (by omega)] at hp; cases hp
        · rw [ih h hh] at hp; cases hp
      | some mb =>
        obtain ⟨m, b⟩ := mb
        intro ih
        obtain ⟨i1, i2, i3, i4, i5⟩ := ih
        show bsOk P f (n + 1) (if m < f n then some (f n, n) else some (m, b))
        by_cases e : m < f n
        · rw [if_pos e]
          exact ⟨by omega, hP, rfl, fun h hh hp => by
            by_cases e2 : h = n
            · rw [e2]; exact Nat.le_refl _
            · have := i4 h (by omega) hp; omega, fun h hh hp => by have := i4 h hh hp; omega⟩
        · rw [if_neg e]
          exact ⟨by omega, i2, i3, fun h hh hp => by
            by_cases e2 : h = n
            · rw [e2]; omega
            · exact i4 h (by omega) hp, i5⟩
    · rw [if_neg hP]
      revert ih
      cases bsN P f n with
      | none =>
        intro ih h hh
        by_cases e : h = n
        · rw [e]; simpa using hP
        · exact ih h (by omega)
      | some mb =>
        obtain ⟨m, b⟩ := mb
        intro ih
        obtain ⟨i1, i2, i3, i4, i5⟩ := ih
        exact ⟨by omega, i2, i3, fun h hh hp => by
          by_cases e2 : h = n
          · rw [e2] at hp; exact absurd hp hP
          · exact i4 h (by omega) hp, i5⟩
theorem bsN_some {P : Nat → Bool} {f : Nat → Nat} {n h : Nat} (hh : h < n) (hp : P h = true) : ∃ m b, bsN P f n = some (m, b) ∧ b < n ∧ P b = true ∧ f b = m ∧ (∀ h, h < n → P h = true → f h ≤ m) ∧ ∀ h, h < b → P h = true → f h < m := by
  have ok := bsN_ok (P := P) (f := f) n
  revert ok
  cases bsN P f n with
  | none => intro ok; rw [ok h hh] at hp; cases hp
  | some mb => obtain ⟨m, b⟩ := mb; intro ok; exact ⟨m, b, rfl, ok⟩
/-- the best so far as a number -/
def mI (o : Option (Nat × Nat)) : Int32 := match o with
  | none => -1
  | some (m, _) => nI m
def payC (v : VD) (w : Nat → Int32) (c : Nat) : Nat := (payS v w (nI c)).toNatClampNeg
theorem payC_ok {v : VD} {w : Nat → Int32} {c : Nat} (hb : VB v) : payS v w (nI c) = nI (payC v w c) ∧ payC v w c ≤ 495 := by
  obtain ⟨n, hn, e⟩ := payN_b (w := w) (x := nI c) hb (vN v) (Nat.le_refl _)
  have h5 := hb.2.2.2.1
  have e2 : payC v w c = n := by
    unfold payC payS
    rw [e, nI_clamp (by omega)]
  rw [e2]
  exact ⟨e, by omega⟩
def pbS (v : VD) (w : Nat → Int32) (c a r h : Nat) : Nat := if bendB v (w 0) c (nI a) (nI r) (nI h) = true then payC v w c else 0
theorem pbS_le {v : VD} {w : Nat → Int32} {c a r h : Nat} (hb : VB v) : pbS v w c a r h ≤ 495 := by
  unfold pbS
  split
  · exact (payC_ok hb).2
  · omega
def nrS (v : VD) (r h : Nat) : Bool := decide (r ≤ h + vX v ∧ h ≤ r + vX v)
theorem nr1 : ∀ r, r < 8 → ∀ h, h < 8 → ∀ x, x < 8 → ((nI x < abs32 (nI r - nI h)) ↔ ¬ (r ≤ h + x ∧ h ≤ r + x)) := by decide +kernel
theorem nr2 : ∀ r, r < 8 → ∀ h, h < 8 → ∀ x, x < 8 → ((-(nI x) ≤ nI r - nI h ∧ nI r - nI h ≤ nI x) ↔ (r ≤ h + x ∧ h ≤ r + x)) := by decide +kernel
/-- the most that is paid from a column on, by columns behind it -/
def dvS (v : VD) (w : Nat → Int32) : Nat → Nat → Nat → Nat
  | 0, a, r => pbS v w (vC v - 1) a r r
  | d + 1, a, r => match bsN (nrS v r) (fun h => pbS v w (vC v - 2 - d) a r h + dvS v w d r h) (vW v) with
    | none => 0
    | some (m, _) => m
/-- the next row of it -/
def dnS (v : VD) (w : Nat → Int32) (d a r : Nat) : Nat := match bsN (nrS v r) (fun h => pbS v w (vC v - 2 - d) a r h + dvS v w d r h) (vW v) with
  | none => 0
  | some (_, b) => b
theorem dvS_s {v : VD} {w : Nat → Int32} {d a r : Nat} (hr : r < vW v) : bsN (nrS v r) (fun h => pbS v w (vC v - 2 - d) a r h + dvS v w d r h) (vW v) = some (dvS v w (d + 1) a r, dnS v w d a r) ∧ dnS v w d a r < vW v ∧ nrS v r (dnS v w d a r) = true ∧ pbS v w (vC v - 2 - d) a r (dnS v w d a r) + dvS v w d r (dnS v w d a r) = dvS v w (d + 1) a r ∧ ∀ h, h < dnS v w d a r → nrS v r h = true → pbS v w (vC v - 2 - d) a r h + dvS v w d r h < dvS v w (d + 1) a r := by
  obtain ⟨m, b, e, h1, h2, h3, h4, h5⟩ := bsN_some (P := nrS v r) (f := fun h => pbS v w (vC v - 2 - d) a r h + dvS v w d r h) hr (show nrS v r r = true by unfold nrS; simp)
  have e1 : dvS v w (d + 1) a r = m := by
    show (match bsN (nrS v r) (fun h => pbS v w (vC v - 2 - d) a r h + dvS v w d r h) (vW v) with | none => 0 | some (m, _) => m) = m
    rw [e]
  have e2 : dnS v w d a r = b := by unfold dnS; rw [e]
  rw [e1, e2]
  exact ⟨e, h1, h2, h3, h5⟩
theorem dvS_le {v : VD} {w : Nat → Int32} (hb : VB v) : ∀ d a r, r < vW v → dvS v w d a r ≤ 495 * (d + 1)
  | 0, a, r, _ => by have := pbS_le (w := w) (c := vC v - 1) (a := a) (r := r) (h := r) hb; show pbS _ _ _ _ _ _ ≤ _; omega
  | d + 1, a, r, hr => by
    obtain ⟨-, h1, -, h3, -⟩ := dvS_s (w := w) (d := d) (a := a) hr
    have := dvS_le (w := w) hb d r (dnS v w d a r) h1
    have := pbS_le (w := w) (c := vC v - 2 - d) (a := a) (r := r) (h := dnS v w d a r) hb
    omega
def PG (g : CG) (X : Nat) : Prop := (gR g 113 X = some (X + 205) ∧ gT g (X + 205) = 106 ∧ gN g (X + 205) = 10 ∧ ∀ i, i < 10 → (gA g (X + 205) i = X + 206 + 9 * i ∧ gT g (X + 206 + 9 * i) = 105 ∧ gN g (X + 206 + 9 * i) = 8) ∧ ∀ j, j < 8 → gA g (X + 206 + 9 * i) j = X + 207 + 9 * i + j ∧ gT g (X + 207 + 9 * i + j) = 100 ∧ gN g (X + 207 + 9 * i + j) = 8) ∧ gR g 114 X = some (X + 296) ∧ gT g (X + 296) = 100 ∧ gN g (X + 296) = 10
section ZOs
variable {g : CG} {c c' : CC} {τ τ' q : TS} {X V s lo hi n m : Nat} {v : VD} {w : Nat → Int32}
theorem C_areNear {r h : Nat} (hx : CX g c X V v lo hi) (hr : r < 8) (hh : h < 8) : f_c_X0_areNear g X (nI r) (nI h) c = some (b32 (nrS v r h), c) := by
  have hX := hx.2.2.2.2.2.1.2.2.1
  unfold f_c_X0_areNear
  rw [C_abs, xbd_some, if_pos hx.1, hx.2.1, Option.bind_some, if_pos hx.b.1, hx.b.2.2.2.1]
  have e := nr1 r hr h hh (vX v) (by omega)
  unfold nrS
  by_cases z : r ≤ h + vX v ∧ h ≤ r + vX v
  · rw [if_neg (fun y => e.mp y z), decide_eq_true z]; rfl
  · rw [if_pos (e.mpr z), decide_eq_false z]; rfl
theorem C_paidBy {k a r h : Nat} (hx : CX g c X V v lo hi) (h109 : gR g 109 X = some (X + 35)) (ht : CT g c X (X + 35) v w) (hn : w 0 = nI n) (hn2 : n ≤ 5000) (hk : k < vC v) (ha : a < 8) (hr : r < 8) (hh : h < 8) : OK (f_c_X0_paidBy g X (nI k) (nI a) (nI r) (nI h) c) (fun o => o.1 = nI (pbS v w k a r h) ∧ CN X c o.2) := by
  have hb := hx.2.2.2.2.2.1
  obtain ⟨⟨b, c1⟩, e1, p1, p2⟩ := C_isBendBy (sn := n) hx hk (show a < 10 by omega) (show r < 10 by omega) (show h < 10 by omega) hn2
  have hx' := hx.cn p2
  have ht' := ht.cn p2
  have p1 : b = b32 (bendB v (nI n) k (nI a) (nI r) (nI h)) := p1
  unfold f_c_X0_paidBy
  rw [if_pos hx.1, h109, Option.bind_some, if_pos ht.1.1, ht.2.1.1, hn, e1, xbd_some, p1, C_pay ht'.1 hx'.1 hx'.2.1 hx'.b hb ht'.2.1 (fun k hk => (ht'.2.2.1.2.2.2.2 k hk).1), xbd_some, (payC_ok hb).1]
  unfold pbS
  rw [hn]
  cases bendB v (nI n) k (nI a) (nI r) (nI h) with
  | false => rw [if_pos (show b32 false = 0 by decide)]; exact OK_some ⟨rfl, p2⟩
  | true => rw [if_neg (show ¬ b32 true = 0 by decide)]; exact OK_some ⟨rfl, p2⟩
theorem C_mostFrom {k d a r : Nat} (hx : CX g c X V v lo hi) (h109 : gR g 109 X = some (X + 35)) (hg : PG g X) (ht : CT g c X (X + 35) v w) (hn : w 0 = nI n) (hn2 : n ≤ 5000) (hk : k + d + 1 = vC v) (ha : a < vW v) (hr : r < vW v) (hP : ∀ d', d = d' + 1 → ∀ h, h < vW v → cA c (X + 207 + 9 * (k + 1) + r) h = nI (dvS v w d' r h)) :
    OK (f_c_X0_mostFrom g X (nI k) (nI a) (nI r) c) (fun o => o.1 = nI (dvS v w d a r) ∧ CN X c o.2) := by
  have hb := hx.2.2.2.2.2.1
  have hb1 := hb.1
  have hb2 := hb.2.1
  unfold f_c_X0_mostFrom
  rw [if_pos hx.1, C_columns hx.1 hx.2.1 hx.b, xbd_some, nl_1, nI_m1 (by omega)]
  cases d with
  | zero =>
    obtain ⟨⟨b, c1⟩, e1, p1, p2⟩ := C_paidBy (k := k) (a := a) (r := r) (h := r) hx h109 ht hn hn2 (by omega) (by omega) (by omega) (by omega)
    rw [if_pos (show nI k = nI (vC v - 1) by rw [show vC v - 1 = k by omega]), e1, xbd_some]
    refine OK_some ⟨?_, p2⟩
    show b = nI (pbS v w (vC v - 1) a r r)
    rw [show vC v - 1 = k by omega]; exact p1
  | succ d =>
    rw [if_neg (by rw [nI_eq (by omega) (by omega)]; omega)]
    have hd := hP d rfl
    refine OK_bind (P := fun o => o.1 = nI (dvS v w (d + 1) a r) ∧ CN X c o.2) ?_ (fun o ho => OK_some ho)
    have fin := dvS_s (v := v) (w := w) (d := d) (a := a) hr
    refine itr_for (fun h s => ∃ c', s = (mI (bsN (nrS v r) (fun h => pbS v w (vC v - 2 - d) a r h + dvS v w d r h) h), nI h, c') ∧ CN X c c') _ 0 (vW v) ?_ ?_ (by omega) (by omega) ⟨c, rfl, CN.refl X c⟩
    · rintro h s - hh ⟨c', rfl, q1⟩
      have hx' := hx.cn q1
      have ht' := ht.cn q1
      have h9 : ¬ nI (vW v) ≤ nI h := by rw [nI_leI (by omega) (by omega)]; omega
      show OK (Bc_X0_mostFrom_25 g X (nI k) (nI a) (nI r) (mI (bsN (nrS v r) (fun h => pbS v w (vC v - 2 - d) a r h + dvS v w d r h) h)) (nI h) c') _
      unfold Bc_X0_mostFrom_25 Jc_X0_mostFrom_77
      rw [if_pos hx'.1, hx'.2.1, Option.bind_some, if_pos hx'.b.1, hx'.b.2.2.1, if_neg h9, C_areNear hx' (by omega) (by omega), xbd_some, nl_1, nI_add, nI_add]
      have cs : bsN (nrS v r) (fun h => pbS v w (vC v - 2 - d) a r h + dvS v w d r h) (h + 1) = if nrS v r h = true then (match bsN (nrS v r) (fun h => pbS v w (vC v - 2 - d) a r h + dvS v w d r h) h with | none => some (pbS v w (vC v - 2 - d) a r h + dvS v w d r h, h) | some (m, b) => if m < pbS v w (vC v - 2 - d) a r h + dvS v w d r h then some (pbS v w (vC v - 2 - d) a r h + dvS v w d r h, h) else some (m, b)) else bsN (nrS v r) (fun h => pbS v w (vC v - 2 - d) a r h + dvS v w d r h) h := rfl
      cases hnr : nrS v r h with
      | false =>
        rw [if_pos (show b32 false = 0 by decide)]
        rw [hnr, if_neg (by decide)] at cs
        exact OK_some (Or.inl ⟨_, rfl, c', by rw [cs], q1⟩)
      | true =>
        rw [if_neg (show ¬ b32 true = 0 by decide)]
        rw [hnr, if_pos rfl] at cs
        obtain ⟨⟨b, c1⟩, e1, p1, p2⟩ := C_paidBy (k := k) (a := a) (r := r) (h := h) hx' h109 ht' hn hn2 (by omega) (by omega) (by omega) (by omega)
        have p1 : b = nI (pbS v w k a r h) := p1
        have gi := hg.1.2.2.2 (k + 1) (by omega)
        have ec : cA c1 (X + 207 + 9 * (k + 1) + r) h = nI (dvS v w d r h) := by
          rw [(p2 _ (by omega)).2.2.2.1, (q1 _ (by omega)).2.2.2.1]; exact hd h hh
        rw [e1, xbd_some, hg.1.1, Option.bind_some, if_pos hg.1.2.1, hg.1.2.2.1, if_pos (xin_nI (show k + 1 < 10 by omega) (by omega)), nI_clamp (show k + 1 < 2 ^ 31 by omega), gi.1.1, if_pos gi.1.2.1, gi.1.2.2, if_pos (xin_nI (show r < 8 by omega) (by omega)), nI_clamp (show r < 2 ^ 31 by omega), (gi.2 r (by omega)).1, if_pos (gi.2 r (by omega)).2.1, (gi.2 r (by omega)).2.2, if_pos (xin_nI (show h < 8 by omega) (by omega)), nI_clamp (show h < 2 ^ 31 by omega), ec, p1, nI_add, C_max, xbd_some]
        have ek : vC v - 2 - d = k := by omega
        have l1 := pbS_le (w := w) (c := k) (a := a) (r := r) (h := h) hb
        have l2 := dvS_le (w := w) hb d r h hh
        refine OK_some (Or.inl ⟨_, rfl, c1, ?_, q1.trans p2⟩)
        rw [cs, ek]
        have okk := bsN_ok (P := nrS v r) (f := fun h => pbS v w k a r h + dvS v w d r h) h
        revert okk
        cases bsN (nrS v r) (fun h => pbS v w k a r h + dvS v w d r h) h with
        | none =>
          intro _
          show ((if (-1 : Int32) < nI (pbS v w k a r h + dvS v w d r h) then nI (pbS v w k a r h + dvS v w d r h) else -1), nI (h + 1), c1) = (nI (pbS v w k a r h + dvS v w d r h), nI (h + 1), c1)
          rw [if_pos (by rw [i32_lt, nI_toInt (by omega)]; have : (-1 : Int32).toInt = -1 := by decide
                         omega)]
        | some mb =>
          obtain ⟨m, b2⟩ := mb
          intro okk
          have lb := dvS_le (w := w) hb d r b2 (by have := okk.1; omega)
          have lc := pbS_le (w := w) (c := k) (a := a) (r := r) (h := b2) hb
          have em : pbS v w k a r b2 + dvS v w d r b2 = m := okk.2.2.1
          show ((if nI m < nI (pbS v w k a r h + dvS v w d r h) then nI (pbS v w k a r h + dvS v w d r h) else nI m), nI (h + 1), c1) = (mI (if m < pbS v w k a r h + dvS v w d r h then some (pbS v w k a r h + dvS v w d r h, h) else some (m, b2)), nI (h + 1), c1)
          by_cases e : m < pbS v w k a r h + dvS v w d r h
          · rw [if_pos e, if_pos (by rw [nI_ltI (by omega) (by omega)]; exact e)]; rfl
          · rw [if_neg e, if_neg (by rw [nI_ltI (by omega) (by omega)]; exact e)]; rfl
    · rintro s ⟨c', rfl, q1⟩
      have hx' := hx.cn q1
      have h9 : nI (vW v) ≤ nI (vW v) := by rw [nI_leI (by omega) (by omega)]; omega
      show OK (Bc_X0_mostFrom_25 g X (nI k) (nI a) (nI r) _ (nI (vW v)) c') _
      unfold Bc_X0_mostFrom_25
      rw [if_pos hx'.1, hx'.2.1, Option.bind_some, if_pos hx'.b.1, hx'.b.2.2.1, if_pos h9, fin.1]
      exact OK_some ⟨_, rfl, rfl, q1⟩
end ZOs
