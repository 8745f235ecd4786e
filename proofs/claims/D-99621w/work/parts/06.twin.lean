/-! THE TWIN's world: one object at m, its arrays behind it -/
set_option maxRecDepth 100000
/-- the twin's fields by number: 0 int, 1 long, 2 array -/
def t_kd (k : Nat) : Nat := ([2, 0, 0, 0, 0, 0, 0, 0, 0, 2, 0, 2, 2, 2, 2, 2, 2, 2, 2, 2, 2, 2, 2, 2, 2, 2, 2, 2, 2, 2, 2, 2, 2, 2, 2, 2, 2, 2, 2, 2, 2, 2, 2, 2, 0, 2, 0, 0, 2, 2, 2, 2, 2, 0, 0, 2, 2, 2, 0, 0, 0, 0, 2, 2, 0, 0, 0, 0, 0, 2, 0, 0, 2, 0, 0, 2, 2, 2, 2, 0, 2, 2, 2, 0, 2, 0, 0, 1, 2, 2, 2, 2, 2, 2, 2, 2, 2, 2, 2, 2, 2, 2, 2, 2, 2, 2, 2, 2, 2, 2, 2, 2, 2, 2, 2, 2, 2, 2, 2, 2, 2, 0, 2, 0, 0, 0, 2, 0, 1, 0, 2, 0] : List Nat).getD k 9
/-- arrays by their field's number: 0 ints, 1 longs, 2 chars, 3 booleans -/
def t_akl : List Nat := [0, 9, 9, 9, 9, 9, 9, 9, 9, 0, 9, 2, 2, 2, 2, 2, 2, 2, 2, 2, 2, 2, 2, 2, 2, 2, 2, 2, 2, 2, 2, 2, 2, 2, 2, 2, 2, 2, 2, 2, 2, 2, 2, 2, 9, 0, 9, 9, 1, 0, 0, 0, 0, 9, 9, 0, 0, 0, 9, 9, 9, 9, 0, 0, 9, 9, 9, 9, 9, 0, 9, 9, 0, 9, 9, 0, 0, 0, 0, 9, 0, 0, 3, 9, 0, 9, 9, 9, 2, 2, 2, 2, 2, 2, 2, 2, 2, 2, 2, 2, 2, 2, 2, 2, 2, 2, 2, 2, 2, 2, 2, 2, 2, 2, 2, 2, 2, 2, 2, 2, 0, 9, 0, 9, 9, 9, 1, 9, 9, 9, 0, 9]
theorem t_akl_len : t_akl.length = 132 := by decide +kernel
def t_ak (k : Nat) : Nat := t_akl.getD k 9
def t_len (k : Nat) : Nat := ([1600, 0, 0, 0, 0, 0, 0, 0, 0, 6, 0, 6, 2, 5, 4, 4, 6, 4, 4, 2, 4, 3, 5, 4, 4, 5, 6, 3, 4, 6, 5, 3, 4, 6, 6, 6, 6, 5, 2, 3, 3, 3, 3, 3, 0, 6, 0, 0, 10, 50, 160, 10, 80, 0, 0, 4, 4, 3200, 0, 0, 0, 0, 303, 182, 0, 0, 0, 0, 0, 5, 0, 0, 5, 0, 0, 160, 640, 640, 10, 0, 48, 248, 8, 0, 6060, 0, 0, 0, 5, 4, 5, 5, 4, 5, 3, 3, 2, 3, 3, 3, 6, 3, 4, 6, 4, 5, 3, 4, 6, 6, 6, 4, 2, 4, 3, 5, 6, 5, 3, 4, 1700, 0, 1700, 0, 0, 0, 1700, 0, 0, 0, 191, 0] : List Nat).getD k 0
def t_ord (k : Nat) : Nat := ([0, 0, 0, 0, 0, 0, 0, 0, 0, 1, 0, 2, 3, 4, 5, 6, 7, 8, 9, 10, 11, 12, 13, 14, 15, 16, 17, 18, 19, 20, 21, 22, 23, 24, 25, 26, 27, 28, 29, 30, 31, 32, 33, 34, 0, 35, 0, 0, 36, 37, 38, 39, 40, 0, 0, 41, 42, 43, 0, 0, 0, 0, 44, 45, 0, 0, 0, 0, 0, 46, 0, 0, 47, 0, 0, 48, 49, 50, 51, 0, 52, 53, 54, 0, 55, 0, 0, 0, 56, 57, 58, 59, 60, 61, 62, 63, 64, 65, 66, 67, 68, 69, 70, 71, 72, 73, 74, 75, 76, 77, 78, 79, 80, 81, 82, 83, 84, 85, 86, 87, 88, 0, 89, 0, 0, 0, 90, 0, 0, 0, 91, 0] : List Nat).getD k 0
def t_na : Nat := 92
theorem t_ord_lt : ∀ k, k < 132 → t_ord k < t_na := by decide +kernel
theorem t_ak_lt {k : Nat} (h : t_ak k ≠ 9) : k < 132 := by
  refine Nat.lt_of_not_le (fun q => h ?_)
  unfold t_ak
  rw [List.getD_eq_getElem?_getD, List.getElem?_eq_none (by rw [t_akl_len]; exact q)]; rfl
theorem t_ord_inj : ∀ k, k < 132 → ∀ j, j < 132 → t_ak k ≠ 9 → t_ak j ≠ 9 → t_ord k = t_ord j → k = j := by decide +kernel
theorem t_len_lt : ∀ k, k < 132 → t_len k < 2147483648 := by decide +kernel

abbrev TS : Type := (Nat → Int32) × (Nat → Int64) × (Nat → Nat → Int32) × (Nat → Nat → Int64)
def tI (τ : TS) (k : Nat) : Int32 := τ.1 k
def tL (τ : TS) (k : Nat) : Int64 := τ.2.1 k
def tA (τ : TS) (k i : Nat) : Int32 := τ.2.2.1 k i
def tM (τ : TS) (k i : Nat) : Int64 := τ.2.2.2 k i
def sI (τ : TS) (k : Nat) (v : Int32) : TS := (fun j => if j = k then v else τ.1 j, τ.2)
def sL (τ : TS) (k : Nat) (v : Int64) : TS := (τ.1, fun j => if j = k then v else τ.2.1 j, τ.2.2)
def sA (τ : TS) (k i : Nat) (v : Int32) : TS := (τ.1, τ.2.1, fun j => if j = k then upd (τ.2.2.1 j) i v else τ.2.2.1 j, τ.2.2.2)
def sM (τ : TS) (k i : Nat) (v : Int64) : TS := (τ.1, τ.2.1, τ.2.2.1, fun j => if j = k then vp_updL (τ.2.2.2 j) i v else τ.2.2.2 j)
/-- an index within -/
def xin (i : Int32) (n : Nat) : Bool := decide (0 ≤ i) && decide (i.toNatClampNeg < n)
theorem xin_vp {i : Int32} {n : Nat} (h : xin i n = true) : vp_in i n := by
  unfold xin at h
  simp only [Bool.and_eq_true, decide_eq_true_eq] at h
  intro q
  rcases q with q | q
  · have h1 := Int32.le_iff_toInt_le.mp h.1
    have h2 := Int32.lt_iff_toInt_lt.mp q
    omega
  · omega
/-- the class, its slots, the classes of arrays -/
abbrev TD : Type := ClassId × (Nat → Nat) × (Nat → ClassId)
def tAd (m k : Nat) : Nat := m + 1 + t_ord k
def tV (m : Nat) (τ : TS) (k : Nat) : Value := if t_kd k = 0 then .int (τ.1 k) else if t_kd k = 1 then .long (τ.2.1 k) else .ref (tAd m k)
def tAr (τ : TS) (k : Nat) : vp_A := (t_len k, if t_ak k = 1 then .inr (.inl (τ.2.2.2 k)) else .inl (τ.2.2.1 k))
def RelT (D : TD) (m : Nat) (τ : TS) (H : Heap) : Prop := t_OB m D.1 132 D.2.1 H (tV m τ) ∧ ∀ k, t_ak k ≠ 9 → H[tAd m k]? = some (vp_cell (D.2.2 (t_ak k)) (tAr τ k))
def AT (m : Nat) (q : Nat) : Prop := m ≤ q ∧ q < m + 1 + t_na
def KT (D : TD) (U : State) : Prop := u_Kn U RX6 TX6 132 D.1 D.2.1 ∧ ArrOfT U (D.2.2 0) .int ∧ ArrOfT U (D.2.2 1) .long ∧ ArrOfT U (D.2.2 2) .char ∧ ArrOfT U (D.2.2 3) .boolean
theorem KT_alike {D : TD} : ∀ u U : State, u.vm.Alike U.vm → KT D u → KT D U := fun _ _ h q => ⟨u_Kn_moved h q.1, arrOfT_moved h q.2.1, arrOfT_moved h q.2.2.1, arrOfT_moved h q.2.2.2.1, arrOfT_moved h q.2.2.2.2⟩
theorem KT_moved {D : TD} : xKp (KT D) := ⟨fun u U h q => KT_alike u U h.alike q, fun u U h q => KT_alike u U (h ▸ Vm.Alike.refl u.vm) q⟩
abbrev wT (D : TD) (m : Nat) : xW TS := (RelT D m, AT m, KT D, fun _ _ => True)
theorem AT_self (m : Nat) : AT m m := ⟨Nat.le_refl _, by unfold t_na; omega⟩
theorem AT_arr {m k : Nat} (h : t_ak k ≠ 9) : AT m (tAd m k) := by
  have := t_ord_lt k (t_ak_lt h)
  unfold AT tAd
  omega
theorem tAd_ne (m k : Nat) : tAd m k ≠ m := by unfold tAd; omega
theorem tAd_inj {m k j : Nat} (hk : t_ak k ≠ 9) (hj : t_ak j ≠ 9) (h : tAd m k = tAd m j) : k = j := t_ord_inj k (t_ak_lt hk) j (t_ak_lt hj) hk hj (by unfold tAd at h; omega)
theorem t_recv {D : TD} {m : Nat} {τ : TS} {s : State} (H : Heap) (h : RelT D m τ H) (hK : KT D s) : ∃ cellB : Cell, H[m]? = some cellB ∧ cellB.vm.isStatics = false ∧ s.vm.findClass RX6 = some cellB.cls := by
  obtain ⟨⟨cell, h1, h2, h3, -⟩, -⟩ := h
  exact ⟨cell, h1, by rw [h3]; rfl, by rw [h2]; exact hK.1.2.1⟩
section XT
variable {D : TD} {m : Nat} {K : xK} {M : xM} {Q : State → Prop} {τ : TS} {pc : Nat} {loc : List (Nat × Value)} {st : List Value}
theorem xt_get {index : Nat} (k : Nat) (hk : k < 132) (q : Cond.fieldLink RX6 index RX6 (TX6 k).2.1 (TX6 k).2.2.1 ∈ lw_all) (hc : (TX6 k).1 = RX6) (ho : M.2.2.1 = RX6) (d : decode M.1 pc = .ok (.getfield index, 3))
    (kk : xV (wT D m) K M Q τ (pc + 3) loc (tV m τ k :: st)) : xV (wT D m) K M Q τ pc loc (.ref m :: st) := by
  intro ok H locs cells slots ls hR hS hcc hs hl
  have hR' : RelT D m τ H := hR
  obtain ⟨⟨cell, q1, q2, q3, q4⟩, -⟩ := hR'
  obtain ⟨⟨hSl, hfc, kC, hkC, hkind⟩, -⟩ := ok.2.2.2.2.2.2.2.2.2.1
  obtain ⟨cf, kf, fi, f, hi, hsl⟩ := hSl k hk
  have hown := ok.2.2.2.1
  rw [ho] at hown
  rw [hc] at hi
  have hl0 := u_lays ok.2.2.2.2.1 in_X6 hk
  rw [hc] at hl0
  refine W.getf ok.1 ok.2.1 hown (ok.2.2.2.2.1 _ q) hi (u_facts hfc hkC hl0 hi).1 q1 (by rw [q3]; exact fun h => by cases h) (v := tV m τ k) ?_ rfl rfl d (kk ok H locs cells slots ls hR hS hcc hs hl)
  rw [hsl]
  exact q4 k hk
theorem xt_getI {index : Nat} (k : Nat) (hk : k < 132) (q : Cond.fieldLink RX6 index RX6 (TX6 k).2.1 (TX6 k).2.2.1 ∈ lw_all) (hc : (TX6 k).1 = RX6) (hd : t_kd k = 0) (ho : M.2.2.1 = RX6) (d : decode M.1 pc = .ok (.getfield index, 3))
    (kk : xV (wT D m) K M Q τ (pc + 3) loc (.int (tI τ k) :: st)) : xV (wT D m) K M Q τ pc loc (.ref m :: st) := xt_get k hk q hc ho d (by rw [show tV m τ k = .int (tI τ k) by simp [tV, hd, tI]]; exact kk)
theorem xt_getL {index : Nat} (k : Nat) (hk : k < 132) (q : Cond.fieldLink RX6 index RX6 (TX6 k).2.1 (TX6 k).2.2.1 ∈ lw_all) (hc : (TX6 k).1 = RX6) (hd : t_kd k = 1) (ho : M.2.2.1 = RX6) (d : decode M.1 pc = .ok (.getfield index, 3))
    (kk : xV (wT D m) K M Q τ (pc + 3) loc (.long (tL τ k) :: st)) : xV (wT D m) K M Q τ pc loc (.ref m :: st) := xt_get k hk q hc ho d (by rw [show tV m τ k = .long (tL τ k) by simp [tV, hd, tL]]; exact kk)
theorem xt_getA {index : Nat} (k : Nat) (hk : k < 132) (q : Cond.fieldLink RX6 index RX6 (TX6 k).2.1 (TX6 k).2.2.1 ∈ lw_all) (hc : (TX6 k).1 = RX6) (hd : t_kd k = 2) (ho : M.2.2.1 = RX6) (d : decode M.1 pc = .ok (.getfield index, 3))
    (kk : xV (wT D m) K M Q τ (pc + 3) loc (.ref (tAd m k) :: st)) : xV (wT D m) K M Q τ pc loc (.ref m :: st) := xt_get k hk q hc ho d (by rw [show tV m τ k = .ref (tAd m k) by simp [tV, hd]]; exact kk)
theorem xt_put {index : Nat} (k : Nat) (hk : k < 132) (q : Cond.fieldLink RX6 index RX6 (TX6 k).2.1 (TX6 k).2.2.1 ∈ lw_all) (hc : (TX6 k).1 = RX6) (hfin : (TX6 k).2.2.2 = false) {ty : FieldType} {v : Value} {τ' : TS} (hty : parseFieldDescriptor (TX6 k).2.2.1 = some ty) (hn : narrow ty v = v) (hf : fits ty v = true) (hv : ∀ j, j < 132 → updV (tV m τ) k v j = tV m τ' j) (ha : ∀ j, tAr τ j = tAr τ' j)
    (ho : M.2.2.1 = RX6) (d : decode M.1 pc = .ok (.putfield index, 3)) (kk : xV (wT D m) K M Q τ' (pc + 3) loc st) : xV (wT D m) K M Q τ pc loc (v :: .ref m :: st) := by
  intro ok H locs cells slots ls hR hS hcc hs hl
  have hR' : RelT D m τ H := hR
  obtain ⟨⟨cell, q1, q2, q3, q4⟩, hAr⟩ := hR'
  obtain ⟨⟨hSl, hfc, kC, hkC, hkind⟩, -⟩ := ok.2.2.2.2.2.2.2.2.2.1
  have hap : ∀ x y, x < 132 → y < 132 → x ≠ y → D.2.1 x ≠ D.2.1 y := by
    intro x y hx hy hne
    obtain ⟨_, _, _, fa, hia, ea⟩ := hSl x hx
    obtain ⟨_, _, _, fb, hib, eb⟩ := hSl y hy
    rw [← ea, ← eb]
    refine u_apart (u_lays ok.2.2.2.2.1 in_X6 hx) (u_lays ok.2.2.2.2.1 in_X6 hy) hia hib ?_
    rw [(State.fieldFound?_type hia (tyX6_ok x hx)).1, (State.fieldFound?_type hib (tyX6_ok y hy)).1]
    exact nmX6 x hx y hy hne
  obtain ⟨cf, kf, fi, f, hi, hsl⟩ := hSl k hk
  have hown := ok.2.2.2.1
  rw [ho] at hown
  rw [hc] at hi
  have hlay := ok.2.2.2.2.1 _ (in_X6 _ (u_in_lay hk))
  unfold u_lay at hlay
  rw [if_neg (by rw [hfin]; decide), hc] at hlay
  have hl0 := u_lays ok.2.2.2.2.1 in_X6 hk
  rw [hc] at hl0
  have hst := (u_facts hfc hkC hl0 hi).1
  have h6 := u_store hfc hkC hkind hlay hi hty hn hf
  refine W.putK ok.1 ok.2.1 (f := f) ⟨hown, ok.2.2.2.2.1 _ q, ⟨_, _, _, hi⟩, hst⟩ (by rw [q2]; exact h6) q1 q3 (by rw [hsl]; exact k2_hasslot (q4 k hk)) rfl rfl d fun H' e1 e2 e3 => ?_
  rw [hsl] at e1 ⊢
  refine kk ok H' _ cells slots ls ⟨t_OB.to (V := updV (tV m τ) k v) ⟨_, e1, q2, q3, t_set q4 hap hk v⟩ hv, fun j hj => ?_⟩ (hS.put e2 e3 (AT_self m)) hcc hs hl
  rw [e3 _ (tAd_ne m j), hAr j hj, ha j]
theorem xt_putI {index : Nat} (k : Nat) (hk : k < 132) (q : Cond.fieldLink RX6 index RX6 (TX6 k).2.1 (TX6 k).2.2.1 ∈ lw_all) (hc : (TX6 k).1 = RX6) (hfin : (TX6 k).2.2.2 = false) (hd : t_kd k = 0) {v : Int32} (hty : parseFieldDescriptor (TX6 k).2.2.1 = some .int)
    (ho : M.2.2.1 = RX6) (d : decode M.1 pc = .ok (.putfield index, 3)) (kk : xV (wT D m) K M Q (sI τ k v) (pc + 3) loc st) : xV (wT D m) K M Q τ pc loc (.int v :: .ref m :: st) := by
  refine xt_put (τ' := sI τ k v) k hk q hc hfin hty rfl rfl (fun j _ => ?_) (fun j => rfl) ho d kk
  unfold updV tV sI
  by_cases hj : j = k
  · subst hj; simp [hd]
  · simp [hj]
theorem xt_putZ {index : Nat} (k : Nat) (hk : k < 132) (q : Cond.fieldLink RX6 index RX6 (TX6 k).2.1 (TX6 k).2.2.1 ∈ lw_all) (hc : (TX6 k).1 = RX6) (hfin : (TX6 k).2.2.2 = false) (hd : t_kd k = 0) {v : Int32} (hty : parseFieldDescriptor (TX6 k).2.2.1 = some .boolean) (hn : narrow .boolean (.int v) = .int v) (hf : fits .boolean (.int v) = true)
    (ho : M.2.2.1 = RX6) (d : decode M.1 pc = .ok (.putfield index, 3)) (kk : xV (wT D m) K M Q (sI τ k v) (pc + 3) loc st) : xV (wT D m) K M Q τ pc loc (.int v :: .ref m :: st) := by
  refine xt_put (τ' := sI τ k v) k hk q hc hfin hty hn hf (fun j _ => ?_) (fun j => rfl) ho d kk
  unfold updV tV sI
  by_cases hj : j = k
  · subst hj; simp [hd]
  · simp [hj]
theorem xt_putL {index : Nat} (k : Nat) (hk : k < 132) (q : Cond.fieldLink RX6 index RX6 (TX6 k).2.1 (TX6 k).2.2.1 ∈ lw_all) (hc : (TX6 k).1 = RX6) (hfin : (TX6 k).2.2.2 = false) (hd : t_kd k = 1) {v : Int64} (hty : parseFieldDescriptor (TX6 k).2.2.1 = some .long)
    (ho : M.2.2.1 = RX6) (d : decode M.1 pc = .ok (.putfield index, 3)) (kk : xV (wT D m) K M Q (sL τ k v) (pc + 3) loc st) : xV (wT D m) K M Q τ pc loc (.long v :: .ref m :: st) := by
  refine xt_put (τ' := sL τ k v) k hk q hc hfin hty rfl rfl (fun j _ => ?_) (fun j => rfl) ho d kk
  unfold updV tV sL
  by_cases hj : j = k
  · subst hj; simp [hd]
  · simp [hj]
theorem tAr_i {τ : TS} {k : Nat} (h : t_ak k ≠ 1) : tAr τ k = (t_len k, .inl (τ.2.2.1 k)) := by simp [tAr, h]
theorem tAr_l {τ : TS} {k : Nat} (h : t_ak k = 1) : tAr τ k = (t_len k, .inr (.inl (τ.2.2.2 k))) := by simp [tAr, h]
theorem xt_ald {op : Instr} {ty : FieldType} (k : Nat) {n : Nat} (hn : t_len k = n) (hk1 : t_ak k ≠ 1) (hk9 : t_ak k ≠ 9) {i : Int32} (hin : xin i n = true) (hA : ∀ s, KT D s → ArrOfT s (D.2.2 (t_ak k)) ty)
    (row : ∀ (_ : xOK (wT D m) K M) (H : Heap) (locs : List Loc) (cells slots : Nat) (ls : Array Slot) (cell : Cell) (v : Value), H[tAd m k]? = some cell → (xKs K).isArrayOf cell ty → cell.vm ≠ .unknown → ¬ (i < 0 ∨ cell.slots.size ≤ i.toNatClampNeg) → cell.slots[i.toNatClampNeg]? = some v →
      xU K H locs cells slots Q (F0 (xKm K) (pc + 1) ls (v :: st)) → xU K H locs cells slots Q (F0 (xKm K) pc ls (.int i :: .ref (tAd m k) :: st)))
    (kk : xV (wT D m) K M Q τ (pc + 1) loc (.int (tA τ k i.toNatClampNeg) :: st)) : xV (wT D m) K M Q τ pc loc (.int i :: .ref (tAd m k) :: st) := by
  intro ok H locs cells slots ls hR hS hcc hs hl
  have hR' : RelT D m τ H := hR
  have hcell := hR'.2 k hk9
  rw [tAr_i hk1, vp_cell_i, hn] at hcell
  have hv := xin_vp hin
  have hlt : i.toNatClampNeg < n := Nat.not_le.mp fun q => hv (Or.inr q)
  exact row ok H locs cells slots ls _ _ hcell (hA _ ok.2.2.2.2.2.2.2.2.2.1 n _) (fun q => by cases q) (by rw [arrV_size]; exact hv) (by rw [arrV_read _ _ hlt]; rfl) (kk ok H locs cells slots ls hR hS hcc hs hl)
theorem xt_iald (k : Nat) {n : Nat} (hn : t_len k = n) (hk : t_ak k = 0) {i : Int32} (hin : xin i n = true) (d : decode M.1 pc = .ok (.iaload, 1))
    (kk : xV (wT D m) K M Q τ (pc + 1) loc (.int (tA τ k i.toNatClampNeg) :: st)) : xV (wT D m) K M Q τ pc loc (.int i :: .ref (tAd m k) :: st) :=
  xt_ald (op := .iaload) k hn (by rw [hk]; decide) (by rw [hk]; decide) hin (fun s h => by rw [hk]; exact h.2.1) (fun ok _ _ _ _ _ _ _ h1 h2 h3 h4 h5 h6 => W.iald ok.1 ok.2.1 h1 h2 h3 h4 h5 rfl rfl d h6) kk
theorem xt_cald (k : Nat) {n : Nat} (hn : t_len k = n) (hk : t_ak k = 2) {i : Int32} (hin : xin i n = true) (d : decode M.1 pc = .ok (.caload, 1))
    (kk : xV (wT D m) K M Q τ (pc + 1) loc (.int (tA τ k i.toNatClampNeg) :: st)) : xV (wT D m) K M Q τ pc loc (.int i :: .ref (tAd m k) :: st) :=
  xt_ald (op := .caload) k hn (by rw [hk]; decide) (by rw [hk]; decide) hin (fun s h => by rw [hk]; exact h.2.2.2.1) (fun ok _ _ _ _ _ _ _ h1 h2 h3 h4 h5 h6 => W.cald ok.1 ok.2.1 h1 h2 h3 h4 h5 rfl rfl d h6) kk
theorem xt_zald (k : Nat) {n : Nat} (hn : t_len k = n) (hk : t_ak k = 3) {i : Int32} (hin : xin i n = true) (d : decode M.1 pc = .ok (.baload, 1))
    (kk : xV (wT D m) K M Q τ (pc + 1) loc (.int (tA τ k i.toNatClampNeg) :: st)) : xV (wT D m) K M Q τ pc loc (.int i :: .ref (tAd m k) :: st) :=
  xt_ald (op := .baload) k hn (by rw [hk]; decide) (by rw [hk]; decide) hin (fun s h => by rw [hk]; exact h.2.2.2.2) (fun ok _ _ _ _ _ _ _ h1 h2 h3 h4 h5 h6 => W.zald ok.1 ok.2.1 h1 h2 h3 h4 h5 rfl rfl d h6) kk
theorem xt_lald (k : Nat) {n : Nat} (hn : t_len k = n) (hk : t_ak k = 1) {i : Int32} (hin : xin i n = true) (d : decode M.1 pc = .ok (.laload, 1))
    (kk : xV (wT D m) K M Q τ (pc + 1) loc (.long (tM τ k i.toNatClampNeg) :: st)) : xV (wT D m) K M Q τ pc loc (.int i :: .ref (tAd m k) :: st) := by
  intro ok H locs cells slots ls hR hS hcc hs hl
  have hR' : RelT D m τ H := hR
  have hcell := hR'.2 k (by rw [hk]; decide)
  rw [tAr_l hk, vp_cell_l, hn, hk] at hcell
  have hv := xin_vp hin
  have hlt : i.toNatClampNeg < n := Nat.not_le.mp fun q => hv (Or.inr q)
  exact W.lald ok.1 ok.2.1 hcell (ok.2.2.2.2.2.2.2.2.2.1.2.2.1 n _) (fun q => by cases q) (by rw [arrV_size]; exact hv) (by rw [arrV_read _ _ hlt]; rfl) rfl rfl d (kk ok H locs cells slots ls hR hS hcc hs hl)
theorem xt_alen (k : Nat) {n : Nat} {v : Int32} (hn : t_len k = n) (hv : Int32.ofNat n = v) {ty : FieldType} (hk1 : t_ak k ≠ 1) (hk9 : t_ak k ≠ 9) (hA : ∀ s, KT D s → ArrOfT s (D.2.2 (t_ak k)) ty) (d : decode M.1 pc = .ok (.arraylength, 1))
    (kk : xV (wT D m) K M Q τ (pc + 1) loc (.int v :: st)) : xV (wT D m) K M Q τ pc loc (.ref (tAd m k) :: st) := by
  intro ok H locs cells slots ls hR hS hcc hs hl
  have hR' : RelT D m τ H := hR
  have hcell := hR'.2 k hk9
  rw [tAr_i hk1, vp_cell_i, hn] at hcell
  exact W.alen ok.1 ok.2.1 hcell (hA _ ok.2.2.2.2.2.2.2.2.2.1 n _) (by rw [arrV_size]; exact hv) rfl rfl d (kk ok H locs cells slots ls hR hS hcc hs hl)
theorem xt_clen (k : Nat) {n : Nat} {v : Int32} (hn : t_len k = n) (hv : Int32.ofNat n = v) (hk : t_ak k = 2) (d : decode M.1 pc = .ok (.arraylength, 1))
    (kk : xV (wT D m) K M Q τ (pc + 1) loc (.int v :: st)) : xV (wT D m) K M Q τ pc loc (.ref (tAd m k) :: st) :=
  xt_alen k hn hv (by rw [hk]; decide) (by rw [hk]; decide) (fun s h => by rw [hk]; exact h.2.2.2.1) d kk
theorem RelT_sA {τ : TS} {H H' : Heap} {k j : Nat} {v : Int32} {cell : Cell} (hR : RelT D m τ H) (h1 : t_ak k ≠ 1) (h9 : t_ak k ≠ 9) (hcell : H[tAd m k]? = some cell) (e1 : H'[tAd m k]? = some (cell.setSlot j (.int v))) (e3 : ∀ q, q ≠ tAd m k → H'[q]? = H[q]?) : RelT D m (sA τ k j v) H' := by
  obtain ⟨⟨c0, q1, q2⟩, hAr⟩ := hR
  refine ⟨⟨c0, by rw [e3 _ (Ne.symm (tAd_ne m k))]; exact q1, q2⟩, fun i hi => ?_⟩
  by_cases hik : i = k
  · subst hik
    have hc := hAr i h9
    rw [hcell] at hc
    rw [e1, Option.some.inj hc, tAr_i h1, tAr_i h1, vp_cell_i, vp_cell_i, arrV_store]
    congr 2
    funext q
    by_cases hq : q = j
    · subst hq; simp [updV, upd, sA]
    · simp [updV, upd, sA, hq]
  · rw [e3 _ (fun h => hik (tAd_inj hi h9 h)), hAr i hi]
    simp [tAr, sA, hik]
theorem xt_iast (k : Nat) {n : Nat} (hn : t_len k = n) (hk : t_ak k = 0) {i v : Int32} (hin : xin i n = true) (d : decode M.1 pc = .ok (.iastore, 1))
    (kk : xV (wT D m) K M Q (sA τ k i.toNatClampNeg v) (pc + 1) loc st) : xV (wT D m) K M Q τ pc loc (.int v :: .int i :: .ref (tAd m k) :: st) := by
  intro ok H locs cells slots ls hR hS hcc hs hl
  have hR' : RelT D m τ H := hR
  have h1 : t_ak k ≠ 1 := by rw [hk]; decide
  have h9 : t_ak k ≠ 9 := by rw [hk]; decide
  have hcell := hR'.2 k h9
  rw [tAr_i h1, vp_cell_i, hn, hk] at hcell
  have hv := xin_vp hin
  refine W.iast ok.1 ok.2.1 hcell (ok.2.2.2.2.2.2.2.2.2.1.2.1 n _) (fun q => by cases q) (by rw [arrV_size]; exact hv) rfl rfl d fun H' e z oq => ?_
  exact kk ok H' _ cells slots ls (RelT_sA hR' h1 h9 hcell e oq) (hS.put z oq (AT_arr h9)) hcc hs hl
theorem xt_zast (k : Nat) {n : Nat} (hn : t_len k = n) (hk : t_ak k = 3) {i v : Int32} (hin : xin i n = true) (d : decode M.1 pc = .ok (.bastore, 1))
    (kk : xV (wT D m) K M Q (sA τ k i.toNatClampNeg (v &&& 1)) (pc + 1) loc st) : xV (wT D m) K M Q τ pc loc (.int v :: .int i :: .ref (tAd m k) :: st) := by
  intro ok H locs cells slots ls hR hS hcc hs hl
  have hR' : RelT D m τ H := hR
  have h1 : t_ak k ≠ 1 := by rw [hk]; decide
  have h9 : t_ak k ≠ 9 := by rw [hk]; decide
  have hcell := hR'.2 k h9
  rw [tAr_i h1, vp_cell_i, hn, hk] at hcell
  have hv := xin_vp hin
  refine W.zast ok.1 ok.2.1 hcell (ok.2.2.2.2.2.2.2.2.2.1.2.2.2.2 n _) (fun q => by cases q) (by rw [arrV_size]; exact hv) rfl rfl d fun H' e z oq => ?_
  exact kk ok H' _ cells slots ls (RelT_sA hR' h1 h9 hcell e oq) (hS.put z oq (AT_arr h9)) hcc hs hl
theorem xt_last (k : Nat) {n : Nat} (hn : t_len k = n) (hk : t_ak k = 1) {i : Int32} {v : Int64} (hin : xin i n = true) (d : decode M.1 pc = .ok (.lastore, 1))
    (kk : xV (wT D m) K M Q (sM τ k i.toNatClampNeg v) (pc + 1) loc st) : xV (wT D m) K M Q τ pc loc (.long v :: .int i :: .ref (tAd m k) :: st) := by
  intro ok H locs cells slots ls hR hS hcc hs hl
  have hR' : RelT D m τ H := hR
  have h9 : t_ak k ≠ 9 := by rw [hk]; decide
  have hcell := hR'.2 k h9
  have hcell0 := hcell
  rw [tAr_l hk, vp_cell_l, hn, hk] at hcell
  have hv := xin_vp hin
  refine W.last ok.1 ok.2.1 hcell (ok.2.2.2.2.2.2.2.2.2.1.2.2.1 n _) (fun q => by cases q) (by rw [arrV_size]; exact hv) rfl rfl d fun H' e z oq => ?_
  refine kk ok H' _ cells slots ls ?_ (hS.put z oq (AT_arr h9)) hcc hs hl
  obtain ⟨⟨c0, q1, q2⟩, hAr⟩ := hR'
  refine ⟨⟨c0, by rw [oq _ (Ne.symm (tAd_ne m k))]; exact q1, q2⟩, fun j hj => ?_⟩
  by_cases hjk : j = k
  · subst hjk
    rw [e, tAr_l hk, vp_cell_l, arrV_store, hk, hn]
    congr 2
    funext q
    by_cases hq : q = i.toNatClampNeg
    · subst hq; simp [updV, vp_updL, sM]
    · simp [updV, vp_updL, sM, hq]
  · rw [oq _ (fun h => hjk (tAd_inj hj h9 h)), hAr j hj]
    simp [tAr, sM, hjk]
end XT
