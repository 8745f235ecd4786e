/-! rows over the component world -/
set_option maxRecDepth 100000
theorem ssum_congr {H H' : Heap} (h : ∀ i : Nat, (H'[i]?).map (fun c => c.slots.size) = (H[i]?).map (fun c => c.slots.size)) : ssum H' = ssum H := by
  unfold ssum
  congr 1
  apply List.ext_getElem?
  intro i
  simpa using h i
theorem ssum_set {H H' : Heap} {a k : Nat} {v : Value} {cell : Cell} (h0 : H[a]? = some cell) (e1 : H'[a]? = some (cell.setSlot k v)) (e3 : ∀ q, q ≠ a → H'[q]? = H[q]?) : ssum H' = ssum H := by
  refine ssum_congr fun i => ?_
  by_cases hi : i = a
  · subst hi
    rw [h0, e1]
    simp [Cell.setSlot]
  · rw [e3 i hi]
theorem ssum_part {s t : State} {locs : List Loc} {c n : Nat} (h : s.sameButNew t locs c n) : ssum t.heap = ssum s.heap + ((t.heap.toList.drop s.heap.size).map (fun c => c.slots.size)).sum := by
  have h1 : (t.heap.toList.take s.heap.size).map (fun c => c.slots.size) = s.heap.toList.map (fun c => c.slots.size) := by
    apply List.ext_getElem?
    intro i
    by_cases hi : i < s.heap.size
    · obtain ⟨c', e1, -, e3, -⟩ := h.2.2.2.2.2 i _ (Array.getElem?_eq_getElem hi)
      simp [hi, e1, e3]
    · rw [List.getElem?_eq_none (by simp; omega), List.getElem?_eq_none (by simp; omega)]
  unfold ssum
  rw [← h1, ← List.sum_append, ← List.map_append, List.take_append_drop]
theorem same_tight {s t : State} {locs : List Loc} {c n : Nat} (h : s.sameButNew t locs c n) : s.sameButNew t locs (t.heap.size - s.heap.size) (ssum t.heap - ssum s.heap) := by
  have h1 := ssum_part h
  exact ⟨h.1, h.2.1, by have := h.2.1; omega, h.2.2.2.1, by omega, h.2.2.2.2.2⟩
theorem ssum_le {s t : State} {locs : List Loc} {c n : Nat} (h : s.sameButNew t locs c n) : ssum s.heap ≤ ssum t.heap := by
  have h1 := ssum_part h
  omega
theorem stand_tight {p : Program} {l : Launch} {e : Env} {R : Room} {s : State} {m : MethodId} {args : Array Value} {below : List Frame} {meth : Method} {c : Code} {T : State} {locs : List Loc} {cells slots : Nat}
    (X : Stand p l e R s m args below meth c T locs cells slots) : Stand p l e R s m args below meth c T locs (T.heap.size - s.heap.size) (ssum T.heap - ssum s.heap) := { X with same := same_tight X.same }
theorem gKo {g : CG} {a t : Nat} (h : gT g a = t) (ht : t < 1000) : gK g a = t := by
  unfold gK
  rw [show g.1 a = t from h]
  exact Nat.mod_eq_of_lt ht
theorem xW_S {A : Nat → Prop} {H0 H H1 : Heap} {locs : List Loc} {a k : Nat} (hS : va_S A H0 H locs) (z : H1.size = H.size) (oq : ∀ q, q ≠ a → H1[q]? = H[q]?) (ha : A a) : va_S A H0 H1 (locs ++ [⟨a, k⟩]) := hS.put z oq ha
section YC
variable {D : CD} {P : CP} {K : xK} {M : xM} {Q : State → Prop} {g : CG} {c : CC} {pc : Nat} {loc : List (Nat × Value)} {st : List Value}
theorem RelC_lt {x : CS} {H : Heap} {a : Nat} (h : RelC D P x H) (ha : gT x.1 a ≠ 0) : a < H.size := by rw [h.1]; exact h.2.2.2.2.2.2.1 a ha
theorem gT_of_gK {x : CG} {a t : Nat} (h : gK x a = t) (h0 : 0 < t) : gT x a ≠ 0 := by
  intro q
  unfold gK at h
  rw [show x.1 a = 0 from q] at h
  simp at h
  omega
theorem RelC_ob {x : CS} {H : Heap} {a t : Nat} (h : RelC D P x H) (ht : gK x.1 a = t) (h0 : 0 < t) (h1 : t < 22) : t_OB a (D.1 t) (kN t) (D.2.1 t) H (fun k => cV x t k a) := by
  have h2 := (h.2.2.2.2.2.2.2 a).1
  rw [ht] at h2
  exact h2 h0 h1
theorem RelC_ar {x : CS} {H : Heap} {a t : Nat} (h : RelC D P x H) (ht : gK x.1 a = t) (h0 : 100 ≤ t) (h1 : t < 111) : H[a]? = some (vp_cell (D.1 t) (cAr x t a)) := by
  have h2 := (h.2.2.2.2.2.2.2 a).2
  rw [ht] at h2
  exact h2 h0 h1
/-- the same heap but for one cell -/
theorem RelC_set {x x' : CS} {H H' : Heap} {a k : Nat} {v : Value} {cell : Cell} (hR : RelC D P x H) (hA : AC P a) (h0 : H[a]? = some cell) (e1 : H'[a]? = some (cell.setSlot k v)) (z : H'.size = H.size) (e3 : ∀ q, q ≠ a → H'[q]? = H[q]?)
    (hT : x'.1.1 = x.1.1) (hz : x'.1.2.2.2 = x.1.2.2.2) (hV : ∀ b, b ≠ a → ∀ t j, cV x' t j b = cV x t j b) (hAr : ∀ b, b ≠ a → ∀ t, cAr x' t b = cAr x t b) (hat : cAt D x' a H') : RelC D P x' H' := by
  obtain ⟨r1, r2, r3, r4, r5, r6, r7, r8⟩ := hR
  have hz1 : gz x'.1 = gz x.1 := congrArg (fun q => q.2.1) hz
  have hz2 : grc x'.1 = grc x.1 := congrArg (fun q => q.2.2.1) hz
  have hz3 : grs x'.1 = grs x.1 := congrArg (fun q => q.2.2.2) hz
  have hgA : ∀ a i, gA x'.1 a i = gA x.1 a i := fun a i => congrArg (fun q => q.1 a i) hz
  have hgT : ∀ b, gT x'.1 b = gT x.1 b := fun b => congrFun hT b
  have hgK : ∀ b, gK x'.1 b = gK x.1 b := fun b => by unfold gK; rw [hT]
  refine ⟨by rw [z, r1, hz1], by rw [hz1, hz2]; exact r2, by rw [ssum_set h0 e1 e3, hz3]; exact r3, ⟨by rw [hz1]; exact r4.1, by rw [hz1]; exact r4.2.1, fun k h1 h2 => by rw [hgA]; exact r4.2.2.1 k h1 h2, fun i hi => by rw [hgA]; exact r4.2.2.2 i hi⟩, fun q hq => ?_, fun b hb => by rw [hgT] at hb ⊢; exact r6 b hb, fun b hb => by rw [hgT] at hb; rw [hz1]; exact r7 b hb, fun b => ?_⟩
  · have : q ≠ a := by
      intro e
      have := hA.1
      omega
    rw [e3 q this]
    exact r5 q hq
  · by_cases hb : b = a
    · subst hb; exact hat
    · obtain ⟨c1, c2⟩ := r8 b
      unfold cAt
      rw [hgK]
      refine ⟨fun h1 h2 => ((c1 h1 h2).kept (e3 b hb)).to (fun j _ => (hV b hb _ j).symm), fun h1 h2 => ?_⟩
      rw [e3 b hb, hAr b hb]
      exact c2 h1 h2
theorem RelC.elim {x : CS} {H : Heap} {a t : Nat} (h : RelC D P x H) (ht : gT x.1 a = t) (h0 : t ≠ 0) (h1 : t < 1000) : AC P a := h.2.2.2.2.2.1 a (by rw [ht]; exact h0) (by rw [ht]; exact h1)
theorem ys_eq {ref O n d : String} (h : O = ref) : ∀ (args : Array Value) (s : State), (∀ w ∈ lw_all, w.before args s = true) → ∀ y, s.fieldFound? O n d = some y → s.fieldFound? ref n d = some y := fun _ _ _ y e => by rw [← h]; exact e
theorem ys_same {ref O n d : String} (q : Cond.sameField ref O n d ∈ lw_all) : ∀ (args : Array Value) (s : State), (∀ w ∈ lw_all, w.before args s = true) → ∀ y, s.fieldFound? O n d = some y → s.fieldFound? ref n d = some y := fun _ _ h y e => u_same (h _ q) y e
theorem yc_get {a : Nat} {own ref : String} {index : Nat} (t k : Nat) (ht : gK g a = t) (h0 : 0 < t) (h1 : t < 22) (hk : k < kN t) (q : Cond.fieldLink own index ref (kT t k).2.1 (kT t k).2.2.1 ∈ lw_all)
    (hs : ∀ (args : Array Value) (s : State), (∀ w ∈ lw_all, w.before args s = true) → ∀ y, s.fieldFound? (kT t k).1 (kT t k).2.1 (kT t k).2.2.1 = some y → s.fieldFound? ref (kT t k).2.1 (kT t k).2.2.1 = some y) (ho : M.2.2.1 = own) (d : decode M.1 pc = .ok (.getfield index, 3))
    (kk : xV (wC D P) K M Q (g, c) (pc + 3) loc (cV (g, c) t k a :: st)) : xV (wC D P) K M Q (g, c) pc loc (.ref a :: st) := by
  intro ok H locs cells slots ls hR hS hcc hs' hl
  subst ho
  obtain ⟨cell, q1, q2, q3, q4⟩ := RelC_ob (x := (g, c)) hR ht h0 h1
  obtain ⟨hSl, hfc, kC', hkC, hkind⟩ := ok.2.2.2.2.2.2.2.2.2.1.1 t h0 h1
  obtain ⟨cf, kf, fi, f, hi, hsl⟩ := hSl k hk
  refine W.getf ok.1 ok.2.1 ok.2.2.2.1 (ok.2.2.2.2.1 _ q) (hs _ _ ok.2.2.2.2.1 _ hi) (u_facts hfc hkC (u_lays ok.2.2.2.2.1 (kIn t h0 h1) hk) hi).1 q1 (by rw [q3]; exact fun h => by cases h) (v := cV (g, c) t k a) ?_ rfl rfl d (kk ok H locs cells slots ls hR hS hcc hs' hl)
  rw [hsl]
  exact q4 k hk
theorem yc_getN {a : Nat} {own ref host : String} {index : Nat} (t k : Nat) (ht : gK g a = t) (h0 : 0 < t) (h1 : t < 22) (hk : k < kN t) (q : Cond.fieldLinkNest own index ref (kT t k).2.1 (kT t k).2.2.1 host ∈ lw_tbl)
    (hs : ∀ (args : Array Value) (s : State), (∀ w ∈ lw_all, w.before args s = true) → ∀ y, s.fieldFound? (kT t k).1 (kT t k).2.1 (kT t k).2.2.1 = some y → s.fieldFound? ref (kT t k).2.1 (kT t k).2.2.1 = some y) (ho : M.2.2.1 = own) (d : decode M.1 pc = .ok (.getfield index, 3))
    (kk : xV (wC D P) K M Q (g, c) (pc + 3) loc (cV (g, c) t k a :: st)) : xV (wC D P) K M Q (g, c) pc loc (.ref a :: st) := by
  intro ok H locs cells slots ls hR hS hcc hs' hl
  subst ho
  obtain ⟨cell, q1, q2, q3, q4⟩ := RelC_ob (x := (g, c)) hR ht h0 h1
  obtain ⟨hSl, hfc, kC', hkC, hkind⟩ := ok.2.2.2.2.2.2.2.2.2.1.1 t h0 h1
  obtain ⟨cf, kf, fi, f, hi, hsl⟩ := hSl k hk
  refine va_Wgetf ok.1 ok.2.1 ok.2.2.2.1 (va_Nw.use rfl (ok.2.2.2.2.2.2.2.2.2.1.2.2.2.1 _ q rfl)) (hs _ _ ok.2.2.2.2.1 _ hi) (u_facts hfc hkC (u_lays ok.2.2.2.2.1 (kIn t h0 h1) hk) hi).1 q1 (by rw [q3]; exact fun h => by cases h) (v := cV (g, c) t k a) ?_ rfl rfl d (kk ok H locs cells slots ls hR hS hcc hs' hl)
  rw [hsl]
  exact q4 k hk
theorem cV_I {x : CS} {t k a : Nat} (h : fk t k = 0) : cV x t k a = .int (cI x.2 (100 * t + k) a) := by simp [cV, h]
theorem cV_L {x : CS} {t k a : Nat} (h : fk t k = 1) : cV x t k a = .long (cL x.2 (100 * t + k) a) := by simp [cV, h]
theorem cV_R {x : CS} {t k a : Nat} (h : fk t k = 2) : cV x t k a = va_rf (cR x.2 (100 * t + k) a) := by simp [cV, h]
theorem cV_F {x : CS} {t k a : Nat} (h : fk t k = 3) : cV x t k a = va_rf (gR x.1 (100 * t + k) a) := by simp [cV, h]
/-- a put: what is stored, where -/
theorem yc_put0 {a : Nat} {own ref : String} (t k : Nat) {g' : CG} {c' : CC} (ht : gT g a = t) (h0 : 0 < t) (h1 : t < 22) (hk : k < kN t) (hs : ∀ (args : Array Value) (s : State), (∀ w ∈ lw_all, w.before args s = true) → ∀ y, s.fieldFound? (kT t k).1 (kT t k).2.1 (kT t k).2.2.1 = some y → s.fieldFound? ref (kT t k).2.1 (kT t k).2.2.1 = some y)
    {ty : FieldType} {v : Value} (hty : parseFieldDescriptor (kT t k).2.2.1 = some ty) (hn : narrow ty v = v) (hf : fits ty v = true)
    (hT : g'.1 = g.1) (hz : g'.2.2.2 = g.2.2.2) (hv : ∀ j, j < kN t → updV (fun j => cV (g, c) t j a) k v j = cV (g', c') t j a) (hV : ∀ b, b ≠ a → ∀ t j, cV (g', c') t j b = cV (g, c) t j b) (hAr : ∀ b, ∀ t, cAr (g', c') t b = cAr (g, c) t b)
    (row : ∀ (_ : xOK (wC D P) K M) (H : Heap) (locs : List Loc) (cells slots : Nat) (ls : Array Slot) (cell : Cell) (cf : ClassId) (kf : Class) (fi : Nat) (f : Field), (xKs K).vm.findClass own = some (xKm K).cls → (xKs K).fieldFound? (kT t k).1 (kT t k).2.1 (kT t k).2.2.1 = some (cf, kf, fi, f) → (xKs K).fieldFound? ref (kT t k).2.1 (kT t k).2.2.1 = some (cf, kf, fi, f) → f.isStatic = false → H[a]? = some cell → cell.vm = .none → f.slot < cell.slots.size →
      narrow f.type v = v ∧ (xKs K).fitsSlot (D.1 t) .none f.slot v = true → cell.cls = D.1 t → (∃ kC' : Class, (xKs K).vm.findClass (kC t) = some (D.1 t) ∧ (xKs K).vm.classes[D.1 t]? = some kC' ∧ kC'.kind = .ordinary) →
      (∀ H' : Heap, H'[a]? = some (cell.setSlot f.slot v) → H'.size = H.size → (∀ q, q ≠ a → H'[q]? = H[q]?) → xU K H' (locs ++ [⟨a, f.slot⟩]) cells slots Q (F0 (xKm K) (pc + 3) ls st)) → xU K H locs cells slots Q (F0 (xKm K) pc ls (v :: .ref a :: st)))
    (ho : M.2.2.1 = own) (kk : xV (wC D P) K M Q (g', c') (pc + 3) loc st) : xV (wC D P) K M Q (g, c) pc loc (v :: .ref a :: st) := by
  intro ok H locs cells slots ls hR hS hcc hs' hl
  subst ho
  have hgk : gK g a = t := gKo ht (by omega)
  obtain ⟨cell, q1, q2, q3, q4⟩ := RelC_ob (x := (g, c)) hR hgk h0 h1
  obtain ⟨hSl, hfc, kC', hkC, hkind⟩ := ok.2.2.2.2.2.2.2.2.2.1.1 t h0 h1
  have hap : ∀ x y, x < kN t → y < kN t → x ≠ y → D.2.1 t x ≠ D.2.1 t y := by
    intro x y hx hy hne
    obtain ⟨_, _, _, fa, hia, ea⟩ := hSl x hx
    obtain ⟨_, _, _, fb, hib, eb⟩ := hSl y hy
    rw [← ea, ← eb]
    refine u_apart (u_lays ok.2.2.2.2.1 (kIn t h0 h1) hx) (u_lays ok.2.2.2.2.1 (kIn t h0 h1) hy) hia hib ?_
    rw [(State.fieldFound?_type hia (kTy t h0 h1 x hx)).1, (State.fieldFound?_type hib (kTy t h0 h1 y hy)).1]
    exact kNm t h0 h1 x hx y hy hne
  obtain ⟨cf, kf, fi, f, hi, hsl⟩ := hSl k hk
  have hlays := u_lays ok.2.2.2.2.1 (kIn t h0 h1) hk
  have hst := (u_facts hfc hkC hlays hi).1
  have hA : AC P a := RelC.elim hR ht (by omega) (by omega)
  refine row ok H locs cells slots ls cell cf kf fi f ok.2.2.2.1 hi (hs _ _ ok.2.2.2.2.1 _ hi) hst q1 q3 (by rw [hsl]; exact k2_hasslot (q4 k hk)) (u_fits hfc hkC hkind hlays hi hty hn hf) q2 ⟨kC', hfc, hkC, hkind⟩ fun H' e1 e2 e3 => ?_
  rw [hsl] at e1 ⊢
  refine kk ok H' _ cells slots ls (RelC_set (x := (g, c)) (x' := (g', c')) hR hA q1 e1 e2 e3 hT hz hV (fun b _ t => hAr b t) ?_) (hS.put e2 e3 hA) hcc hs' hl
  have hgk' : gK g' a = t := by unfold gK; rw [hT]; exact hgk
  refine ⟨fun _ _ => ?_, fun h2 _ => ?_⟩
  · show t_OB a (D.1 (gK g' a)) (kN (gK g' a)) (D.2.1 (gK g' a)) H' (fun k => cV (g', c') (gK g' a) k a)
    rw [hgk']
    exact t_OB.to (V := updV (fun j => cV (g, c) t j a) k v) ⟨_, e1, q2, q3, t_set q4 hap hk v⟩ hv
  · have : gK g' a = t := hgk'
    have h3 : 100 ≤ gK g' a := h2
    omega
end YC
