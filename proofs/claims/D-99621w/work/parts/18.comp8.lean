/-! rows over the component world: making -/
set_option maxRecDepth 100000
/-- a new cell: type, length, slots -/
def nG (g : CG) (t len sl : Nat) : CG := (fun a => if a = gz g then t else g.1 a, fun a => if a = gz g then len else g.2.1 a, fun k a => if a = gz g then none else g.2.2.1 k a, g.2.2.2.1, gz g + 1, grc g - 1, grs g - sl)
/-- nothing in it yet -/
def zC (c : CC) (n : Nat) : CC := (fun k a => if a = n then 0 else c.1 k a, fun k a => if a = n then 0 else c.2.1 k a, fun k a => if a = n then none else c.2.2.1 k a, fun a i => if a = n then 0 else c.2.2.2.1 a i, fun a i => if a = n then 0 else c.2.2.2.2.1 a i, fun a i => if a = n then none else c.2.2.2.2.2 a i)
def rmG (g : CG) (sl : Nat) : Bool := decide (1 ≤ grc g) && decide (sl ≤ grs g)
theorem rmG_of {g : CG} {sl : Nat} (h : rmG g sl = true) : 1 ≤ grc g ∧ sl ≤ grs g := by
  unfold rmG at h
  simpa using h
theorem kZ : ∀ t, t < 22 → ∀ k, k < kN t → (fk t k = 0 ∧ defaultValue (kF t k) = .int 0) ∨ (fk t k = 1 ∧ defaultValue (kF t k) = .long 0) ∨ ((fk t k = 2 ∨ fk t k = 3) ∧ defaultValue (kF t k) = .null) := by decide +kernel
section YW
variable {D : CD} {P : CP} {K : xK} {M : xM} {Q : State → Prop} {g : CG} {c : CC} {pc : Nat} {loc : List (Nat × Value)} {st : List Value}
theorem ssum_push {H H' : Heap} {cell : Cell} (z : H'.size = H.size + 1) (e : H'[H.size]? = some cell) (o : ∀ q, q < H.size → H'[q]? = H[q]?) : ssum H' = ssum H + cell.slots.size := by
  have h1 : H'.toList = H.toList ++ [cell] := by
    apply List.ext_getElem?
    intro i
    by_cases h : i < H.size
    · rw [List.getElem?_append_left (by simpa using h)]
      simpa using o i h
    · by_cases h2 : i = H.size
      · subst h2
        rw [List.getElem?_append_right (by simp)]
        simpa using e
      · rw [List.getElem?_eq_none (by simp [z]; omega), List.getElem?_eq_none (by simp; omega)]
  unfold ssum
  rw [h1, List.map_append, List.sum_append]
  simp
theorem RelC_new {H H' : Heap} {cell : Cell} {t len sl : Nat} (hR : RelC D P (g, c) H) (hrm : rmG g sl = true) (ht : t ≠ 0) (z : H'.size = H.size + 1) (e : H'[H.size]? = some cell) (o : ∀ q, q < H.size → H'[q]? = H[q]?) (hsl : cell.slots.size = sl)
    (hat : cAt D (nG g t len sl, zC c (gz g)) (gz g) H') : RelC D P (nG g t len sl, zC c (gz g)) H' := by
  obtain ⟨q1, q2⟩ := rmG_of hrm
  obtain ⟨r1, r2, r3, r4, r5, r6, r7, r8⟩ := hR
  have hz : H.size = gz g := r1
  have hss := ssum_push z e o
  rw [hsl] at hss
  refine ⟨by rw [z, hz]; rfl, ?_, ?_, ⟨Nat.le_succ_of_le r4.1, Nat.le_succ_of_le r4.2.1, r4.2.2.1, r4.2.2.2⟩, fun q hq => ?_, fun a ha h1 => ?_, fun a ha => ?_, fun a => ?_⟩
  · have h2 : gz g + grc g = P.2.2.2.1 := r2
    show gz g + 1 + (grc g - 1) = _
    omega
  · have h3 : ssum H + grs g = P.2.2.2.2.1 := r3
    show ssum H' + (grs g - sl) = _
    omega
  · have : q < H.size := by have := r4.1; have h9 : P.1 ≤ gz g := r4.1; omega
    rw [o q this]
    exact r5 q hq
  · by_cases h : a = gz g
    · subst h
      have h8 : P.1 ≤ gz g := r4.1
      have h9 : P.2.2.1 ≤ gz g := r4.2.1
      exact ⟨h8, fun hh => by omega⟩
    · have e1 : gT (nG g t len sl) a = gT g a := by simp [gT, nG, h]
      have ha' : gT g a ≠ 0 := by rw [← e1]; exact ha
      have h1' : gT g a < 1000 := by rw [← e1]; exact h1
      exact r6 a ha' h1'
  · show a < gz g + 1
    by_cases h : a = gz g
    · omega
    · have e1 : gT (nG g t len sl) a = gT g a := by simp [gT, nG, h]
      have ha' : gT g a ≠ 0 := by rw [← e1]; exact ha
      exact Nat.lt_succ_of_lt (r7 a ha')
  · by_cases h : a = gz g
    · subst h; exact hat
    · have e1 : gK (nG g t len sl) a = gK g a := by simp [gK, nG, h]
      obtain ⟨c1, c2⟩ := r8 a
      have hV : ∀ t' j, cV (nG g t len sl, zC c (gz g)) t' j a = cV (g, c) t' j a := by
        intro t' j
        simp [cV, cI, cL, cR, gR, nG, zC, h]
      have hAr : ∀ t', cAr (nG g t len sl, zC c (gz g)) t' a = cAr (g, c) t' a := by
        intro t'
        have f1 : cA (zC c (gz g)) a = cA c a := by funext i; simp [cA, zC, h]
        have f2 : cM (zC c (gz g)) a = cM c a := by funext i; simp [cM, zC, h]
        have f3 : cP (zC c (gz g)) a = cP c a := by funext i; simp [cP, zC, h]
        have f4 : gN (nG g t len sl) a = gN g a := by simp [gN, nG, h]
        unfold cAr
        show (gN (nG g t len sl) a, if aknd t' = 0 then Sum.inl (cA (zC c (gz g)) a) else if aknd t' = 1 then Sum.inr (Sum.inl (cM (zC c (gz g)) a)) else if aknd t' = 2 then Sum.inr (Sum.inr (Sum.inr (Sum.inr (cP (zC c (gz g)) a)))) else _) = _
        rw [f1, f2, f3, f4]
        rfl
      have hkeep : ∀ (q : Cell), H[a]? = some q → H'[a]? = H[a]? := fun q hq => o a (Array.getElem?_eq_some_iff.mp hq).1
      unfold cAt
      show (0 < gK (nG g t len sl) a → gK (nG g t len sl) a < 22 → t_OB a (D.1 (gK (nG g t len sl) a)) (kN (gK (nG g t len sl) a)) (D.2.1 (gK (nG g t len sl) a)) H' (fun k => cV (nG g t len sl, zC c (gz g)) (gK (nG g t len sl) a) k a)) ∧ (100 ≤ gK (nG g t len sl) a → gK (nG g t len sl) a < 111 → H'[a]? = some (vp_cell (D.1 (gK (nG g t len sl) a)) (cAr (nG g t len sl, zC c (gz g)) (gK (nG g t len sl) a) a)))
      rw [e1]
      refine ⟨fun h1 h2 => ?_, fun h1 h2 => ?_⟩
      · have h3 := c1 h1 h2
        obtain ⟨cl, hcl, -⟩ := id h3
        exact (h3.kept (hkeep cl hcl)).to (fun j _ => (hV _ j).symm)
      · have h3 := c2 h1 h2
        rw [hkeep _ h3, hAr]
        exact h3
theorem va_S_new {A : Nat → Prop} {H0 H H' : Heap} {locs : List Loc} (hS : va_S A H0 H locs) (z : H'.size = H.size + 1) (o : ∀ q, q < H.size → H'[q]? = H[q]?) : va_S A H0 H' locs := by
  refine ⟨by have := hS.1; omega, fun q h1 h2 => ?_, hS.2.2⟩
  rw [o q (Nat.lt_of_lt_of_le h1 hS.1)]
  exact hS.2.1 q h1 h2
theorem yc_born {H : Heap} {t N : Nat} {s : State} {args : Array Value} {kC' : Class} (hR : RelC D P (g, c) H) (hrm : rmG g N = true) (h0 : 0 < t) (h1 : t < 22) (hN : kN t = N) (hw : ∀ w ∈ lw_all, w.before args s = true) (hk : u_Kn s (kC t) (kT t) (kN t) (D.1 t) (D.2.1 t)) (e2 : s.vm.classes[D.1 t]? = some kC') (e4 : kC'.instanceTypes.size = N) :
    RelC D P (nG g t 0 N, zC c (gz g)) (H.push (blank (D.1 t) kC')) := by
  have hz : H.size = gz g := hR.1
  have z : (H.push (blank (D.1 t) kC')).size = H.size + 1 := by simp
  have e : (H.push (blank (D.1 t) kC'))[H.size]? = some (blank (D.1 t) kC') := by simp
  have o : ∀ q, q < H.size → (H.push (blank (D.1 t) kC'))[q]? = H[q]? := fun q hq => by simp [Array.getElem?_push, Nat.ne_of_lt hq]
  have hob := u_born (ws := lw_all) (kF t) hw (kIn t h0 h1) hk e2 e (kTy t h0 h1)
  have hgt : gK (nG g t 0 N) (gz g) = t := by
    simp [gK, nG]
    omega
  refine RelC_new hR hrm (by omega) z e o (by simp [blank, e4]) ⟨fun _ _ => ?_, fun h9 _ => ?_⟩
  · show t_OB (gz g) (D.1 (gK (nG g t 0 N) (gz g))) (kN (gK (nG g t 0 N) (gz g))) (D.2.1 (gK (nG g t 0 N) (gz g))) _ (fun k => cV (nG g t 0 N, zC c (gz g)) (gK (nG g t 0 N) (gz g)) k (gz g))
    rw [hgt]
    have hob2 : t_OB (gz g) (D.1 t) (kN t) (D.2.1 t) (H.push (blank (D.1 t) kC')) (fun k => defaultValue (kF t k)) := by rw [← hz]; exact hob
    refine hob2.to (fun k hk9 => ?_)
    rcases kZ t h1 k hk9 with ⟨f, v⟩ | ⟨f, v⟩ | ⟨f | f, v⟩ <;> rw [v] <;> simp [cV, f, cI, cL, cR, gR, nG, zC, va_rf]
  · have : 100 ≤ gK (nG g t 0 N) (gz g) := h9
    omega
theorem yc_new {own : String} {index : Nat} (t : Nat) (h0 : 0 < t) (h1 : t < 22) (ql : Cond.classLink own index (kC t) ∈ lw_all) (qi : Cond.instantiable (kC t) (kN t) ∈ lw_all) (qn : Cond.initialized (kC t) ∈ lw_all) (hrm : rmG g (kN t) = true) (ho : M.2.2.1 = own) (d : decode M.1 pc = .ok (.new index, 3))
    (kk : xV (wC D P) K M Q (nG g t 0 (kN t), zC c (gz g)) (pc + 3) loc (.ref (gz g) :: st)) : xV (wC D P) K M Q (g, c) pc loc st := by
  intro ok H locs cells slots ls hR hS hcc hs hl
  subst ho
  intro T hT X
  obtain ⟨r1, r2⟩ := yc_room ok hR hT X
  obtain ⟨q1, q2⟩ := rmG_of hrm
  have hR' : RelC D P (g, c) H := hR
  have hz : H.size = gz g := hR'.1
  generalize hN : kN t = N at *
  generalize hce : T.heap.size - (xKs K).heap.size = ce at *
  generalize hsl : ssum T.heap - ssum (xKs K).heap = sl at *
  have hk := ok.2.2.2.2.2.2.2.2.2.1.1 t h0 h1
  have key : xU K H locs ce sl Q (F0 (xKm K) pc ls st) := by
    refine W.newc ok.1 ok.2.1 ok.2.2.2.1 (ok.2.2.2.2.1 _ ql) (ok.2.2.2.2.1 _ qi) (ok.2.2.2.2.1 _ qn) rfl d (by omega) (by omega) (fun cC kC' e1 e2 e3 e4 => ?_)
    have hcC : cC = D.1 t := Option.some.inj (e1.symm.trans hk.2.1)
    subst hcC
    have hrel := yc_born hR hrm h0 h1 hN ok.2.2.2.2.1 hk e2 e4
    have h9 := kk ok _ locs (ce + 1) (sl + N) ls hrel (va_S_new hS (H' := H.push (blank (D.1 t) kC')) (by simp) (fun q hq => by simp [Array.getElem?_push, Nat.ne_of_lt hq])) (by omega) (by omega) hl
    rw [← hz] at h9
    exact h9
  have X' := stand_tight X
  rw [hce, hsl] at X'
  exact key T hT X'
/-- a length that can be made -/
def xnew (g : CG) (n : Int32) : Bool := decide (0 ≤ n) && decide (n.toNatClampNeg ≤ 10000000) && rmG g n.toNatClampNeg
theorem xnew_of {n : Int32} (h : xnew g n = true) : ¬ n < 0 ∧ n.toNatClampNeg ≤ 10000000 ∧ rmG g n.toNatClampNeg = true := by
  unfold xnew at h
  simp only [Bool.and_eq_true, decide_eq_true_eq] at h
  refine ⟨fun q => ?_, h.1.2, h.2⟩
  have h1 := Int32.le_iff_toInt_le.mp h.1.1
  have h2 := Int32.lt_iff_toInt_lt.mp q
  omega
theorem yc_bornA {H : Heap} {t N : Nat} {v : Value} (hR : RelC D P (g, c) H) (hrm : rmG g N = true) (h0 : 100 ≤ t) (h1 : t < 111) (hv : cAr (nG g t N N, zC c (gz g)) t (gz g) = (N, if aknd t = 0 then .inl (fun _ => 0) else if aknd t = 1 then .inr (.inl (fun _ => 0)) else .inr (.inr (.inr (.inr (fun _ => none))))))
    (hd : v = if aknd t = 0 then .int 0 else if aknd t = 1 then .long 0 else .null) : RelC D P (nG g t N N, zC c (gz g)) (H.push { cls := D.1 t, slots := Array.replicate N v, vm := .none }) := by
  have hz : H.size = gz g := hR.1
  have hgt : gK (nG g t N N) (gz g) = t := by
    simp [gK, nG]
    omega
  refine RelC_new (cell := { cls := D.1 t, slots := Array.replicate N v, vm := .none }) hR hrm (by omega) (by simp) (by simp) (fun q hq => by simp [Array.getElem?_push, Nat.ne_of_lt hq]) (by simp) ⟨fun _ h9 => ?_, fun _ _ => ?_⟩
  · have : gK (nG g t N N) (gz g) < 22 := h9
    omega
  · show (H.push _)[gz g]? = some (vp_cell (D.1 (gK (nG g t N N) (gz g))) (cAr (nG g t N N, zC c (gz g)) (gK (nG g t N N) (gz g)) (gz g)))
    rw [hgt, ← hz]
    rw [show cAr (nG g t N N, zC c H.size) t H.size = (N, if aknd t = 0 then .inl (fun _ => 0) else if aknd t = 1 then .inr (.inl (fun _ => 0)) else .inr (.inr (.inr (.inr (fun _ => none))))) by rw [hz]; exact hv]
    rw [arrV_new, hd]
    by_cases k0 : aknd t = 0
    · simp [k0, vp_cell]
    by_cases k1 : aknd t = 1
    · simp [k1, vp_cell]
    · simp [k0, k1, vp_cell, va_rf]
theorem cAr_new {t N : Nat} (h3 : aknd t ≠ 3) (h9 : aknd t = 0 ∨ aknd t = 1 ∨ aknd t = 2) : cAr (nG g t N N, zC c (gz g)) t (gz g) = (N, if aknd t = 0 then .inl (fun _ => 0) else if aknd t = 1 then .inr (.inl (fun _ => 0)) else .inr (.inr (.inr (.inr (fun _ => none))))) := by
  have f1 : cA (zC c (gz g)) (gz g) = fun _ => 0 := by funext i; simp [cA, zC]
  have f2 : cM (zC c (gz g)) (gz g) = fun _ => 0 := by funext i; simp [cM, zC]
  have f3 : cP (zC c (gz g)) (gz g) = fun _ => none := by funext i; simp [cP, zC]
  have f4 : gN (nG g t N N) (gz g) = N := by simp [gN, nG]
  rcases h9 with h | h | h <;> simp [cAr, h, f1, f2, f3, f4]
theorem yc_newa {atype : ArrayType} {n : Int32} (t : Nat) (h0 : 100 ≤ t) (h1 : t < 111) (hty : newarray.typeOf atype = aty t) (ha : aknd t = 0 ∨ aknd t = 1) (hd : defaultValue (aty t) = if aknd t = 0 then .int 0 else if aknd t = 1 then .long 0 else .null) (hcb : componentBytes (aty t) ≤ 8) (q : Cond.arrayClass (aty t) ∈ lw_all) (hn : xnew g n = true) (d : decode M.1 pc = .ok (.newarray atype, 2))
    (kk : xV (wC D P) K M Q (nG g t n.toNatClampNeg n.toNatClampNeg, zC c (gz g)) (pc + 2) loc (.ref (gz g) :: st)) : xV (wC D P) K M Q (g, c) pc loc (.int n :: st) := by
  intro ok H locs cells slots ls hR hS hcc hs hl
  obtain ⟨n1, n2, hrm⟩ := xnew_of hn
  intro T hT X
  obtain ⟨r1, r2⟩ := yc_room ok hR hT X
  obtain ⟨q1, q2⟩ := rmG_of hrm
  have hR' : RelC D P (g, c) H := hR
  have hz : H.size = gz g := hR'.1
  generalize hce : T.heap.size - (xKs K).heap.size = ce at *
  generalize hsl : ssum T.heap - ssum (xKs K).heap = sl at *
  have hk := ok.2.2.2.2.2.2.2.2.2.1.2.1 t h0 h1
  have key : xU K H locs ce sl Q (F0 (xKm K) pc ls (.int n :: st)) := by
    refine W.newa ok.1 ok.2.1 (atype := atype) (by rw [hty]; exact ok.2.2.2.2.1 _ q) rfl d rfl n1 (by rw [hty]; exact Nat.le_trans (Nat.mul_le_mul n2 hcb) (by decide)) (by omega) (by omega) (fun cA kA comp e1 e2 e3 => ?_)
    rw [hty] at e1 ⊢
    have hcA : cA = D.1 t := Option.some.inj (e1.symm.trans hk.2)
    subst hcA
    have hrel := yc_bornA (N := n.toNatClampNeg) hR hrm h0 h1 (cAr_new (by omega) (by omega)) hd
    have h9 := kk ok _ locs (ce + 1) (sl + n.toNatClampNeg) ls hrel (va_S_new hS (by simp) (fun q hq => by simp [Array.getElem?_push, Nat.ne_of_lt hq])) (by omega) (by omega) hl
    rw [← hz] at h9
    exact h9
  have X' := stand_tight X
  rw [hce, hsl] at X'
  exact key T hT X'
theorem yc_anew {own C : String} {index : Nat} {n : Int32} (t : Nat) (h0 : 100 ≤ t) (h1 : t < 111) (hty : aty t = .object C) (ha : aknd t = 2) (ql : Cond.classLink own index C ∈ lw_all) (qo : (.object C : FieldType) ∈ aoL) (hn : xnew g n = true) (ho : M.2.2.1 = own) (d : decode M.1 pc = .ok (.anewarray index, 3))
    (kk : xV (wC D P) K M Q (nG g t n.toNatClampNeg n.toNatClampNeg, zC c (gz g)) (pc + 3) loc (.ref (gz g) :: st)) : xV (wC D P) K M Q (g, c) pc loc (.int n :: st) := by
  intro ok H locs cells slots ls hR hS hcc hs hl
  subst ho
  obtain ⟨n1, n2, hrm⟩ := xnew_of hn
  intro T hT X
  obtain ⟨r1, r2⟩ := yc_room ok hR hT X
  obtain ⟨q1, q2⟩ := rmG_of hrm
  have hR' : RelC D P (g, c) H := hR
  have hz : H.size = gz g := hR'.1
  generalize hce : T.heap.size - (xKs K).heap.size = ce at *
  generalize hsl : ssum T.heap - ssum (xKs K).heap = sl at *
  have hKC := ok.2.2.2.2.2.2.2.2.2.1
  have hk := hKC.2.1 t h0 h1
  have key : xU K H locs ce sl Q (F0 (xKm K) pc ls (.int n :: st)) := by
    refine W.anew ok.1 ok.2.1 ok.2.2.2.1 (ok.2.2.2.2.1 _ ql) (AO_alike (Vm.Alike.refl _) (hKC.2.2.2.2.2.2.2.2 _ qo)) rfl d rfl n1 (by omega) (by omega) (by omega) (fun cA kA comp e1 e2 e3 e4 => ?_)
    rw [← hty] at e1
    have hcA : cA = D.1 t := Option.some.inj (e1.symm.trans hk.2)
    subst hcA
    have hrel := yc_bornA (N := n.toNatClampNeg) (v := .null) hR hrm h0 h1 (cAr_new (by omega) (by omega)) (by simp [ha])
    have h9 := kk ok _ locs (ce + 1) (sl + n.toNatClampNeg) ls hrel (va_S_new hS (by simp) (fun q hq => by simp [Array.getElem?_push, Nat.ne_of_lt hq])) (by omega) (by omega) hl
    rw [← hz] at h9
    exact h9
  have X' := stand_tight X
  rw [hce, hsl] at X'
  exact key T hT X'
end YW
