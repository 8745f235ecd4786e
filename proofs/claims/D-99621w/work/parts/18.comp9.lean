/-! rows over the component world: arrays of arrays are made -/
set_option maxRecDepth 100000
def inR (n N a : Nat) : Bool := decide (n < a) && decide (a ≤ n + N)
def mG (g : CG) (oc N M : Nat) : CG := (fun a => if a = gz g then oc else if inR (gz g) N a = true then 100 else g.1 a, fun a => if a = gz g then N else if inR (gz g) N a = true then M else g.2.1 a, fun k a => if a = gz g ∨ inR (gz g) N a = true then none else g.2.2.1 k a, fun a i => if a = gz g then gz g + 1 + i else g.2.2.2.1 a i, gz g + 1 + N, grc g - (1 + N), grs g - (N + N * M))
def mC (c : CC) (n N : Nat) : CC := (fun k a => if a = n ∨ inR n N a = true then 0 else c.1 k a, fun k a => if a = n ∨ inR n N a = true then 0 else c.2.1 k a, fun k a => if a = n ∨ inR n N a = true then none else c.2.2.1 k a, fun a i => if a = n ∨ inR n N a = true then 0 else c.2.2.2.1 a i, fun a i => if a = n ∨ inR n N a = true then 0 else c.2.2.2.2.1 a i, fun a i => if a = n then some (n + 1 + i) else if inR n N a = true then none else c.2.2.2.2.2 a i)
def rmM (g : CG) (N M : Nat) : Bool := decide (1 + N ≤ grc g) && decide (N + N * M ≤ grs g)
theorem rmM_of {g : CG} {N M : Nat} (h : rmM g N M = true) : 1 + N ≤ grc g ∧ N + N * M ≤ grs g := by
  unfold rmM at h
  simpa using h
theorem outerC_arr (c : ClassId) (N h0 : Nat) : ∀ i, Jvm.Free.Multi.outerC c N h0 i = arrV c N (fun j => if j < i then .ref (h0 + 1 + j) else .null)
  | 0 => by
    rw [Jvm.Free.Multi.outerC, arrV_new]
    congr 1
  | i + 1 => by
    rw [Jvm.Free.Multi.outerC, outerC_arr c N h0 i, arrV_store]
    congr 1
    funext j
    unfold updV
    by_cases h : j = i
    · subst h; simp
    · by_cases h2 : j < i
      · simp [h, h2, Nat.lt_succ_of_lt h2]
      · have : ¬ j < i + 1 := by omega
        simp [h, h2, this]
theorem arrV_congr {c : ClassId} {N : Nat} {f g : Nat → Value} (h : ∀ j, j < N → f j = g j) : arrV c N f = arrV c N g := by
  unfold arrV
  congr 1
  apply Array.ext
  · simp
  · intro i h1 h2
    simp at h1
    simp [h i h1]
section YM
variable {D : CD} {P : CP} {K : xK} {M : xM} {Q : State → Prop} {g : CG} {c : CC} {pc : Nat} {loc : List (Nat × Value)} {st : List Value}
theorem ssum_many {H H' : Heap} {o i : Cell} {N : Nat} (z : H'.size = H.size + 1 + N) (e : H'[H.size]? = some o) (ei : ∀ j, j < N → H'[H.size + 1 + j]? = some i) (old : ∀ q, q < H.size → H'[q]? = H[q]?) : ssum H' = ssum H + (o.slots.size + N * i.slots.size) := by
  have h1 : H'.toList = H.toList ++ (o :: List.replicate N i) := by
    apply List.ext_getElem?
    intro q
    by_cases h : q < H.size
    · rw [List.getElem?_append_left (by simpa using h)]
      simpa using old q h
    · rw [List.getElem?_append_right (by simpa using Nat.le_of_not_lt h)]
      by_cases h2 : q = H.size
      · subst h2; simpa using e
      · obtain ⟨j, rfl⟩ : ∃ j, q = H.size + 1 + j := ⟨q - H.size - 1, by omega⟩
        have hx : H.size + 1 + j - H.toList.length = j + 1 := by simp; omega
        rw [hx, List.getElem?_cons_succ]
        by_cases hj : j < N
        · rw [List.getElem?_replicate, if_pos hj]
          simpa using ei j hj
        · rw [List.getElem?_eq_none (by simp [z]; omega), List.getElem?_replicate, if_neg hj]
  unfold ssum
  rw [h1, List.map_append, List.sum_append]
  simp
theorem RelC_multi {H H' : Heap} {oc N M : Nat} (hR : RelC D P (g, c) H) (hrm : rmM g N M = true) (hpos : 0 < gz g) (hoc : oc = 105 ∨ oc = 107) (z : H'.size = H.size + 1 + N) (e : H'[H.size]? = some (arrV (D.1 oc) N (fun j => .ref (H.size + 1 + j)))) (ei : ∀ j, j < N → H'[H.size + 1 + j]? = some (arrV (D.1 100) M (fun _ => .int 0))) (old : ∀ q, q < H.size → H'[q]? = H[q]?) :
    RelC D P (mG g oc N M, mC c (gz g) N) H' := by
  obtain ⟨q1, q2⟩ := rmM_of hrm
  obtain ⟨r1, r2, r3, r4, r5, r6, r7, r8⟩ := hR
  have hz : H.size = gz g := r1
  have hss := ssum_many z e ei old
  rw [arrV_size, arrV_size] at hss
  have hnew : ∀ a, (a = gz g ∨ inR (gz g) N a = true) ↔ (gz g ≤ a ∧ a ≤ gz g + N) := by
    intro a
    unfold inR
    simp only [Bool.and_eq_true, decide_eq_true_eq]
    omega
  have hT : ∀ a, ¬ (gz g ≤ a ∧ a ≤ gz g + N) → gT (mG g oc N M) a = gT g a := by
    intro a h
    have h1 : ¬ (a = gz g ∨ inR (gz g) N a = true) := fun q => h ((hnew a).mp q)
    have h2 : ¬ a = gz g := fun q => h1 (Or.inl q)
    have h3 : ¬ inR (gz g) N a = true := fun q => h1 (Or.inr q)
    simp [gT, mG, h2, h3]
  refine ⟨by rw [z, hz]; rfl, ?_, ?_, ⟨?_, ?_, fun k h1 h2 => ?_, fun k h1 => ?_⟩, fun q hq => ?_, fun a ha h1 => ?_, fun a ha => ?_, fun a => ?_⟩
  · have h2 : gz g + grc g = P.2.2.2.1 := r2
    show gz g + 1 + N + (grc g - (1 + N)) = _
    omega
  · have h3 : ssum H + grs g = P.2.2.2.2.1 := r3
    show ssum H' + (grs g - (N + N * M)) = _
    omega
  · have h9 : P.1 ≤ gz g := r4.1
    show P.1 ≤ gz g + 1 + N
    omega
  · have h9 : P.2.2.1 ≤ gz g := r4.2.1
    show P.2.2.1 ≤ gz g + 1 + N
    omega
  · rw [r4.2.2.1 k h1 h2]
    have : ¬ 0 = gz g := by omega
    simp [gA, mG, this]
  · rw [r4.2.2.2 k h1]
    have : ¬ 0 = gz g := by omega
    simp [gA, mG, this]
  · have h9 : P.1 ≤ gz g := r4.1
    rw [old q (by omega)]
    exact r5 q hq
  · by_cases h : gz g ≤ a ∧ a ≤ gz g + N
    · have h8 : P.1 ≤ gz g := r4.1
      have h9 : P.2.2.1 ≤ gz g := r4.2.1
      exact ⟨by omega, fun hh => by omega⟩
    · exact r6 a (by rw [← hT a h]; exact ha) (by rw [← hT a h]; exact h1)
  · show a < gz g + 1 + N
    by_cases h : gz g ≤ a ∧ a ≤ gz g + N
    · omega
    · have h7 := r7 a (by rw [← hT a h]; exact ha)
      have h8 : a < gz g := h7
      omega
  · by_cases h : a = gz g
    · subst h
      have hk : gK (mG g oc N M) (gz g) = oc := by
        simp [gK, mG]
        omega
      refine ⟨fun _ h9 => ?_, fun _ _ => ?_⟩
      · have : gK (mG g oc N M) (gz g) < 22 := h9
        omega
      · show H'[gz g]? = some (vp_cell (D.1 (gK (mG g oc N M) (gz g))) (cAr (mG g oc N M, mC c (gz g) N) (gK (mG g oc N M) (gz g)) (gz g)))
        rw [hk, ← hz, e]
        congr 1
        have f1 : gN (mG g oc N M) H.size = N := by simp [gN, mG, hz]
        have f2 : gA (mG g oc N M) H.size = fun i => H.size + 1 + i := by funext i; simp [gA, mG, hz]
        have f3 : cP (mC c H.size N) H.size = fun i => some (H.size + 1 + i) := by funext i; simp [cP, mC]
        rcases hoc with rfl | rfl
        · rw [show cAr (mG g 105 N M, mC c H.size N) 105 H.size = (N, .inr (.inr (.inr (.inr (fun i => some (H.size + 1 + i)))))) by simp [cAr, aknd, f1, f2], vp_cell_q]
          rfl
        · rw [show cAr (mG g 107 N M, mC c H.size N) 107 H.size = (N, .inr (.inr (.inr (.inr (fun i => some (H.size + 1 + i)))))) by simp [cAr, aknd, f1, f3], vp_cell_q]
          rfl
    by_cases h2 : gz g ≤ a ∧ a ≤ gz g + N
    · have hin : inR (gz g) N a = true := by
        unfold inR
        simp only [Bool.and_eq_true, decide_eq_true_eq]
        omega
      have hk : gK (mG g oc N M) a = 100 := by simp [gK, mG, h, hin]
      refine ⟨fun _ h9 => ?_, fun _ _ => ?_⟩
      · have : gK (mG g oc N M) a < 22 := h9
        omega
      · show H'[a]? = some (vp_cell (D.1 (gK (mG g oc N M) a)) (cAr (mG g oc N M, mC c (gz g) N) (gK (mG g oc N M) a) a))
        rw [hk]
        obtain ⟨j, rfl⟩ : ∃ j, a = H.size + 1 + j := ⟨a - H.size - 1, by omega⟩
        rw [ei j (by omega)]
        congr 1
        have f1 : gN (mG g oc N M) (H.size + 1 + j) = M := by simp [gN, mG, h, hin]
        have f3 : cA (mC c (gz g) N) (H.size + 1 + j) = fun i => 0 := by funext i; simp [cA, mC, hin]
        rw [show cAr (mG g oc N M, mC c (gz g) N) 100 (H.size + 1 + j) = (M, .inl (fun _ => 0)) by simp [cAr, aknd, f1, f3], vp_cell_i]
    · have h1 : ¬ (a = gz g ∨ inR (gz g) N a = true) := fun q => h2 ((hnew a).mp q)
      have h3 : ¬ inR (gz g) N a = true := fun q => h1 (Or.inr q)
      have e1 : gK (mG g oc N M) a = gK g a := by simp [gK, mG, h, h3]
      obtain ⟨c1, c2⟩ := r8 a
      have hV : ∀ t' j, cV (mG g oc N M, mC c (gz g) N) t' j a = cV (g, c) t' j a := by
        intro t' j
        simp [cV, cI, cL, cR, gR, mG, mC, h, h3]
      have hAr : ∀ t', cAr (mG g oc N M, mC c (gz g) N) t' a = cAr (g, c) t' a := by
        intro t'
        have f1 : cA (mC c (gz g) N) a = cA c a := by funext i; simp [cA, mC, h, h3]
        have f2 : cM (mC c (gz g) N) a = cM c a := by funext i; simp [cM, mC, h, h3]
        have f3 : cP (mC c (gz g) N) a = cP c a := by funext i; simp [cP, mC, h, h3]
        have f4 : gN (mG g oc N M) a = gN g a := by simp [gN, mG, h, h3]
        have f5 : gA (mG g oc N M) a = gA g a := by funext i; simp [gA, mG, h]
        unfold cAr
        show (gN (mG g oc N M) a, if aknd t' = 0 then Sum.inl (cA (mC c (gz g) N) a) else if aknd t' = 1 then Sum.inr (Sum.inl (cM (mC c (gz g) N) a)) else if aknd t' = 2 then Sum.inr (Sum.inr (Sum.inr (Sum.inr (cP (mC c (gz g) N) a)))) else Sum.inr (Sum.inr (Sum.inr (Sum.inr (fun i => some (gA (mG g oc N M) a i)))))) = _
        rw [f1, f2, f3, f4, f5]
      have hkeep : ∀ (q : Cell), H[a]? = some q → H'[a]? = H[a]? := fun q hq => old a (Array.getElem?_eq_some_iff.mp hq).1
      unfold cAt
      show (0 < gK (mG g oc N M) a → gK (mG g oc N M) a < 22 → t_OB a (D.1 (gK (mG g oc N M) a)) (kN (gK (mG g oc N M) a)) (D.2.1 (gK (mG g oc N M) a)) H' (fun k => cV (mG g oc N M, mC c (gz g) N) (gK (mG g oc N M) a) k a)) ∧ (100 ≤ gK (mG g oc N M) a → gK (mG g oc N M) a < 111 → H'[a]? = some (vp_cell (D.1 (gK (mG g oc N M) a)) (cAr (mG g oc N M, mC c (gz g) N) (gK (mG g oc N M) a) a)))
      rw [e1]
      refine ⟨fun h4 h5 => ?_, fun h4 h5 => ?_⟩
      · have h6 := c1 h4 h5
        obtain ⟨cl, hcl, -⟩ := id h6
        exact (h6.kept (hkeep cl hcl)).to (fun j _ => (hV _ j).symm)
      · have h6 := c2 h4 h5
        rw [hkeep _ h6, hAr]
        exact h6
def xmul (g : CG) (n k : Int32) : Bool := decide (0 ≤ n) && decide (0 ≤ k) && decide (n.toNatClampNeg ≤ 10000000) && decide (k.toNatClampNeg ≤ 10000000) && rmM g n.toNatClampNeg k.toNatClampNeg
theorem xmul_of {n k : Int32} (h : xmul g n k = true) : ¬ n < 0 ∧ ¬ k < 0 ∧ n.toNatClampNeg ≤ 10000000 ∧ k.toNatClampNeg ≤ 10000000 ∧ rmM g n.toNatClampNeg k.toNatClampNeg = true := by
  unfold xmul at h
  simp only [Bool.and_eq_true, decide_eq_true_eq] at h
  have h1 := Int32.le_iff_toInt_le.mp h.1.1.1.1
  have h2 := Int32.le_iff_toInt_le.mp h.1.1.1.2
  refine ⟨fun q => ?_, fun q => ?_, h.1.1.2, h.1.2, h.2⟩
  · have := Int32.lt_iff_toInt_lt.mp q
    omega
  · have := Int32.lt_iff_toInt_lt.mp q
    omega
theorem yc_multi {own : String} {index : Nat} {n k : Int32} (oc : Nat) (hoc : oc = 105 ∨ oc = 107) (ql : Cond.classLink own index "[[I" ∈ lw_all) (qa : Cond.arrayClass .int ∈ lw_all) (hn : xmul g n k = true) (ho : M.2.2.1 = own) (d : decode M.1 pc = .ok (.multianewarray index 2, 4))
    (kk : xV (wC D P) K M Q (mG g oc n.toNatClampNeg k.toNatClampNeg, mC c (gz g) n.toNatClampNeg) (pc + 4) loc (.ref (gz g) :: st)) : xV (wC D P) K M Q (g, c) pc loc (.int k :: .int n :: st) := by
  intro ok H locs cells slots ls hR hS hcc hs hl
  subst ho
  obtain ⟨n1, k1, n2, k2, hrm⟩ := xmul_of hn
  intro T hT X
  obtain ⟨r1, r2⟩ := yc_room ok hR hT X
  obtain ⟨q1, q2⟩ := rmM_of hrm
  have hR' : RelC D P (g, c) H := hR
  have hz : H.size = gz g := hR'.1
  have hKC : KC D P (xKs K) := ok.2.2.2.2.2.2.2.2.2.1
  have hpos : 0 < gz g := by
    obtain ⟨_, _, _, _, _, _, _, _, _, h5, _⟩ := hKC.2.2.2.2.1 0 (by decide)
    have h9 : P.1 ≤ gz g := hR'.2.2.2.1.1
    omega
  have hb := ok.2.1
  obtain ⟨vm₁, cA, comp, hW, hfA, hfC, hO, hI, X1, go⟩ := (stand_tight X).multianewarray2F ok.1 (ty := .int) ok.2.2.2.1 (ok.2.2.2.2.1 _ ql) (AO_alike (Vm.Alike.refl _) (hKC.2.2.2.2.2.2.2.2 (.array .int) (by simp [aoL]))) (ok.2.2.2.2.1 _ qa) (g := F0 (xKm K) pc ls (.int k :: .int n :: st)) rfl (by rw [hb]; exact d) (n := n) (k := k) (rest := st) rfl n1 k1 (by omega) (by show _ * 4 ≤ _; omega) (by omega) rfl rfl (by omega) (by omega)
  have hA : cA = D.1 oc := by
    have h9 := (hKC.2.1 oc (by omega) (by omega)).2
    have h8 : aty oc = .array .int := by rcases hoc with h | h <;> subst h <;> rfl
    rw [h8] at h9
    exact Option.some.inj (hfA.symm.trans h9)
  have hC : comp = D.1 100 := Option.some.inj (hfC.symm.trans (hKC.2.1 100 (by decide) (by decide)).2)
  subst hA; subst hC
  have hf := Jvm.Free.Multi.fill_facts (T.setVm vm₁) (D.1 oc) (D.1 100) n.toNatClampNeg k.toNatClampNeg (defaultValue .int) n.toNatClampNeg
  have hTs : (T.setVm vm₁).heap = H := hT
  have hsz : (T.setVm vm₁).heap.size = H.size := by rw [hTs]
  have hold := fun a (ha : a < H.size) => Jvm.Free.Multi.fill_old (T.setVm vm₁) (D.1 oc) (D.1 100) n.toNatClampNeg k.toNatClampNeg (defaultValue .int) (a := a) (by rw [hsz]; exact ha) n.toNatClampNeg
  have hinn := fun j (hj : j < n.toNatClampNeg) => Jvm.Free.Multi.fill_inner (T.setVm vm₁) (D.1 oc) (D.1 100) n.toNatClampNeg k.toNatClampNeg (defaultValue .int) n.toNatClampNeg j hj
  generalize Jvm.Free.Multi.fill (T.setVm vm₁) (D.1 oc) (D.1 100) n.toNatClampNeg k.toNatClampNeg (defaultValue .int) n.toNatClampNeg = T2 at *
  rw [hsz] at hf
  have hold' : ∀ q, q < H.size → T2.heap[q]? = H[q]? := fun q hq => by rw [hold q hq, hTs]
  have hrel : RelC D P (mG g oc n.toNatClampNeg k.toNatClampNeg, mC c (gz g) n.toNatClampNeg) T2.heap := by
    refine RelC_multi hR' hrm hpos hoc hf.1 ?_ (fun j hj => ?_) hold'
    · rw [hf.2.1, outerC_arr]
      congr 1
      exact arrV_congr (fun j hj => by simp [hj])
    · have := hinn j hj
      rw [hsz] at this
      rw [this]
      show some (Jvm.Free.Multi.innerC _ _ _) = _
      unfold Jvm.Free.Multi.innerC
      rw [arrV_new]
      rfl
  have hS2 : va_S (AC P) (xKs K).heap T2.heap locs := by
    refine ⟨by rw [hf.1]; have := hS.1; omega, fun q h1 h2 => ?_, hS.2.2⟩
    rw [hold' q (Nat.lt_of_lt_of_le h1 hS.1)]
    exact hS.2.1 q h1 h2
  obtain ⟨t2, a1, b1⟩ := kk ok T2.heap locs _ _ ls hrel hS2 (by omega) (by omega) hl T2 rfl X1
  refine ⟨t2, go t2 ?_, b1⟩
  have hTH : T.heap.size = gz g := by rw [hT]; exact hz
  rw [hTH]
  exact a1
end YM
