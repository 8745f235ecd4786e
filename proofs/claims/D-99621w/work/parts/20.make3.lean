/-! arrays of arrays of arrays are made -/
set_option maxRecDepth 100000
def outer3 (c : ClassId) (N M h0 : Nat) : Nat → Cell
  | 0 => { cls := c, slots := Array.replicate N .null, vm := .none }
  | i + 1 => (outer3 c N M h0 i).setSlot i (.ref (h0 + 1 + i * (1 + M)))
def fill3 (s : State) (c c2 c1 : ClassId) (N M L : Nat) (dv : Value) : Nat → State
  | 0 => s.pushCell (outer3 c N M s.heap.size 0)
  | i + 1 => (Jvm.Free.Multi.fill (fill3 s c c2 c1 N M L dv i) c2 c1 M L dv M).setCell s.heap.size (outer3 c N M s.heap.size (i + 1))
theorem outer3_facts (c : ClassId) (N M h0 : Nat) : ∀ i, (outer3 c N M h0 i).cls = c ∧ (outer3 c N M h0 i).vm = .none ∧ (outer3 c N M h0 i).slots.size = N
  | 0 => ⟨rfl, rfl, by simp [outer3]⟩
  | i + 1 => by
    obtain ⟨a, b, d⟩ := outer3_facts c N M h0 i
    exact ⟨by simp [outer3, Cell.setSlot, a], by simp [outer3, Cell.setSlot, b], by simp [outer3, Cell.setSlot, d]⟩
theorem outer3_arr (c : ClassId) (N M h0 : Nat) : ∀ i, outer3 c N M h0 i = arrV c N (fun j => if j < i then .ref (h0 + 1 + j * (1 + M)) else .null)
  | 0 => by
    rw [outer3, arrV_new]
    congr 1
  | i + 1 => by
    rw [outer3, outer3_arr c N M h0 i, arrV_store]
    congr 1
    funext j
    unfold updV
    by_cases h : j = i
    · subst h; simp
    · by_cases h2 : j < i
      · simp [h, h2, Nat.lt_succ_of_lt h2]
      · have : ¬ j < i + 1 := by omega
        simp [h, h2, this]
theorem fill3_facts (s : State) (c c2 c1 : ClassId) (N M L : Nat) (dv : Value) : ∀ i, (fill3 s c c2 c1 N M L dv i).heap.size = s.heap.size + 1 + i * (1 + M) ∧ (fill3 s c c2 c1 N M L dv i).heap[s.heap.size]? = some (outer3 c N M s.heap.size i) ∧
    (fill3 s c c2 c1 N M L dv i).vm = s.vm ∧ (fill3 s c c2 c1 N M L dv i).slotsUsed = s.slotsUsed + N + i * (M + M * L)
  | 0 => ⟨by simp [fill3], by simp [fill3], rfl, by simp [fill3, outer3]⟩
  | i + 1 => by
    obtain ⟨a, b, d, u⟩ := fill3_facts s c c2 c1 N M L dv i
    obtain ⟨f1, f2, f3, f4⟩ := Jvm.Free.Multi.fill_facts (fill3 s c c2 c1 N M L dv i) c2 c1 M L dv M
    have hlt : s.heap.size < (fill3 s c c2 c1 N M L dv i).heap.size := by omega
    have hb' : (Jvm.Free.Multi.fill (fill3 s c c2 c1 N M L dv i) c2 c1 M L dv M).heap[s.heap.size]? = some (outer3 c N M s.heap.size i) := by rw [Jvm.Free.Multi.fill_old _ _ _ _ _ _ hlt]; exact b
    refine ⟨?_, State.heap_setCell_self hb', ?_, ?_⟩
    · show ((Jvm.Free.Multi.fill _ _ _ _ _ _ _).setCell _ _).heap.size = _
      simp only [State.setCell, Array.size_setIfInBounds]
      rw [f1, a, Nat.succ_mul]; omega
    · show ((Jvm.Free.Multi.fill _ _ _ _ _ _ _).setCell _ _).vm = _
      exact f3.trans d
    · show ((Jvm.Free.Multi.fill _ _ _ _ _ _ _).setCell _ _).slotsUsed = _
      have : ((Jvm.Free.Multi.fill (fill3 s c c2 c1 N M L dv i) c2 c1 M L dv M).setCell s.heap.size (outer3 c N M s.heap.size (i + 1))).slotsUsed = (Jvm.Free.Multi.fill (fill3 s c c2 c1 N M L dv i) c2 c1 M L dv M).slotsUsed := by simp
      rw [this, f4, u, Nat.succ_mul]; omega
theorem fill3_setTop (s : State) (f : JFrame) (c c2 c1 : ClassId) (N M L : Nat) (dv : Value) : ∀ i, fill3 (s.setTop f) c c2 c1 N M L dv i = (fill3 s c c2 c1 N M L dv i).setTop f
  | 0 => rfl
  | i + 1 => by simp only [fill3, fill3_setTop s f c c2 c1 N M L dv i, Jvm.Free.Multi.fill_setTop, State.heap_setTop, State.setCell_setTop]
section W3
variable {E : CtlPost} {e : Env} {d : Bool} {acts : List Action} {s : State}
theorem wp_make3 {c c2 c1 cc : ClassId} {k k2 k1 : Class} {t0 t1 type : FieldType} {n m q : Int32} (hk : s.vm.classes[c]? = some k) (hkind : k.kind = .array c2 t0) (href : t0.isReference = true) (hk2 : s.vm.classes[c2]? = some k2) (hkind2 : k2.kind = .array c1 t1) (href1 : t1.isReference = true)
    (hk1 : s.vm.classes[c1]? = some k1) (hkind1 : k1.kind = .array cc type) (hn : ¬ n < 0) (hm : ¬ m < 0) (hq0 : ¬ q < 0)
    (hl1 : ¬ n.toNatClampNeg > e.platform.arrayLengthLimit) (hh1 : ¬ n.toNatClampNeg * componentBytes t0 > e.platform.maxHeapBytes)
    (hl2 : ¬ m.toNatClampNeg > e.platform.arrayLengthLimit) (hh2 : ¬ m.toNatClampNeg * componentBytes t1 > e.platform.maxHeapBytes)
    (hl3 : ¬ q.toNatClampNeg > e.platform.arrayLengthLimit) (hh3 : ¬ q.toNatClampNeg * componentBytes type > e.platform.maxHeapBytes)
    (hdf : fits type (defaultValue type) = true) (hdd : (defaultValue type).isDefault = true)
    (hc : s.heap.size + 1 + n.toNatClampNeg * (1 + m.toNatClampNeg) ≤ e.platform.maxCells) (hs : s.slotsUsed + n.toNatClampNeg + n.toNatClampNeg * (m.toNatClampNeg + m.toNatClampNeg * q.toNatClampNeg) ≤ e.platform.maxSlots)
    {Q : Addr → Pre} (hq : ∀ d' acts', Q s.heap.size d' acts' (fill3 s c c2 c1 n.toNatClampNeg m.toNatClampNeg q.toNatClampNeg (defaultValue type) n.toNatClampNeg)) :
    wp (Op.multianewarray.make c [n, m, q]) Q E e d acts s := by
  have hfind : ([m, q].find? (· < 0)) = none := by simp [hm, hq0]
  rw [Op.multianewarray.make]
  simp only [wp_bind', W.ite, hn, if_false, wp_pure', W.theClass, hk, hkind, Option.some.injEq, exists_eq_left']
  refine Jvm.Free.Multi.wp_newArray hk hkind hl1 hh1 (Jvm.Free.Multi.refFits href _ (Or.inl rfl)) rfl (by omega) (by have := Nat.zero_le (n.toNatClampNeg * (m.toNatClampNeg + m.toNatClampNeg * q.toNatClampNeg)); omega) ?_
  simp only [hfind]
  rw [ite_self, wp_bind', Std.Legacy.Range.forIn_eq_forIn_range']
  have hsz : ([:n.toNatClampNeg] : Std.Legacy.Range).size = n.toNatClampNeg := by simp [Std.Legacy.Range.size]
  rw [hsz]
  show wp (forIn (List.range' 0 n.toNatClampNeg 1) PUnit.unit _) _ E e d acts _
  refine wp_forIn_inv (fun rest s' => ∃ i, i ≤ n.toNatClampNeg ∧ rest = List.range' i (n.toNatClampNeg - i) ∧ s' = fill3 s c c2 c1 n.toNatClampNeg m.toNatClampNeg q.toNatClampNeg (defaultValue type) i) _ _ ⟨0, Nat.zero_le _, rfl, rfl⟩ ?_ ?_
  · rintro x rest s' d' acts' Q' ⟨i, hi, hl, rfl⟩ hnext
    have hlt : i < n.toNatClampNeg := by
      rcases Nat.lt_or_ge i n.toNatClampNeg with h | h
      · exact h
      · rw [show n.toNatClampNeg - i = 0 from by omega] at hl; simp at hl
    obtain ⟨rfl, hrest⟩ : x = i ∧ rest = List.range' (i + 1) (n.toNatClampNeg - (i + 1)) := by
      rw [show n.toNatClampNeg - i = (n.toNatClampNeg - (i + 1)) + 1 from by omega, List.range'_succ] at hl
      exact ⟨(List.cons.inj hl).1, (List.cons.inj hl).2⟩
    obtain ⟨f1, f2, f3, f4⟩ := fill3_facts s c c2 c1 n.toNatClampNeg m.toNatClampNeg q.toNatClampNeg (defaultValue type) x
    obtain ⟨g1, g2, g3, g4⟩ := Jvm.Free.Multi.fill_facts (fill3 s c c2 c1 n.toNatClampNeg m.toNatClampNeg q.toNatClampNeg (defaultValue type) x) c2 c1 m.toNatClampNeg q.toNatClampNeg (defaultValue type) m.toNatClampNeg
    obtain ⟨o1, o2, o3⟩ := outer3_facts c n.toNatClampNeg m.toNatClampNeg s.heap.size x
    have hmul : x * (1 + m.toNatClampNeg) + (1 + m.toNatClampNeg) ≤ n.toNatClampNeg * (1 + m.toNatClampNeg) := by
      have := Nat.mul_le_mul_right (1 + m.toNatClampNeg) (show x + 1 ≤ n.toNatClampNeg from hlt)
      rw [Nat.succ_mul] at this; exact this
    have hmul2 : x * (m.toNatClampNeg + m.toNatClampNeg * q.toNatClampNeg) + (m.toNatClampNeg + m.toNatClampNeg * q.toNatClampNeg) ≤ n.toNatClampNeg * (m.toNatClampNeg + m.toNatClampNeg * q.toNatClampNeg) := by
      have := Nat.mul_le_mul_right (m.toNatClampNeg + m.toNatClampNeg * q.toNatClampNeg) (show x + 1 ≤ n.toNatClampNeg from hlt)
      rw [Nat.succ_mul] at this; exact this
    simp only [wp_bind']
    refine Jvm.Free.Multi.wp_make2 (by rw [f3]; exact hk2) hkind2 href1 (by rw [f3]; exact hk1) hkind1 hm hq0 hl2 hh2 hl3 hh3 hdf hdd (by rw [f1]; omega) (by rw [f4]; omega) (fun d2 acts2 => ?_)
    have hlt0 : s.heap.size < (fill3 s c c2 c1 n.toNatClampNeg m.toNatClampNeg q.toNatClampNeg (defaultValue type) x).heap.size := by rw [f1]; omega
    simp only [wp_bind', W.writeLoc, wp_pure']
    refine ⟨outer3 c n.toNatClampNeg m.toNatClampNeg s.heap.size x, by rw [Jvm.Free.Multi.fill_old _ _ _ _ _ _ hlt0]; exact f2, by rw [o2]; simp, by rw [o3]; exact hlt, ?_, hnext _ _ _ ⟨x + 1, hlt, hrest, ?_⟩⟩
    · rw [o1, o2]
      simp [State.fitsSlot, State.slotType?, g3, f3, hk, hkind, Jvm.Free.Multi.refFits href _ (Or.inr ⟨_, rfl⟩)]
    · rw [f1]; rfl
  · rintro s' d' acts' ⟨i, hi, hl, rfl⟩
    have hiN : i = n.toNatClampNeg := by
      rcases Nat.lt_or_ge i n.toNatClampNeg with h | h
      · rw [show n.toNatClampNeg - i = (n.toNatClampNeg - (i + 1)) + 1 from by omega, List.range'_succ] at hl; cases hl
      · omega
    subst hiN
    simp only [wp_pure']
    exact hq _ _
end W3
section S3
variable {p : Program} {l : Launch} {e : Env} {R : Room} {s : State} {m : MethodId} {args : Array Value} {below : List Frame} {meth : Method} {c : Code} {T : State} {locs : List Loc} {cells slots : Nat}
theorem filled3 (X : Stand p l e R s m args below meth c T locs cells slots) (cA c2 c1 : ClassId) (N M L : Nat) (dv : Value) :
    ∀ i, ∃ J : List Loc, (∀ x ∈ J, T.heap.size ≤ x.base) ∧ Stand p l e R s m args below meth c (fill3 T cA c2 c1 N M L dv i) (locs ++ J) (cells + 1 + i * (1 + M)) (slots + N + i * (M + M * L))
  | 0 => by
    have h := X.pushed (outer3 cA N M T.heap.size 0)
    rw [(outer3_facts cA N M T.heap.size 0).2.2] at h
    exact ⟨[], fun x hx => (by cases hx), by simpa [fill3] using h⟩
  | i + 1 => by
    obtain ⟨J, hJ, Xi⟩ := filled3 X cA c2 c1 N M L dv i
    obtain ⟨f1, f2, f3, f4⟩ := fill3_facts T cA c2 c1 N M L dv i
    have hlt0 : T.heap.size < (fill3 T cA c2 c1 N M L dv i).heap.size := by rw [f1]; omega
    have Xf := Xi.filled c2 c1 M L dv M
    have hcell : (Jvm.Free.Multi.fill (fill3 T cA c2 c1 N M L dv i) c2 c1 M L dv M).heap[T.heap.size]? = some (outer3 cA N M T.heap.size i) := by rw [Jvm.Free.Multi.fill_old _ _ _ _ _ _ hlt0]; exact f2
    have h := Xf.stored hcell i (.ref (T.heap.size + 1 + i * (1 + M)))
    refine ⟨J ++ ((List.range M).map fun j => ⟨(fill3 T cA c2 c1 N M L dv i).heap.size, j⟩) ++ [⟨T.heap.size, i⟩], fun x hx => ?_, ?_⟩
    · rcases List.mem_append.mp hx with hx | hx
      · rcases List.mem_append.mp hx with hx | hx
        · exact hJ x hx
        · obtain ⟨j, -, rfl⟩ := List.mem_map.mp hx
          exact Nat.le_of_lt hlt0
      · cases List.mem_singleton.mp hx
        exact Nat.le_refl _
    · have e1 : cells + 1 + (i + 1) * (1 + M) = cells + 1 + i * (1 + M) + 1 + M := by rw [Nat.succ_mul]; omega
      have e3 : slots + N + (i + 1) * (M + M * L) = slots + N + i * (M + M * L) + M + M * L := by rw [Nat.succ_mul]; omega
      rw [e1, e3, ← List.append_assoc, ← List.append_assoc]
      exact h
theorem stand_multi3 (X : Stand p l e R s m args below meth c T locs cells slots) (hexec : p.tables.exec = Jvm.exec) {own : String} {index : Nat} {ty : FieldType}
    (hown : s.vm.findClass own = some m.cls) (hclink : (Cond.classLink own index ("[" ++ (FieldType.array (.array ty)).toString)).before args s = true)
    (hover3 : (Cond.arrayOver (.array (.array ty))).before args s = true) (hover : (Cond.arrayOver (.array ty)).before args s = true) (harr : (Cond.arrayClass ty).before args s = true)
    {g : JFrame} (hg : g.method = m) (hdg : decode c.code g.pc = .ok (.multianewarray index 3, 4)) {n k q : Int32} {rest : List Value} (hstack : g.stack = .int q :: .int k :: .int n :: rest)
    (hn : ¬ n < 0) (hk : ¬ k < 0) (hq0 : ¬ q < 0) (hb1 : n.toNatClampNeg * 4 ≤ 536870912) (hb2 : k.toNatClampNeg * 4 ≤ 536870912) (hb3 : q.toNatClampNeg * componentBytes ty ≤ 536870912) (hb4 : q.toNatClampNeg ≤ 536870912)
    (hdf : fits ty (defaultValue ty) = true) (hdd : (defaultValue ty).isDefault = true)
    (hcells : cells + (1 + n.toNatClampNeg * (1 + k.toNatClampNeg)) ≤ R.cells) (hslots : slots + (n.toNatClampNeg + n.toNatClampNeg * (k.toNatClampNeg + k.toNatClampNeg * q.toNatClampNeg)) ≤ R.slots) :
    ∃ (vm₁ : Vm) (cA c2 c1 : ClassId), s.WarmedH vm₁ ∧ s.vm.findClass ("[" ++ (FieldType.array (.array ty)).toString) = some cA ∧ s.vm.findClass (FieldType.array (.array ty)).toString = some c2 ∧ s.vm.findClass (FieldType.array ty).toString = some c1 ∧
      Stand p l e R s m args below meth c (fill3 (T.setVm vm₁) cA c2 c1 n.toNatClampNeg k.toNatClampNeg q.toNatClampNeg (defaultValue ty) n.toNatClampNeg) locs (cells + 1 + n.toNatClampNeg * (1 + k.toNatClampNeg)) (slots + n.toNatClampNeg + n.toNatClampNeg * (k.toNatClampNeg + k.toNatClampNeg * q.toNatClampNeg)) ∧
      ∀ target, Steps p.tables e below ((fill3 (T.setVm vm₁) cA c2 c1 n.toNatClampNeg k.toNatClampNeg q.toNatClampNeg (defaultValue ty) n.toNatClampNeg).setTop { g with pc := g.pc + 4, stack := .ref T.heap.size :: rest }) target →
        Steps p.tables e below (T.setTop g) target := by
  subst hg
  have hpl : e.platform.magicAccessors = ({} : Platform).magicAccessors := by rw [X.admits.platform]
  obtain ⟨c2, cA, kA, hc2, hkA, hkindA, hnameA⟩ := Cond.arrayOver_specA hover3
  obtain ⟨c1, c2', k2, hc1, hk2, hkind2, hname2⟩ := Cond.arrayOver_specA hover
  obtain ⟨c1', kC, cc, hc1', hkC, hkindC⟩ := Cond.arrayClass_spec harr
  have ecomp : c1' = c1 := Option.some.inj (hc1'.symm.trans hc1)
  subst ecomp
  have ec2 : c2' = c2 := Option.some.inj (hname2.symm.trans hc2)
  subst ec2
  obtain ⟨c0, hfc0, hcl⟩ := Cond.classLink_spec hown hclink e.platform hpl
  cases hnameA.symm.trans hfc0
  obtain ⟨hg₁, hwarm₁, hready₁⟩ := State.classEntry (e := e) X.warmed hcl
  generalize T.vm.noted g.method.cls index (.cls cA) = vm₁ at hg₁ hwarm₁ hready₁
  have hal : s.vm.Alike vm₁ := hwarm₁.alike
  obtain ⟨kA₁, hkA₁, heA⟩ := hal.2.2 _ _ hkA
  obtain ⟨k2₁, hk2₁, he2⟩ := hal.2.2 _ _ hk2
  obtain ⟨kC₁, hkC₁, heC⟩ := hal.2.2 _ _ hkC
  have hkindA₁ : kA₁.kind = .array c2' (.array (.array ty)) := by rw [heA]; exact hkindA
  have hkind2₁ : k2₁.kind = .array c1' (.array ty) := by rw [he2]; exact hkind2
  have hkindC₁ : kC₁.kind = .array cc ty := by rw [heC]; exact hkindC
  have X₁ := X.noted hwarm₁
  obtain ⟨hr1, hr2⟩ := X.roomAbove hcells hslots
  obtain ⟨J, hJ, XF⟩ := filled3 X₁ cA c2' c1' n.toNatClampNeg k.toNatClampNeg q.toNatClampNeg (defaultValue ty) n.toNatClampNeg
  refine ⟨vm₁, cA, c2', c1', hwarm₁, hnameA, hc2, hc1, XF.dropFresh (fun x hx => Nat.le_trans X.heapGrown (hJ x hx)), fun target hrest => ?_⟩
  have hl1 : ¬ n.toNatClampNeg > e.platform.arrayLengthLimit := by rw [Launch.admits_arrayLengthLimit X.admits]; omega
  have hh1 : ¬ n.toNatClampNeg * componentBytes (.array (.array ty)) > e.platform.maxHeapBytes := by
    rw [Launch.admits_maxHeapBytes X.admits]; show ¬ n.toNatClampNeg * 4 > 536870912; omega
  have hl2 : ¬ k.toNatClampNeg > e.platform.arrayLengthLimit := by rw [Launch.admits_arrayLengthLimit X.admits]; omega
  have hh2 : ¬ k.toNatClampNeg * componentBytes (.array ty) > e.platform.maxHeapBytes := by
    rw [Launch.admits_maxHeapBytes X.admits]; show ¬ k.toNatClampNeg * 4 > 536870912; omega
  have hl3 : ¬ q.toNatClampNeg > e.platform.arrayLengthLimit := by rw [Launch.admits_arrayLengthLimit X.admits]; omega
  have hh3 : ¬ q.toNatClampNeg * componentBytes ty > e.platform.maxHeapBytes := by rw [Launch.admits_maxHeapBytes X.admits]; omega
  jvm_step X.here [hexec, hdg]
  simp only [Op.multianewarray.sem, wp_bind', W.resolveClassAt_links (State.method?_setTop g X.here.top) hg₁]
  rw [W.popN, if_neg (by decide)]
  refine ⟨g, State.topJava?_setTop' (s := T.setVm vm₁) g X.here.top, [.int n, .int k, .int q], rest, rfl, hstack, ?_⟩
  simp only [List.mapM_cons, List.mapM_nil, wp_bind', wp_pure']
  refine wp_make3 (k := kA₁) (k2 := k2₁) (k1 := kC₁) (c2 := c2') (c1 := c1') (cc := cc) (t0 := .array (.array ty)) (t1 := .array ty) (type := ty) hkA₁ hkindA₁ rfl hk2₁ hkind2₁ rfl hkC₁ hkindC₁ hn hk hq0 hl1 hh1 hl2 hh2 hl3 hh3 hdf hdd (by show T.heap.size + 1 + _ ≤ _; omega) (by show T.slotsUsed + _ + _ ≤ _; omega) (fun d' acts' => ?_)
  have eS : ((T.setTop g).setVm vm₁).setTop { g with stack := rest } = (T.setVm vm₁).setTop { g with stack := rest } := by
    show ((T.setVm vm₁).setTop g).setTop _ = _
    rw [State.setTop_setTop]
  rw [eS, fill3_setTop]
  simp only [wp_bind', W.mark, W.pushRef, State.topJava?_setTop' _ XF.here.top, Option.some.injEq, exists_eq_left', State.setTop_setTop, State.heap_setTop]
  intro acts
  simp [jvm, XF.here.top]
  exact hrest
end S3
/-- an array of references that stay, in place of what isn't known -/
def fG (g : CG) (a N : Nat) (f : Nat → Nat) : CG := (fun b => if b = a then 106 else g.1 b, fun b => if b = a then N else g.2.1 b, g.2.2.1, fun b i => if b = a then f i else g.2.2.2.1 b i, g.2.2.2.2)
/-- i rows of arrays -/
def m3 (M L : Nat) (τ : CS) : Nat → CS
  | 0 => τ
  | i + 1 => (mG (m3 M L τ i).1 105 M L, mC (m3 M L τ i).2 (gz (m3 M L τ i).1) M)
def W3 (N M L : Nat) (τ : CS) : CS := (fG (m3 M L (nG τ.1 0 0 N, zC τ.2 (gz τ.1)) N).1 (gz τ.1) N (fun i => gz τ.1 + 1 + i * (1 + M)), (m3 M L (nG τ.1 0 0 N, zC τ.2 (gz τ.1)) N).2)
def xmul3 (g : CG) (n k q : Int32) : Bool := decide (0 ≤ n) && decide (0 ≤ k) && decide (0 ≤ q) && decide (n.toNatClampNeg ≤ 10000000) && decide (k.toNatClampNeg ≤ 10000000) && decide (q.toNatClampNeg ≤ 10000000) && decide (1 + n.toNatClampNeg * (1 + k.toNatClampNeg) ≤ grc g) && decide (n.toNatClampNeg + n.toNatClampNeg * (k.toNatClampNeg + k.toNatClampNeg * q.toNatClampNeg) ≤ grs g)
def aMul3 (n k q : Int32) (τ : CS) : Option (Nat × CS) := if xmul3 τ.1 n k q = true then some (gz τ.1, W3 n.toNatClampNeg k.toNatClampNeg q.toNatClampNeg τ) else none
theorem aMul3_T {r : Nat} {n k q : Int32} {τ τ1 : CS} (h : aMul3 n k q τ = some (r, τ1)) : gT τ1.1 r = 106 := by
  obtain ⟨-, h⟩ := xo_if h
  cases h
  simp [gT, W3, fG]
section YM3
variable {D : CD} {P : CP} {K : xK} {M : xM} {Q : State → Prop} {g : CG} {c : CC} {pc : Nat} {loc : List (Nat × Value)} {st : List Value}
theorem RelC_hole {H H' : Heap} {cell : Cell} {sl : Nat} (hR : RelC D P (g, c) H) (hrm : rmG g sl = true) (z : H'.size = H.size + 1) (e : H'[H.size]? = some cell) (o : ∀ q, q < H.size → H'[q]? = H[q]?) (hsl : cell.slots.size = sl) : RelC D P (nG g 0 0 sl, zC c (gz g)) H' := by
  have hz : H.size = gz g := hR.1
  have hn : gT (nG g 0 0 sl) (gz g) = 0 := by simp [gT, nG]
  have hk0 : gK (nG g 0 0 sl) (gz g) = 0 := by simp [gK, nG]
  obtain ⟨q1, q2⟩ := rmG_of hrm
  obtain ⟨r1, r2, r3, r4, r5, r6, r7, r8⟩ := hR
  have hss := ssum_push z e o
  rw [hsl] at hss
  refine ⟨by rw [z, hz]; rfl, ?_, ?_, ⟨Nat.le_succ_of_le r4.1, Nat.le_succ_of_le r4.2.1, r4.2.2.1, r4.2.2.2⟩, fun q hq => ?_, fun a ha h1 => ?_, fun a ha => ?_, fun a => ?_⟩
  · have h2 : gz g + grc g = P.2.2.2.1 := r2
    show gz g + 1 + (grc g - 1) = _
    omega
  · have h3 : ssum H + grs g = P.2.2.2.2.1 := r3
    show ssum H' + (grs g - sl) = _
    omega
  · have : q < H.size := by have h9 : P.1 ≤ gz g := r4.1; omega
    rw [o q this]
    exact r5 q hq
  · by_cases h : a = gz g
    · subst h; exact absurd hn ha
    · have e1 : gT (nG g 0 0 sl) a = gT g a := by simp [gT, nG, h]
      exact r6 a (by rw [← e1]; exact ha) (by rw [← e1]; exact h1)
  · show a < gz g + 1
    by_cases h : a = gz g
    · omega
    · have e1 : gT (nG g 0 0 sl) a = gT g a := by simp [gT, nG, h]
      exact Nat.lt_succ_of_lt (r7 a (by rw [← e1]; exact ha))
  · by_cases h : a = gz g
    · subst h
      refine ⟨fun h1 _ => ?_, fun h1 _ => ?_⟩
      · have h1' : 0 < gK (nG g 0 0 sl) (gz g) := h1
        omega
      · have h1' : 100 ≤ gK (nG g 0 0 sl) (gz g) := h1
        omega
    · have e1 : gK (nG g 0 0 sl) a = gK g a := by simp [gK, nG, h]
      obtain ⟨c1, c2⟩ := r8 a
      have hV : ∀ t' j, cV (nG g 0 0 sl, zC c (gz g)) t' j a = cV (g, c) t' j a := by
        intro t' j
        simp [cV, cI, cL, cR, gR, nG, zC, h]
      have hAr : ∀ t', cAr (nG g 0 0 sl, zC c (gz g)) t' a = cAr (g, c) t' a := by
        intro t'
        have f1 : cA (zC c (gz g)) a = cA c a := by funext i; simp [cA, zC, h]
        have f2 : cM (zC c (gz g)) a = cM c a := by funext i; simp [cM, zC, h]
        have f3 : cP (zC c (gz g)) a = cP c a := by funext i; simp [cP, zC, h]
        have f4 : gN (nG g 0 0 sl) a = gN g a := by simp [gN, nG, h]
        unfold cAr
        show (gN (nG g 0 0 sl) a, if aknd t' = 0 then Sum.inl (cA (zC c (gz g)) a) else if aknd t' = 1 then Sum.inr (Sum.inl (cM (zC c (gz g)) a)) else if aknd t' = 2 then Sum.inr (Sum.inr (Sum.inr (Sum.inr (cP (zC c (gz g)) a)))) else _) = _
        rw [f1, f2, f3, f4]
        rfl
      have hkeep : ∀ (q : Cell), H[a]? = some q → H'[a]? = H[a]? := fun q hq => o a (Array.getElem?_eq_some_iff.mp hq).1
      unfold cAt
      show (0 < gK (nG g 0 0 sl) a → gK (nG g 0 0 sl) a < 22 → t_OB a (D.1 (gK (nG g 0 0 sl) a)) (kN (gK (nG g 0 0 sl) a)) (D.2.1 (gK (nG g 0 0 sl) a)) H' (fun k => cV (nG g 0 0 sl, zC c (gz g)) (gK (nG g 0 0 sl) a) k a)) ∧ (100 ≤ gK (nG g 0 0 sl) a → gK (nG g 0 0 sl) a < 111 → H'[a]? = some (vp_cell (D.1 (gK (nG g 0 0 sl) a)) (cAr (nG g 0 0 sl, zC c (gz g)) (gK (nG g 0 0 sl) a) a)))
      rw [e1]
      refine ⟨fun h1 h2 => ?_, fun h1 h2 => ?_⟩
      · have h3 := c1 h1 h2
        obtain ⟨cl, hcl, -⟩ := id h3
        exact (h3.kept (hkeep cl hcl)).to (fun j _ => (hV _ j).symm)
      · have h3 := c2 h1 h2
        rw [hkeep _ h3, hAr]
        exact h3
theorem RelC_fill {H : Heap} {a N : Nat} {f : Nat → Nat} (hR : RelC D P (g, c) H) (h0 : gT g a = 0) (hA : AC P a) (ha : a < gz g) (hp : a ≠ 0) (hc : H[a]? = some (arrV (D.1 106) N (fun j => .ref (f j)))) : RelC D P (fG g a N f, c) H := by
  obtain ⟨r1, r2, r3, r4, r5, r6, r7, r8⟩ := hR
  have hgA : ∀ i, gA (fG g a N f) 0 i = gA g 0 i := fun i => by simp [gA, fG, Ne.symm hp]
  refine ⟨r1, r2, r3, ⟨r4.1, r4.2.1, fun k h1 h2 => by rw [hgA]; exact r4.2.2.1 k h1 h2, fun i hi => by rw [hgA]; exact r4.2.2.2 i hi⟩, r5, fun b hb h1 => ?_, fun b hb => ?_, fun b => ?_⟩
  · by_cases h : b = a
    · rw [h]; exact hA
    · have e1 : gT (fG g a N f) b = gT g b := by simp [gT, fG, h]
      exact r6 b (by rw [← e1]; exact hb) (by rw [← e1]; exact h1)
  · by_cases h : b = a
    · rw [h]; exact ha
    · have e1 : gT (fG g a N f) b = gT g b := by simp [gT, fG, h]
      exact r7 b (by rw [← e1]; exact hb)
  · by_cases h : b = a
    · subst h
      have e1 : gK (fG g b N f) b = 106 := by simp [gK, fG]
      refine ⟨fun _ h2 => ?_, fun _ _ => ?_⟩
      · have h2' : gK (fG g b N f) b < 22 := h2
        omega
      · show H[b]? = some (vp_cell (D.1 (gK (fG g b N f) b)) (cAr (fG g b N f, c) (gK (fG g b N f) b) b))
        rw [e1, hc]
        have f1 : gN (fG g b N f) b = N := by simp [gN, fG]
        have f2 : ∀ i, gA (fG g b N f) b i = f i := fun i => by simp [gA, fG]
        show _ = some (vp_cell (D.1 106) (gN (fG g b N f) b, .inr (.inr (.inr (.inr (fun i => some (gA (fG g b N f) b i)))))))
        rw [f1, vp_cell_q]
        simp only [f2]
        rfl
    · have e1 : gK (fG g a N f) b = gK g b := by simp [gK, fG, h]
      obtain ⟨c1, c2⟩ := r8 b
      have hV : ∀ t' j, cV (fG g a N f, c) t' j b = cV (g, c) t' j b := fun t' j => rfl
      have hAr : ∀ t', cAr (fG g a N f, c) t' b = cAr (g, c) t' b := by
        intro t'
        have f4 : gN (fG g a N f) b = gN g b := by simp [gN, fG, h]
        have f5 : (fun i => some (gA (fG g a N f) b i)) = fun i => some (gA g b i) := by funext i; simp [gA, fG, h]
        unfold cAr
        show (gN (fG g a N f) b, if aknd t' = 0 then _ else if aknd t' = 1 then _ else if aknd t' = 2 then _ else Sum.inr (Sum.inr (Sum.inr (Sum.inr (fun i => some (gA (fG g a N f) b i)))))) = _
        rw [f4, f5]
      unfold cAt
      show (0 < gK (fG g a N f) b → gK (fG g a N f) b < 22 → t_OB b (D.1 (gK (fG g a N f) b)) (kN (gK (fG g a N f) b)) (D.2.1 (gK (fG g a N f) b)) H (fun k => cV (fG g a N f, c) (gK (fG g a N f) b) k b)) ∧ (100 ≤ gK (fG g a N f) b → gK (fG g a N f) b < 111 → H[b]? = some (vp_cell (D.1 (gK (fG g a N f) b)) (cAr (fG g a N f, c) (gK (fG g a N f) b) b)))
      rw [e1]
      exact ⟨fun h1 h2 => c1 h1 h2, fun h1 h2 => by rw [hAr]; exact c2 h1 h2⟩
theorem m3_facts (M L : Nat) (τ : CS) : ∀ i, gz (m3 M L τ i).1 = gz τ.1 + i * (1 + M) ∧ grc (m3 M L τ i).1 = grc τ.1 - i * (1 + M) ∧ grs (m3 M L τ i).1 = grs τ.1 - i * (M + M * L)
  | 0 => ⟨by simp [m3], by simp [m3], by simp [m3]⟩
  | i + 1 => by
    obtain ⟨a, b, d⟩ := m3_facts M L τ i
    refine ⟨?_, ?_, ?_⟩
    · show gz (m3 M L τ i).1 + 1 + M = _
      rw [a, Nat.succ_mul]; omega
    · show grc (m3 M L τ i).1 - (1 + M) = _
      rw [b, Nat.succ_mul]; omega
    · show grs (m3 M L τ i).1 - (M + M * L) = _
      rw [d, Nat.succ_mul]; omega
theorem m3_old (M L : Nat) (τ : CS) {a : Nat} (ha : a < gz τ.1) : ∀ i, gT (m3 M L τ i).1 a = gT τ.1 a
  | 0 => rfl
  | i + 1 => by
    rw [← m3_old M L τ ha i]
    have h1 := (m3_facts M L τ i).1
    have h2 : a ≠ gz (m3 M L τ i).1 := by have := Nat.zero_le (i * (1 + M)); omega
    have h3 : inR (gz (m3 M L τ i).1) M a = false := by unfold inR; simp; omega
    show (if a = gz (m3 M L τ i).1 then 105 else if inR (gz (m3 M L τ i).1) M a = true then 100 else (m3 M L τ i).1.1 a) = _
    rw [if_neg h2, h3]
    rfl
theorem RelC_m3 {s : State} {N M L : Nat} (hR : RelC D P (g, c) s.heap) (hpos : 0 < gz g) (hrc : 1 + N * (1 + M) ≤ grc g) (hrs : N + N * (M + M * L) ≤ grs g) :
    ∀ i, i ≤ N → RelC D P (m3 M L (nG g 0 0 N, zC c (gz g)) i) (fill3 s (D.1 106) (D.1 105) (D.1 100) N M L (.int 0) i).heap
  | 0, _ => by
    refine RelC_hole hR (by unfold rmG; simp; omega) (cell := outer3 (D.1 106) N M s.heap.size 0) (by simp [fill3]) (by simp [fill3]) (fun q hq => State.heap_pushCell_of_lt _ _ hq) (outer3_facts _ _ _ _ _).2.2
  | i + 1, h => by
    have ih := RelC_m3 (N := N) (M := M) (L := L) hR hpos hrc hrs i (by omega)
    have hz : s.heap.size = gz g := hR.1
    obtain ⟨f1, f2, f3, f4⟩ := fill3_facts s (D.1 106) (D.1 105) (D.1 100) N M L (.int 0) i
    obtain ⟨a1, a2, a3⟩ := m3_facts M L (nG g 0 0 N, zC c (gz g)) i
    have a1' : gz (m3 M L (nG g 0 0 N, zC c (gz g)) i).1 = gz g + 1 + i * (1 + M) := a1
    have a2' : grc (m3 M L (nG g 0 0 N, zC c (gz g)) i).1 = grc g - 1 - i * (1 + M) := a2
    have a3' : grs (m3 M L (nG g 0 0 N, zC c (gz g)) i).1 = grs g - N - i * (M + M * L) := a3
    have hmul : i * (1 + M) + (1 + M) ≤ N * (1 + M) := by
      have := Nat.mul_le_mul_right (1 + M) (show i + 1 ≤ N from h)
      rw [Nat.succ_mul] at this; exact this
    have hmul2 : i * (M + M * L) + (M + M * L) ≤ N * (M + M * L) := by
      have := Nat.mul_le_mul_right (M + M * L) (show i + 1 ≤ N from h)
      rw [Nat.succ_mul] at this; exact this
    generalize hS : fill3 s (D.1 106) (D.1 105) (D.1 100) N M L (.int 0) i = S at *
    have hf := Jvm.Free.Multi.fill_facts S (D.1 105) (D.1 100) M L (.int 0) M
    have hrel : RelC D P (mG (m3 M L (nG g 0 0 N, zC c (gz g)) i).1 105 M L, mC (m3 M L (nG g 0 0 N, zC c (gz g)) i).2 (gz (m3 M L (nG g 0 0 N, zC c (gz g)) i).1) M) (Jvm.Free.Multi.fill S (D.1 105) (D.1 100) M L (.int 0) M).heap := by
      refine RelC_multi (H := S.heap) ih (by unfold rmM; simp; omega) (by omega) (Or.inl rfl) hf.1 ?_ (fun j hj => ?_) (fun q hq => Jvm.Free.Multi.fill_old S _ _ _ _ _ hq M)
      · rw [hf.2.1, outerC_arr]
        congr 1
        exact arrV_congr (fun j hj => by simp [hj])
      · rw [Jvm.Free.Multi.fill_inner S _ _ _ _ _ M j hj]
        unfold Jvm.Free.Multi.innerC
        rw [arrV_new]
    have hlt0 : s.heap.size < S.heap.size := by rw [f1]; omega
    have hcell : (Jvm.Free.Multi.fill S (D.1 105) (D.1 100) M L (.int 0) M).heap[s.heap.size]? = some (outer3 (D.1 106) N M s.heap.size i) := by rw [Jvm.Free.Multi.fill_old _ _ _ _ _ _ hlt0]; exact f2
    have hR0 := hR.2.2.2.1
    have h80 : P.1 ≤ gz g := hR0.1
    have h81 : P.2.2.1 ≤ gz g := hR0.2.1
    have hTz : gT (mG (m3 M L (nG g 0 0 N, zC c (gz g)) i).1 105 M L) (gz g) = 0 := by
      have h1 : gT (m3 M L (nG g 0 0 N, zC c (gz g)) (i + 1)).1 (gz g) = gT (nG g 0 0 N) (gz g) := m3_old M L (nG g 0 0 N, zC c (gz g)) (by show gz g < gz g + 1; omega) (i + 1)
      rw [show gT (nG g 0 0 N) (gz g) = 0 by simp [gT, nG]] at h1
      exact h1
    have hKz : gK (mG (m3 M L (nG g 0 0 N, zC c (gz g)) i).1 105 M L) (gz g) = 0 := by
      unfold gK
      rw [show (mG (m3 M L (nG g 0 0 N, zC c (gz g)) i).1 105 M L).1 (gz g) = 0 from hTz]
    show RelC D P (mG (m3 M L (nG g 0 0 N, zC c (gz g)) i).1 105 M L, mC (m3 M L (nG g 0 0 N, zC c (gz g)) i).2 (gz (m3 M L (nG g 0 0 N, zC c (gz g)) i).1) M) (fill3 s (D.1 106) (D.1 105) (D.1 100) N M L (.int 0) (i + 1)).heap
    have hH : (fill3 s (D.1 106) (D.1 105) (D.1 100) N M L (.int 0) (i + 1)).heap = (Jvm.Free.Multi.fill S (D.1 105) (D.1 100) M L (.int 0) M).heap.setIfInBounds s.heap.size (outer3 (D.1 106) N M s.heap.size (i + 1)) := by
      rw [← hS]; rfl
    have hlt1 : s.heap.size < (Jvm.Free.Multi.fill S (D.1 105) (D.1 100) M L (.int 0) M).heap.size := by rw [hf.1]; omega
    refine RelC_cell (a := gz g) hrel ⟨h80, fun hh => by omega⟩ ?_ (by rw [hH]; simp) (fun q hq => by rw [hH]; simp [Array.getElem?_setIfInBounds, show ¬ s.heap.size = q by omega]) rfl rfl (fun b hb t j => rfl) (fun b hb t => rfl) ⟨fun h1 _ => ?_, fun h1 _ => ?_⟩
    · refine ssum_congr fun q => ?_
      rw [hH]
      by_cases hq : q = s.heap.size
      · subst hq
        rw [hcell]
        simp [Array.getElem?_setIfInBounds, hlt1, (outer3_facts (D.1 106) N M s.heap.size i).2.2, (outer3_facts (D.1 106) N M s.heap.size (i + 1)).2.2]
      · simp [Array.getElem?_setIfInBounds, Ne.symm hq]
    · have h2 : 0 < gK (mG (m3 M L (nG g 0 0 N, zC c (gz g)) i).1 105 M L) (gz g) := h1
      omega
    · have h2 : 100 ≤ gK (mG (m3 M L (nG g 0 0 N, zC c (gz g)) i).1 105 M L) (gz g) := h1
      omega
theorem yc_aMul3 {own : String} {index : Nat} {n k q : Int32} {r : Nat} {τ τ1 : CS} (ql : Cond.classLink own index "[[[I" ∈ lw_all) (qa : Cond.arrayClass .int ∈ lw_all) (hf0 : aMul3 n k q τ = some (r, τ1)) (ho : M.2.2.1 = own) (d : decode M.1 pc = .ok (.multianewarray index 3, 4))
    (kk : xV (wC D P) K M Q τ1 (pc + 4) loc (.ref r :: st)) : xV (wC D P) K M Q τ pc loc (.int q :: .int k :: .int n :: st) := by
  obtain ⟨g, c⟩ := τ
  obtain ⟨hx, e9⟩ := xo_if hf0
  cases e9
  unfold xmul3 at hx
  simp only [Bool.and_eq_true, decide_eq_true_eq] at hx
  obtain ⟨⟨⟨⟨⟨⟨⟨n0, k0⟩, q0⟩, n2⟩, k2⟩, q2⟩, hrc⟩, hrs⟩ := hx
  intro ok H locs cells slots ls hR hS hcc hs hl
  subst ho
  intro T hT X
  obtain ⟨r1, r2⟩ := yc_room ok hR hT X
  have hR' : RelC D P (g, c) H := hR
  have hz : H.size = gz g := hR'.1
  have hgz : gz ((g, c) : CS).1 = gz g := rfl
  have hKC : KC D P (xKs K) := ok.2.2.2.2.2.2.2.2.2.1
  have hpos : 0 < gz g := by
    obtain ⟨_, _, _, _, _, _, _, _, _, h5, _⟩ := hKC.2.2.2.2.1 0 (by decide)
    have h9 : P.1 ≤ gz g := hR'.2.2.2.1.1
    omega
  have hb := ok.2.1
  obtain ⟨vm₁, cA, c2, c1, hW, hfA, hf2, hf1, X1, go⟩ := stand_multi3 (stand_tight X) ok.1 (ty := .int) ok.2.2.2.1 (ok.2.2.2.2.1 _ ql) (AO_alike (Vm.Alike.refl _) (hKC.2.2.2.2.2.2.2.2 (.array (.array .int)) (by simp [aoL]))) (AO_alike (Vm.Alike.refl _) (hKC.2.2.2.2.2.2.2.2 (.array .int) (by simp [aoL]))) (ok.2.2.2.2.1 _ qa) (g := F0 (xKm K) pc ls (.int q :: .int k :: .int n :: st)) rfl (by rw [hb]; exact d) (n := n) (k := k) (q := q) (rest := st) rfl (xcp_nn n0) (xcp_nn k0) (xcp_nn q0) (by omega) (by omega) (by show _ * 4 ≤ _; omega) (by omega) rfl rfl (by show _ ≤ (xKR K).cells; have h1 : 1 + n.toNatClampNeg * (1 + k.toNatClampNeg) ≤ grc g := hrc; omega) (by show _ ≤ (xKR K).slots; have h1 : n.toNatClampNeg + n.toNatClampNeg * (k.toNatClampNeg + k.toNatClampNeg * q.toNatClampNeg) ≤ grs g := hrs; omega)
  have hA : cA = D.1 106 := Option.some.inj (hfA.symm.trans (hKC.2.1 106 (by decide) (by decide)).2)
  have h2 : c2 = D.1 105 := Option.some.inj (hf2.symm.trans (hKC.2.1 105 (by decide) (by decide)).2)
  have h1 : c1 = D.1 100 := Option.some.inj (hf1.symm.trans (hKC.2.1 100 (by decide) (by decide)).2)
  subst hA; subst h2; subst h1
  have hTs : (T.setVm vm₁).heap = H := hT
  have hrel0 := RelC_m3 (s := T.setVm vm₁) (N := n.toNatClampNeg) (M := k.toNatClampNeg) (L := q.toNatClampNeg) (by rw [hTs]; exact hR') hpos hrc hrs n.toNatClampNeg (Nat.le_refl _)
  have hf := fill3_facts (T.setVm vm₁) (D.1 106) (D.1 105) (D.1 100) n.toNatClampNeg k.toNatClampNeg q.toNatClampNeg (.int 0) n.toNatClampNeg
  have hTsz : (T.setVm vm₁).heap.size = gz g := by rw [hTs]; exact hz
  obtain ⟨m1, m2, m4⟩ := m3_facts k.toNatClampNeg q.toNatClampNeg (nG g 0 0 n.toNatClampNeg, zC c (gz g)) n.toNatClampNeg
  have m1' : gz (m3 k.toNatClampNeg q.toNatClampNeg (nG g 0 0 n.toNatClampNeg, zC c (gz g)) n.toNatClampNeg).1 = gz g + 1 + n.toNatClampNeg * (1 + k.toNatClampNeg) := m1
  have hR0 := hR'.2.2.2.1
  have h80 : P.1 ≤ gz g := hR0.1
  have h81 : P.2.2.1 ≤ gz g := hR0.2.1
  have hT0 : gT (m3 k.toNatClampNeg q.toNatClampNeg (nG g 0 0 n.toNatClampNeg, zC c (gz g)) n.toNatClampNeg).1 (gz g) = 0 := by
    rw [m3_old k.toNatClampNeg q.toNatClampNeg (nG g 0 0 n.toNatClampNeg, zC c (gz g)) (by show gz g < gz g + 1; omega)]
    simp [gT, nG]
  have hold : ∀ q9, q9 < H.size → (fill3 (T.setVm vm₁) (D.1 106) (D.1 105) (D.1 100) n.toNatClampNeg k.toNatClampNeg q.toNatClampNeg (.int 0) n.toNatClampNeg).heap[q9]? = H[q9]? := by
    intro q9 hq9
    have key : ∀ i, (fill3 (T.setVm vm₁) (D.1 106) (D.1 105) (D.1 100) n.toNatClampNeg k.toNatClampNeg q.toNatClampNeg (.int 0) i).heap[q9]? = H[q9]? := by
      intro i
      induction i with
      | zero =>
        rw [← hTs]
        exact State.heap_pushCell_of_lt _ _ (by rw [hTs]; exact hq9)
      | succ i ih =>
        have f1 := (fill3_facts (T.setVm vm₁) (D.1 106) (D.1 105) (D.1 100) n.toNatClampNeg k.toNatClampNeg q.toNatClampNeg (.int 0) i).1
        show ((Jvm.Free.Multi.fill _ _ _ _ _ _ _).setCell _ _).heap[q9]? = _
        have hne : (T.setVm vm₁).heap.size ≠ q9 := by rw [hTsz]; omega
        have hlt9 : q9 < (fill3 (T.setVm vm₁) (D.1 106) (D.1 105) (D.1 100) n.toNatClampNeg k.toNatClampNeg q.toNatClampNeg (.int 0) i).heap.size := by rw [f1, hTsz]; have := Nat.zero_le (i * (1 + k.toNatClampNeg)); omega
        rw [State.heap_setCell_other hne, Jvm.Free.Multi.fill_old _ _ _ _ _ _ hlt9]
        exact ih
    exact key _
  have hrel : RelC D P (W3 n.toNatClampNeg k.toNatClampNeg q.toNatClampNeg (g, c)) (fill3 (T.setVm vm₁) (D.1 106) (D.1 105) (D.1 100) n.toNatClampNeg k.toNatClampNeg q.toNatClampNeg (.int 0) n.toNatClampNeg).heap := by
    refine RelC_fill (f := fun i => gz g + 1 + i * (1 + k.toNatClampNeg)) hrel0 hT0 ⟨h80, fun hh => by omega⟩ (by rw [m1']; have := Nat.zero_le (n.toNatClampNeg * (1 + k.toNatClampNeg)); omega) (by omega) ?_
    have h9 := hf.2.1
    rw [hTsz, outer3_arr] at h9
    rw [h9]
    congr 1
    exact arrV_congr (fun j hj => by simp [hj])
  have hS2 : va_S (AC P) (xKs K).heap (fill3 (T.setVm vm₁) (D.1 106) (D.1 105) (D.1 100) n.toNatClampNeg k.toNatClampNeg q.toNatClampNeg (.int 0) n.toNatClampNeg).heap locs := by
    refine ⟨by rw [hf.1, hTsz]; have := hS.1; have := Nat.zero_le (n.toNatClampNeg * (1 + k.toNatClampNeg)); omega, fun q9 h1 h2 => ?_, hS.2.2⟩
    rw [hold q9 (Nat.lt_of_lt_of_le h1 hS.1)]
    exact hS.2.1 q9 h1 h2
  have hrc' : 1 + n.toNatClampNeg * (1 + k.toNatClampNeg) ≤ grc g := hrc
  have hrs' : n.toNatClampNeg + n.toNatClampNeg * (k.toNatClampNeg + k.toNatClampNeg * q.toNatClampNeg) ≤ grs g := hrs
  obtain ⟨t2, a1, b1⟩ := kk ok _ locs _ _ ls hrel hS2 (by omega) (by omega) hl _ rfl X1
  refine ⟨t2, go t2 ?_, b1⟩
  rw [show T.heap.size = gz g by rw [hT]; exact hz]
  exact a1
end YM3
