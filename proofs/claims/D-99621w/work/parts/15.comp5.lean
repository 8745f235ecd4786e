/-! rows over the component world: calls -/
set_option maxRecDepth 100000
theorem RPC_of {D : CD} {P : CP} {g : CG} {c : CC} {fr lo : Nat} : ∀ s : State, RelC D P (g, c) s.heap → RPC P { frames := fr, cells := grc g, slots := grs g, locals := lo } s := fun s h => ⟨by show s.heap.size + grc g = _; rw [h.1]; exact h.2.1, h.2.2.1⟩
section YX
variable {D : CD} {P : CP} {K : xK} {M : xM} {Q : State → Prop} {g g1 : CG} {c c1 : CC} {pc : Nat} {loc : List (Nat × Value)} {st : List Value}
theorem yc_recv {a t : Nat} {s : State} (ht : gK g a = t) (h0 : 0 < t) (h1 : t < 22) (H : Heap) (h : RelC D P (g, c) H) (hK : KC D P s) : ∃ cellB : Cell, H[a]? = some cellB ∧ cellB.vm.isStatics = false ∧ s.vm.findClass (kC t) = some cellB.cls := by
  obtain ⟨cell, q1, q2, q3, -⟩ := RelC_ob (x := (g, c)) h ht h0 h1
  exact ⟨cell, q1, by rw [q3]; rfl, by rw [q2]; exact (hK.1 t h0 h1).2.1⟩
/-- what is left of the room -/
theorem yc_room {H : Heap} {T : State} {locs : List Loc} {cells slots : Nat} (ok : xOK (wC D P) K M) (hR : RelC D P (g, c) H) (hT : T.heap = H) (X : Stand K.1 K.2.1 K.2.2.1 (xKR K) (xKs K) (xKm K) K.2.2.2.2.2.2.1 K.2.2.2.2.2.2.2.1 K.2.2.2.2.2.2.2.2.1 K.2.2.2.2.2.2.2.2.2 T locs cells slots) :
    T.heap.size - (xKs K).heap.size + grc g = (xKR K).cells ∧ ssum T.heap - ssum (xKs K).heap + grs g = (xKR K).slots := by
  obtain ⟨r1, r2⟩ := ok.2.2.2.2.2.2.2.2.2.2.2.1
  have h1 : (xKs K).heap.size ≤ T.heap.size := X.same.2.1
  have h2 : ssum (xKs K).heap ≤ ssum T.heap := ssum_le (t := T.setVm (xKs K).vm) X.same
  have h3 : H.size = gz g := hR.1
  have h4 : gz g + grc g = P.2.2.2.1 := hR.2.1
  have h5 : ssum H + grs g = P.2.2.2.2.1 := hR.2.2.1
  rw [hT] at h1 h2 ⊢
  constructor <;> omega
theorem yc_go {v : Option Value} {rest : List Value} {H : Heap} {locs : List Loc} {cells slots : Nat} {ls : Array Slot} {a : Array Value} (ok : xOK (wC D P) K M) (hR : RelC D P (g, c) H) (hS : va_S (AC P) (xKs K).heap H locs) (hl : lv_has ls M.2.1 loc)
    (hr : ∀ cells slots, cells + grc g ≤ (xKR K).cells ∧ slots + grs g ≤ (xKR K).slots → va_Run K.1 K.2.1 K.2.2.1 (xKR K) (xKs K) (xKm K) K.2.2.2.2.2.2.1 K.2.2.2.2.2.2.2.1 K.2.2.2.2.2.2.2.2.1 K.2.2.2.2.2.2.2.2.2 H locs cells slots (grc g) (grs g) (F0 (xKm K) pc ls st) rest (xC (wC D P) (v, (g1, c1)) a) (AC P))
    (k : xV (wC D P) K M Q (g1, c1) (pc + 3) loc (v.toList ++ rest)) : xU K H locs cells slots Q (F0 (xKm K) pc ls st) := by
  intro T hT X
  obtain ⟨q1, q2⟩ := yc_room ok hR hT X
  obtain ⟨v', st₀, t, T', L, h0, X', hL, e1, e2, ⟨hv, hR1, hz, hk⟩, go⟩ := hr _ _ ⟨Nat.le_of_eq q1, Nat.le_of_eq q2⟩ T hT (stand_tight X)
  cases hv
  rw [h0] at hz hk
  obtain ⟨t2, a1, b1⟩ := k ok T'.heap (locs ++ L) _ _ ls (by rw [e1]; exact hR1)
    ⟨Nat.le_trans hS.1 (by rw [e1]; exact hz), fun q h1 h2 => by rw [e1, hk q (Nat.lt_of_lt_of_le h1 hS.1) h2]; exact hS.2.1 q h1 h2, fun q hq => by
      rcases List.mem_append.mp hq with h | h
      · exact hS.2.2 q h
      · exact hL q h⟩ (Nat.le_of_eq q1) (Nat.le_of_eq q2) hl T' rfl X'
  exact ⟨t2, go t2 a1, b1⟩
theorem yc_go5 {v : Option Value} {rest : List Value} {H : Heap} {locs : List Loc} {cells slots : Nat} {ls : Array Slot} {a : Array Value} (ok : xOK (wC D P) K M) (hR : RelC D P (g, c) H) (hS : va_S (AC P) (xKs K).heap H locs) (hl : lv_has ls M.2.1 loc)
    (hr : ∀ cells slots, cells + grc g ≤ (xKR K).cells ∧ slots + grs g ≤ (xKR K).slots → va_Run5 K.1 K.2.1 K.2.2.1 (xKR K) (xKs K) (xKm K) K.2.2.2.2.2.2.1 K.2.2.2.2.2.2.2.1 K.2.2.2.2.2.2.2.2.1 K.2.2.2.2.2.2.2.2.2 H locs cells slots (grc g) (grs g) (F0 (xKm K) pc ls st) rest (xC (wC D P) (v, (g1, c1)) a) (AC P))
    (k : xV (wC D P) K M Q (g1, c1) (pc + 5) loc (v.toList ++ rest)) : xU K H locs cells slots Q (F0 (xKm K) pc ls st) := by
  intro T hT X
  obtain ⟨q1, q2⟩ := yc_room ok hR hT X
  obtain ⟨v', st₀, t, T', L, h0, X', hL, e1, e2, ⟨hv, hR1, hz, hk⟩, go⟩ := hr _ _ ⟨Nat.le_of_eq q1, Nat.le_of_eq q2⟩ T hT (stand_tight X)
  cases hv
  rw [h0] at hz hk
  obtain ⟨t2, a1, b1⟩ := k ok T'.heap (locs ++ L) _ _ ls (by rw [e1]; exact hR1)
    ⟨Nat.le_trans hS.1 (by rw [e1]; exact hz), fun q h1 h2 => by rw [e1, hk q (Nat.lt_of_lt_of_le h1 hS.1) h2]; exact hS.2.1 q h1 h2, fun q hq => by
      rcases List.mem_append.mp hq with h | h
      · exact hS.2.2 q h
      · exact hL q h⟩ (Nat.le_of_eq q1) (Nat.le_of_eq q2) hl T' rfl X'
  exact ⟨t2, go t2 a1, b1⟩
theorem yc_pre {H : Heap} {as : List Value} (ok : xOK (wC D P) K M) (hR : RelC D P (g, c) H) : ∀ U : State, U.heap = H → (xKs K).WarmedH U.vm → va_Pc as (fun U => KC D P U ∧ RelC D P (g, c) U.heap) as.toArray U :=
  fun _ hU hW => ⟨rfl, ok.2.2.2.2.2.2.2.2.2.2.1.1 _ _ hW ok.2.2.2.2.2.2.2.2.2.1, by rw [hU]; exact hR⟩
variable {v : Option Value} {y : MethodName} {C own host : String} {index n nL fr lo : Nat} {bytes : ByteArray} {ret : Option FieldType} {b t : Nat} {As rest : List Value}
theorem yc_callV (hM : xMet (wC D P) K.2.1 y (ws_ y bytes nL ret) fr lo (grc g) (grs g) (.ref b :: As) (g, c) (v, (g1, c1))) (hT : GoodIn lw_all (wsV own index C y (ws_ y bytes nL ret)))
    (hd : y.cls = C ∧ y.cls ≠ "java/lang/invoke/MethodHandle" ∧ y.cls ≠ "java/lang/invoke/VarHandle" ∧ (parseMethodDescriptor y.desc).map (fun d => d.parameters.length) = some n)
    (ho : M.2.2.1 = own) (hfr : fr + 1 ≤ M.2.2.2.1) (hlo : 8 + (nL + 11) + lo ≤ M.2.2.2.2.1) (hn : As.length = n) (ht : gK g b = t) (h0 : 0 < t) (h1 : t < 22) (hC : kC t = C)
    (hst : st = As.reverse ++ .ref b :: rest) (hcat : (rest.map fun v => v.category).sum ≤ 8) (d : decode M.1 pc = .ok (.invokevirtual index, 3))
    (k : xV (wC D P) K M Q (g1, c1) (pc + 3) loc (v.toList ++ rest)) : xV (wC D P) K M Q (g, c) pc loc st := by
  intro ok H locs cells slots ls hR hS hc hs hl
  subst ho; subst hC
  exact yc_go ok hR hS hl (fun cells slots hf => va_runV (As := As) (rest := rest) ⟨ok.1, ok.2.1, ok.2.2.1, ok.2.2.2.1, ok.2.2.2.2.1⟩ hM (cwV n ok.2.2.2.2.1 hT rfl rfl rfl hd ⟨Nat.le_trans hfr ok.2.2.2.2.2.2.1, Nat.le_trans hlo ok.2.2.2.2.2.2.2.1⟩)
    ⟨x_blind ok.2.2.2.2.2.2.2.2.2.2.1, yc_recv ht h0 h1 H hR ok.2.2.2.2.2.2.2.2.2.1, yc_pre ok hR⟩ rfl hn hl.1 hst (lv_room hcat) d hf) k
theorem yc_callVN (hM : xMet (wC D P) K.2.1 y (ws_ y bytes nL ret) fr lo (grc g) (grs g) (.ref b :: As) (g, c) (v, (g1, c1))) (hT : GoodIn lw_all (ws_ y bytes nL ret)) (hl9 : Cond.methodLinkNest own index y host ∈ lw_tbl) (hi : Cond.instanceMethod y ∈ lw_all) (hs9 : Cond.selects C y y ∈ lw_all) (hini : Cond.initialized y.cls ∈ lw_all)
    (hd : y.cls = C ∧ y.cls ≠ "java/lang/invoke/MethodHandle" ∧ y.cls ≠ "java/lang/invoke/VarHandle" ∧ (parseMethodDescriptor y.desc).map (fun d => d.parameters.length) = some n)
    (ho : M.2.2.1 = own) (hfr : fr + 1 ≤ M.2.2.2.1) (hlo : 8 + (nL + 11) + lo ≤ M.2.2.2.2.1) (hn : As.length = n) (ht : gK g b = t) (h0 : 0 < t) (h1 : t < 22) (hC : kC t = C)
    (hst : st = As.reverse ++ .ref b :: rest) (hcat : (rest.map fun v => v.category).sum ≤ 8) (d : decode M.1 pc = .ok (.invokevirtual index, 3))
    (k : xV (wC D P) K M Q (g1, c1) (pc + 3) loc (v.toList ++ rest)) : xV (wC D P) K M Q (g, c) pc loc st := by
  intro ok H locs cells slots ls hR hS hc hs hl
  subst ho; subst hC
  have hw := ok.2.2.2.2.1
  exact yc_go ok hR hS hl (fun cells slots hf => va_runVN (As := As) (rest := rest) (bytes := bytes) (maxL := nL) (ret := ret) ⟨ok.1, ok.2.1, ok.2.2.1, ok.2.2.2.1, hw⟩ hM ⟨va_cnB n hw hT rfl rfl rfl (ok.2.2.2.2.2.2.2.2.2.1.2.2.2.1 _ hl9 rfl) (hw _ hini) hd.2 ⟨Nat.le_trans hfr ok.2.2.2.2.2.2.1, Nat.le_trans hlo ok.2.2.2.2.2.2.2.1⟩, hw _ hi, hw _ hs9⟩
    ⟨x_blind ok.2.2.2.2.2.2.2.2.2.2.1, yc_recv ht h0 h1 H hR ok.2.2.2.2.2.2.2.2.2.1, yc_pre ok hR⟩ rfl hn hl.1 hst (lv_room hcat) d hf) k
theorem yc_callS (hM : xMet (wC D P) K.2.1 y (ws_ y bytes nL ret) fr lo (grc g) (grs g) As (g, c) (v, (g1, c1))) (hT : GoodIn lw_all (va_wsS own index y (ws_ y bytes nL ret)))
    (hd : y.cls ≠ "java/lang/invoke/MethodHandle" ∧ y.cls ≠ "java/lang/invoke/VarHandle" ∧ (parseMethodDescriptor y.desc).map (fun d => d.parameters.length) = some n)
    (ho : M.2.2.1 = own) (hfr : fr + 1 ≤ M.2.2.2.1) (hlo : 8 + (nL + 11) + lo ≤ M.2.2.2.2.1) (hn : As.length = n)
    (hst : st = As.reverse ++ rest) (hcat : (rest.map fun v => v.category).sum ≤ 8) (d : decode M.1 pc = .ok (.invokestatic index, 3))
    (k : xV (wC D P) K M Q (g1, c1) (pc + 3) loc (v.toList ++ rest)) : xV (wC D P) K M Q (g, c) pc loc st := by
  intro ok H locs cells slots ls hR hS hc hs hl
  subst ho
  exact yc_go ok hR hS hl (fun cells slots hf => va_runS (As := As) (rest := rest) ⟨ok.1, ok.2.1, ok.2.2.1, ok.2.2.2.1, ok.2.2.2.2.1⟩ hM (va_cwS n ok.2.2.2.2.1 hT rfl rfl rfl hd ⟨Nat.le_trans hfr ok.2.2.2.2.2.2.1, Nat.le_trans hlo ok.2.2.2.2.2.2.2.1⟩)
    ⟨x_blind ok.2.2.2.2.2.2.2.2.2.2.1, yc_pre ok hR⟩ rfl hn hl.1 hst (lv_room hcat) d hf) k
theorem yc_callSN (hM : xMet (wC D P) K.2.1 y (ws_ y bytes nL ret) fr lo (grc g) (grs g) As (g, c) (v, (g1, c1))) (hT : GoodIn lw_all (ws_ y bytes nL ret)) (hl9 : Cond.methodLinkNest own index y host ∈ lw_tbl) (hi : Cond.static y ∈ lw_all) (hini : Cond.initialized y.cls ∈ lw_all)
    (hd : y.cls ≠ "java/lang/invoke/MethodHandle" ∧ y.cls ≠ "java/lang/invoke/VarHandle" ∧ (parseMethodDescriptor y.desc).map (fun d => d.parameters.length) = some n)
    (ho : M.2.2.1 = own) (hfr : fr + 1 ≤ M.2.2.2.1) (hlo : 8 + (nL + 11) + lo ≤ M.2.2.2.2.1) (hn : As.length = n)
    (hst : st = As.reverse ++ rest) (hcat : (rest.map fun v => v.category).sum ≤ 8) (d : decode M.1 pc = .ok (.invokestatic index, 3))
    (k : xV (wC D P) K M Q (g1, c1) (pc + 3) loc (v.toList ++ rest)) : xV (wC D P) K M Q (g, c) pc loc st := by
  intro ok H locs cells slots ls hR hS hc hs hl
  subst ho
  have hw := ok.2.2.2.2.1
  exact yc_go ok hR hS hl (fun cells slots hf => va_runSN (As := As) (rest := rest) (bytes := bytes) (maxL := nL) (ret := ret) ⟨ok.1, ok.2.1, ok.2.2.1, ok.2.2.2.1, hw⟩ hM ⟨va_cnB n hw hT rfl rfl rfl (ok.2.2.2.2.2.2.2.2.2.1.2.2.2.1 _ hl9 rfl) (hw _ hini) hd ⟨Nat.le_trans hfr ok.2.2.2.2.2.2.1, Nat.le_trans hlo ok.2.2.2.2.2.2.2.1⟩, hw _ hi, trivial⟩
    ⟨x_blind ok.2.2.2.2.2.2.2.2.2.2.1, yc_pre ok hR⟩ rfl hn hl.1 hst (lv_room hcat) d hf) k
theorem yc_callI (hM : xMet (wC D P) K.2.1 y (ws_ y bytes nL none) fr lo (grc g) (grs g) (.ref b :: As) (g, c) (none, (g1, c1))) (hT : GoodIn lw_all (ws_ y bytes nL none)) (hl9 : Cond.methodLink own index y ∈ lw_all) (hi : Cond.instanceMethod y ∈ lw_all) (hini : Cond.initialized y.cls ∈ lw_all) (hy1 : y.name = "<init>")
    (hd : y.cls ≠ "java/lang/invoke/MethodHandle" ∧ y.cls ≠ "java/lang/invoke/VarHandle" ∧ (parseMethodDescriptor y.desc).map (fun d => d.parameters.length) = some n)
    (ho : M.2.2.1 = own) (hfr : fr + 1 ≤ M.2.2.2.1) (hlo : 8 + (nL + 11) + lo ≤ M.2.2.2.2.1) (hn : As.length = n)
    (hst : st = As.reverse ++ .ref b :: rest) (hcat : (rest.map fun v => v.category).sum ≤ 8) (d : decode M.1 pc = .ok (.invokespecial index, 3))
    (k : xV (wC D P) K M Q (g1, c1) (pc + 3) loc rest) : xV (wC D P) K M Q (g, c) pc loc st := by
  intro ok H locs cells slots ls hR hS hc hs hl
  subst ho
  have hw := ok.2.2.2.2.1
  exact yc_go (v := none) ok hR hS hl (fun cells slots hf => va_runI (As := As) (rest := rest) ⟨ok.1, ok.2.1, ok.2.2.1, ok.2.2.2.1, hw⟩ hM (cwI n hw hT rfl rfl rfl (hw _ hini) (hw _ hl9) (hw _ hi) hy1 hd ⟨Nat.le_trans hfr ok.2.2.2.2.2.2.1, Nat.le_trans hlo ok.2.2.2.2.2.2.2.1⟩)
    ⟨x_blind ok.2.2.2.2.2.2.2.2.2.2.1, yc_pre ok hR⟩ rfl hn hl.1 hst (lv_room hcat) d hf) k
theorem yc_callIN (hM : xMet (wC D P) K.2.1 y (ws_ y bytes nL none) fr lo (grc g) (grs g) (.ref b :: As) (g, c) (none, (g1, c1))) (hT : GoodIn lw_all (ws_ y bytes nL none)) (hl9 : Cond.methodLinkNest own index y host ∈ lw_tbl) (hi : Cond.instanceMethod y ∈ lw_all) (hini : Cond.initialized y.cls ∈ lw_all) (hy1 : y.name = "<init>")
    (hd : y.cls ≠ "java/lang/invoke/MethodHandle" ∧ y.cls ≠ "java/lang/invoke/VarHandle" ∧ (parseMethodDescriptor y.desc).map (fun d => d.parameters.length) = some n)
    (ho : M.2.2.1 = own) (hfr : fr + 1 ≤ M.2.2.2.1) (hlo : 8 + (nL + 11) + lo ≤ M.2.2.2.2.1) (hn : As.length = n)
    (hst : st = As.reverse ++ .ref b :: rest) (hcat : (rest.map fun v => v.category).sum ≤ 8) (d : decode M.1 pc = .ok (.invokespecial index, 3))
    (k : xV (wC D P) K M Q (g1, c1) (pc + 3) loc rest) : xV (wC D P) K M Q (g, c) pc loc st := by
  intro ok H locs cells slots ls hR hS hc hs hl
  subst ho
  have hw := ok.2.2.2.2.1
  exact yc_go (v := none) ok hR hS hl (fun cells slots hf => va_runIN (As := As) (rest := rest) (bytes := bytes) (maxL := nL) ⟨ok.1, ok.2.1, ok.2.2.1, ok.2.2.2.1, hw⟩ hM ⟨va_cnB n hw hT rfl rfl rfl (ok.2.2.2.2.2.2.2.2.2.1.2.2.2.1 _ hl9 rfl) (hw _ hini) hd ⟨Nat.le_trans hfr ok.2.2.2.2.2.2.1, Nat.le_trans hlo ok.2.2.2.2.2.2.2.1⟩, hy1, hw _ hi⟩
    ⟨x_blind ok.2.2.2.2.2.2.2.2.2.2.1, yc_pre ok hR⟩ rfl hn hl.1 hst (lv_room hcat) d hf) k
/-- through an abstract method of the class above -/
theorem yc_callA {z : MethodName} {owner : String} (hM : xMet (wC D P) K.2.1 y (ws_ y bytes nL ret) fr lo (grc g) (grs g) (.ref b :: As) (g, c) (v, (g1, c1))) (hT : GoodIn lw_all (va_wsU own index C owner z y (ws_ y bytes nL ret))) (hz : Cond.declares ⟨owner, z.name, z.desc⟩ ∈ lw_tbl)
    (hd : owner ≠ "java/lang/invoke/MethodHandle" ∧ owner ≠ "java/lang/invoke/VarHandle" ∧ (parseMethodDescriptor z.desc).map (fun d => d.parameters.length) = some n)
    (ho : M.2.2.1 = own) (hfr : fr + 1 ≤ M.2.2.2.1) (hlo : 8 + (nL + 11) + lo ≤ M.2.2.2.2.1) (hn : As.length = n) (ht : gK g b = t) (h0 : 0 < t) (h1 : t < 22) (hC : kC t = C)
    (hst : st = As.reverse ++ .ref b :: rest) (hcat : (rest.map fun v => v.category).sum ≤ 8) (d : decode M.1 pc = .ok (.invokevirtual index, 3))
    (k : xV (wC D P) K M Q (g1, c1) (pc + 3) loc (v.toList ++ rest)) : xV (wC D P) K M Q (g, c) pc loc st := by
  intro ok H locs cells slots ls hR hS hc hs hl
  subst ho; subst hC
  exact yc_go ok hR hS hl (fun cells slots hf => va_runU (As := As) (rest := rest) ⟨ok.1, ok.2.1, ok.2.2.1, ok.2.2.2.1, ok.2.2.2.2.1⟩ hM (va_cwA n ok.2.2.2.2.1 hT rfl rfl rfl (ok.2.2.2.2.2.2.2.2.2.1.2.2.2.1 _ hz rfl) hd ⟨Nat.le_trans hfr ok.2.2.2.2.2.2.1, Nat.le_trans hlo ok.2.2.2.2.2.2.2.1⟩)
    ⟨x_blind ok.2.2.2.2.2.2.2.2.2.2.1, yc_recv ht h0 h1 H hR ok.2.2.2.2.2.2.2.2.2.1, yc_pre ok hR⟩ rfl hn hl.1 hst (lv_room hcat) d hf) k
/-- inherited: the named class has it from its owner -/
theorem yc_callU {z : MethodName} {owner : String} (hM : xMet (wC D P) K.2.1 y (ws_ y bytes nL ret) fr lo (grc g) (grs g) (.ref b :: As) (g, c) (v, (g1, c1))) (hT : GoodIn lw_all (va_wsU own index C owner z y (ws_ y bytes nL ret))) (hyx : y = ⟨owner, z.name, z.desc⟩)
    (hd : owner ≠ "java/lang/invoke/MethodHandle" ∧ owner ≠ "java/lang/invoke/VarHandle" ∧ (parseMethodDescriptor z.desc).map (fun d => d.parameters.length) = some n)
    (ho : M.2.2.1 = own) (hfr : fr + 1 ≤ M.2.2.2.1) (hlo : 8 + (nL + 11) + lo ≤ M.2.2.2.2.1) (hn : As.length = n) (ht : gK g b = t) (h0 : 0 < t) (h1 : t < 22) (hC : kC t = C)
    (hst : st = As.reverse ++ .ref b :: rest) (hcat : (rest.map fun v => v.category).sum ≤ 8) (d : decode M.1 pc = .ok (.invokevirtual index, 3))
    (k : xV (wC D P) K M Q (g1, c1) (pc + 3) loc (v.toList ++ rest)) : xV (wC D P) K M Q (g, c) pc loc st := by
  intro ok H locs cells slots ls hR hS hc hs hl
  subst ho; subst hC
  exact yc_go ok hR hS hl (fun cells slots hf => va_runU (As := As) (rest := rest) ⟨ok.1, ok.2.1, ok.2.2.1, ok.2.2.2.1, ok.2.2.2.2.1⟩ hM (va_cwU n ok.2.2.2.2.1 hT rfl rfl rfl hyx hd ⟨Nat.le_trans hfr ok.2.2.2.2.2.2.1, Nat.le_trans hlo ok.2.2.2.2.2.2.2.1⟩)
    ⟨x_blind ok.2.2.2.2.2.2.2.2.2.2.1, yc_recv ht h0 h1 H hR ok.2.2.2.2.2.2.2.2.2.1, yc_pre ok hR⟩ rfl hn hl.1 hst (lv_room hcat) d hf) k
/-- through java.util.List: an ArrayList -/
theorem yc_callF {z : MethodName} {count : Nat} (hM : xMet (wC D P) K.2.1 y (ws_ y bytes nL ret) fr lo (grc g) (grs g) (.ref b :: As) (g, c) (v, (g1, c1))) (hT : GoodIn lw_all (va_wsF own index RJ2 z y (ws_ y bytes nL ret))) (hz : ∀ s, KC D P s → va_Fw RJ2 z y s)
    (hd : z.cls ≠ "java/lang/invoke/MethodHandle" ∧ z.cls ≠ "java/lang/invoke/VarHandle" ∧ (parseMethodDescriptor z.desc).map (fun d => d.parameters.length) = some n)
    (ho : M.2.2.1 = own) (hfr : fr + 1 ≤ M.2.2.2.1) (hlo : 8 + (nL + 11) + lo ≤ M.2.2.2.2.1) (hn : As.length = n) (ht : gK g b = 18)
    (hst : st = As.reverse ++ .ref b :: rest) (hcat : (rest.map fun v => v.category).sum ≤ 8) (d : decode M.1 pc = .ok (.invokeinterface index count, 5))
    (k : xV (wC D P) K M Q (g1, c1) (pc + 5) loc (v.toList ++ rest)) : xV (wC D P) K M Q (g, c) pc loc st := by
  intro ok H locs cells slots ls hR hS hc hs hl
  subst ho
  have hKC := ok.2.2.2.2.2.2.2.2.2.1
  exact yc_go5 ok hR hS hl (fun cells slots hf => va_runF (As := As) (rest := rest) (hKC.1 18 (by decide) (by decide)).2 ⟨ok.1, ok.2.1, ok.2.2.1, ok.2.2.2.1, ok.2.2.2.2.1⟩ hM (va_cwF n ok.2.2.2.2.1 hT rfl rfl rfl (hz _ hKC) hd ⟨Nat.le_trans hfr ok.2.2.2.2.2.2.1, Nat.le_trans hlo ok.2.2.2.2.2.2.2.1⟩)
    ⟨x_blind ok.2.2.2.2.2.2.2.2.2.2.1, yc_recv ht (by decide) (by decide) H hR hKC, yc_pre ok hR⟩ rfl hn hl.1 hst (lv_room hcat) d hf) k
end YX
