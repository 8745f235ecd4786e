/-! rows: copies of arrays, casts to arrays, what else the JDK's makers need -/
set_option maxRecDepth 100000
/-- one array's ints copied into another's; references -/
def cpA (c : CC) (s d sp dp n : Nat) : CC := (c.1, c.2.1, c.2.2.1, fun a i => if a = d then va_cpy (c.2.2.2.1 s) (c.2.2.2.1 d) sp dp n i else c.2.2.2.1 a i, c.2.2.2.2)
def cpP (c : CC) (s d sp dp n : Nat) : CC := (c.1, c.2.1, c.2.2.1, c.2.2.2.1, c.2.2.2.2.1, fun a i => if a = d then va_cpy (c.2.2.2.2.2 s) (c.2.2.2.2.2 d) sp dp n i else c.2.2.2.2.2 a i)
/-- a copy within bounds -/
def xcp (sp dp n : Int32) (ns nd : Nat) : Bool := decide (0 ≤ sp) && decide (0 ≤ dp) && decide (0 ≤ n) && decide (sp.toNatClampNeg + n.toNatClampNeg ≤ ns) && decide (dp.toNatClampNeg + n.toNatClampNeg ≤ nd)
def xcpB (c : CC) (s sp n : Nat) : Bool := (List.range n).all fun i => fits .byte (.int (cA c s (sp + i)))
def xcpO (g : CG) (c : CC) (s sp n : Nat) : Bool := (List.range n).all fun i => match cP c s (sp + i) with
  | none => true
  | some y => asg 109 (gK g y) && decide (0 < gK g y) && decide (gK g y < 22)
theorem xcp_nn {n : Int32} (h : 0 ≤ n) : ¬ n < 0 := by
  intro q
  have h1 := Int32.le_iff_toInt_le.mp h
  have h2 := Int32.lt_iff_toInt_lt.mp q
  omega
theorem xcp_of {sp dp n : Int32} {ns nd : Nat} (h : xcp sp dp n ns nd = true) : ¬ sp < 0 ∧ ¬ dp < 0 ∧ ¬ n < 0 ∧ sp.toNatClampNeg + n.toNatClampNeg ≤ ns ∧ dp.toNatClampNeg + n.toNatClampNeg ≤ nd := by
  unfold xcp at h
  simp only [Bool.and_eq_true, decide_eq_true_eq] at h
  exact ⟨xcp_nn h.1.1.1.1, xcp_nn h.1.1.1.2, xcp_nn h.1.1.2, h.1.2, h.2⟩
/-- a byte -/
def xfb (u : Int32) : Bool := decide (u.toInt8.toInt32 = u) && fits .byte (.int u)
theorem xfb_f {u : Int32} (h : xfb u = true) : fits .byte (.int u) = true := by
  unfold xfb at h
  simp only [Bool.and_eq_true] at h
  exact h.2
theorem xfb_n {u : Int32} (h : xfb u = true) : narrow .byte (.int u) = .int u := by
  unfold xfb at h
  simp only [Bool.and_eq_true, decide_eq_true_eq] at h
  show Value.int u.toInt8.toInt32 = _
  rw [h.1]
section XCP
variable {p : Program} {l : Launch} {e : Env} {R : Room} {s : State} {m : MethodId} {args : Array Value} {below : List Frame} {meth : Method} {c : Code} {H : Heap} {locs : List Loc} {cells slots : Nat} {Q : State → Prop} {cc : ByteArray} {pc : Nat} {ls : Array Slot} {rest : List Value}
theorem x_acpy {α : Type} (mk : α → Value) (hexec : p.tables.exec = Jvm.exec) (hb : c.code = cc) (hml : c.maxLocals = ls.size) {own : String} {index : Nat} (hown : s.vm.findClass own = some m.cls) (hlink : (Cond.methodLink own index arraycopyName).before args s = true) (hnat : (Cond.native arraycopyName).before args s = true) (hstat : (Cond.static arraycopyName).before args s = true) (hini : (Cond.initialized "java/lang/System").before args s = true)
    {a0 a n0 n1 : Nat} {c0 c1 cm0 cm1 : ClassId} {f g : Nat → α} {k0 k1 : Class} {ty0 ty1 : FieldType} (hc0 : H[a0]? = some (arrV c0 n0 (fun j => mk (f j)))) (hc1 : H[a]? = some (arrV c1 n1 (fun j => mk (g j)))) (hk0 : s.vm.classes[c0]? = some k0) (hk1 : s.vm.classes[c1]? = some k1) (hkk0 : k0.kind = .array cm0 ty0) (hkk1 : k1.kind = .array cm1 ty1)
    (hty : ((refKind ty0 != refKind ty1) || (!refKind ty0 && ty0 != ty1)) = false) {sp dp n : Int32} (h1 : ¬ sp < 0) (h2 : ¬ dp < 0) (h3 : ¬ n < 0) (h4 : sp.toNatClampNeg + n.toNatClampNeg ≤ n0) (h5 : dp.toNatClampNeg + n.toNatClampNeg ≤ n1)
    (hvals : ∀ (T : State) (vm₁ : Vm), T.heap = H → s.vm.Alike vm₁ → ∀ i, i < n.toNatClampNeg → fits ty1 (mk (f (sp.toNatClampNeg + i))) = true ∧ (T.setVm vm₁).takes cm1 (mk (f (sp.toNatClampNeg + i))))
    (hframes : 1 ≤ R.frames) (hlocals : (rest.map fun v => v.category).sum + (nativeFrameWords "java/lang/System" "arraycopy" 5 + 11) ≤ R.locals) (hdg : decode cc pc = .ok (.invokestatic index, 3))
    (kk : ∀ (H1 : Heap) (L : List Loc), H1[a]? = some (arrV c1 n1 (fun j => mk (va_cpy f g sp.toNatClampNeg dp.toNatClampNeg n.toNatClampNeg j))) → H1.size = H.size → (∀ q, q ≠ a → H1[q]? = H[q]?) → (∀ q ∈ L, q.base = a) → W p l e R s m args below meth c H1 (locs ++ L) cells slots Q (F0 m (pc + 3) ls rest)) :
    W p l e R s m args below meth c H locs cells slots Q (F0 m pc ls (.int n :: .int dp :: .ref a :: .int sp :: .ref a0 :: rest)) := by
  have nn : ∀ z : Int32, ¬ z < 0 → z.toInt = (z.toNatClampNeg : Int) := by
    intro z hz
    have hz0 : (0 : Int) ≤ z.toInt := by
      have := Int32.not_lt.mp hz
      simpa using Int32.le_iff_toInt_le.mp this
    show z.toInt = ((z.toInt.toNat : Nat) : Int)
    omega
  intro T hT X
  obtain ⟨vm', X', step⟩ := X.arraycopy hexec hown hlink hnat hstat hini (src := a0) (dst := a) (cs := arrV c0 n0 (fun j => mk (f j))) (cd := arrV c1 n1 (fun j => mk (g j))) (srcPos := sp) (destPos := dp) (n := n) (by rw [hT]; exact hc0) (by rw [hT]; exact hc1)
    (fun _ h => by cases h) (fun _ h => by cases h) (fun h => by cases h) (fun h => by cases h) hk0 hk1 hkk0 hkk1 hty h1 h2 h3
    (by rw [nn sp h1, nn n h3, arrV_size]; omega)
    (by rw [nn dp h2, nn n h3, arrV_size]; omega)
    (fun vm₁ hal i hi => by
      have e : (arrV c0 n0 (fun j => mk (f j))).slots.getD (sp.toNatClampNeg + i) .null = mk (f (sp.toNatClampNeg + i)) := by
        rw [Array.getD_eq_getD_getElem?, arrV_read _ _ (by omega)]
        rfl
      rw [e]
      exact hvals T vm₁ hT hal i hi)
    (g := F0 m pc ls (.int n :: .int dp :: .ref a :: .int sp :: .ref a0 :: rest)) rfl (by rw [hml]) (rest := rest) rfl (by rw [hb]; exact hdg) hframes (by show 2 * 0 + _ + _ ≤ _; omega)
  have e1 : copied (arrV c0 n0 (fun j => mk (f j))) (arrV c1 n1 (fun j => mk (g j))) sp dp n = arrV c1 n1 (fun j => mk (va_cpy f g sp.toNatClampNeg dp.toNatClampNeg n.toNatClampNeg j)) := va_copied mk c0 c1 f g h4
  rw [e1] at X' step
  have hl : a < H.size := (Array.getElem?_eq_some_iff.mp hc1).1
  have hheap : ((T.setVm vm').setCell a (arrV c1 n1 (fun j => mk (va_cpy f g sp.toNatClampNeg dp.toNatClampNeg n.toNatClampNeg j)))).heap = H.setIfInBounds a (arrV c1 n1 (fun j => mk (va_cpy f g sp.toNatClampNeg dp.toNatClampNeg n.toNatClampNeg j))) := by rw [← hT]; rfl
  obtain ⟨t, a1, b1⟩ := kk (H.setIfInBounds a (arrV c1 n1 (fun j => mk (va_cpy f g sp.toNatClampNeg dp.toNatClampNeg n.toNatClampNeg j)))) _ (by simp [Array.getElem?_setIfInBounds, hl]) (by simp) (fun q hq => by simp [Array.getElem?_setIfInBounds, Ne.symm hq])
    (fun q hq => by
      obtain ⟨z, -, hz⟩ := List.mem_map.mp hq
      rw [← hz]) _ hheap X'
  exact ⟨t, step t a1, b1⟩
end XCP
/-- a private method is selected, whatever the receiver's class -/
theorem x_selP {s : State} {args : Array Value} {C C0 : String} {cC : ClassId} {y y0 : MethodName} (hC : s.vm.findClass C = some cC) (h0 : (Cond.selects C0 y0 y0).before args s = true) (hcls : y0.cls = y.cls) (hpriv : (Cond.privateMethod y).before args s = true) (hinst : (Cond.instanceMethod y).before args s = true) (hy : y.cls ≠ "java/lang/invoke/MethodHandle" ∧ y.cls ≠ "java/lang/invoke/VarHandle") : (Cond.selects C y y).before args s = true := by
  obtain ⟨mk, methM, hnamed, hmethM, -, -⟩ := Cond.instanceMethod_spec hinst
  obtain ⟨c0, r0, m0, -, -, hn0, -, k0, hk0, hk0i⟩ := Cond.selects_spec h0
  have hfound : s.methodFound? y.cls y.name y.desc = some mk := State.methodFound?_of_named hnamed hy
  have e1 := findClass_of_methodNamed hnamed
  have e2 := findClass_of_methodNamed hn0
  rw [hcls] at e2
  have e3 : m0.cls = mk.cls := Option.some.inj (e2.symm.trans e1)
  rw [e3] at hk0
  have hsel : selectMethod {} s.vm cC mk = .method mk := selectMethod_private hmethM (Cond.privateMethod_at hpriv mk methM hnamed hmethM)
  simp only [Cond.before, Cond.holds, Cond.value, hC, hfound, hnamed, hsel, hk0]
  simp
  exact hk0i
theorem va_cwP {R : Room} {s : State} {args : Array Value} {own C : String} {index maxL mc ms : Nat} {y : MethodName} {bytes : ByteArray} {ret : Option FieldType} {Ts ws ws' : List Cond} {rm : Room} (n : Nat) (ht : ∀ w ∈ Ts, w.before args s = true) (hG : GoodIn Ts ws) (ql : Cond.methodLink own index y ∈ Ts) (qs : Cond.sameMethod y.cls y.cls y.name y.desc ∈ Ts) (qi : Cond.instanceMethod y ∈ Ts) (qn : Cond.initialized y.cls ∈ Ts) (hsel : (Cond.selects C y y).before args s = true) (hw : ws = Cond.code y bytes maxL ret :: ws') (hrc : rm.cells = mc) (hrs : rm.slots = ms)
    (hd : y.cls ≠ "java/lang/invoke/MethodHandle" ∧ y.cls ≠ "java/lang/invoke/VarHandle" ∧ (parseMethodDescriptor y.desc).map (fun d => d.parameters.length) = some n) (hR : rm.frames + 1 ≤ R.frames ∧ 8 + (maxL + 11) + rm.locals ≤ R.locals) : va_CU R s args own C y.cls index y y bytes maxL ret ws rm mc ms n := by
  have hc : Cond.code y bytes maxL ret ∈ ws := by rw [hw]; exact List.mem_cons_self
  refine ⟨⟨hrc, hrs, hR.1, hR.2, pay_in ht hG, hc⟩, ht _ (hG _ hc).1, ht _ qn, ⟨hd.1, hd.2.1⟩, fun sig h => ?_, ht _ ql, ht _ qs, va_Decl.of (ht _ qi) (ht _ (hG _ hc).1), hsel, ht _ qi⟩
  have h2 := hd.2.2
  rw [h] at h2
  exact (Option.some.inj h2).symm
section YCP
variable {D : CD} {P : CP} {K : xK} {M : xM} {Q : State → Prop} {g : CG} {c : CC} {pc : Nat} {loc : List (Nat × Value)} {st : List Value}
/-- the same heap but for one cell -/
theorem RelC_cell {x x' : CS} {H H' : Heap} {a : Nat} (hR : RelC D P x H) (hA : AC P a) (hss : ssum H' = ssum H) (z : H'.size = H.size) (e3 : ∀ q, q ≠ a → H'[q]? = H[q]?)
    (hT : x'.1.1 = x.1.1) (hz : x'.1.2.2.2 = x.1.2.2.2) (hV : ∀ b, b ≠ a → ∀ t j, cV x' t j b = cV x t j b) (hAr : ∀ b, b ≠ a → ∀ t, cAr x' t b = cAr x t b) (hat : cAt D x' a H') : RelC D P x' H' := by
  obtain ⟨r1, r2, r3, r4, r5, r6, r7, r8⟩ := hR
  have hz1 : gz x'.1 = gz x.1 := congrArg (fun q => q.2.1) hz
  have hz2 : grc x'.1 = grc x.1 := congrArg (fun q => q.2.2.1) hz
  have hz3 : grs x'.1 = grs x.1 := congrArg (fun q => q.2.2.2) hz
  have hgA : ∀ a i, gA x'.1 a i = gA x.1 a i := fun a i => congrArg (fun q => q.1 a i) hz
  have hgT : ∀ b, gT x'.1 b = gT x.1 b := fun b => congrFun hT b
  have hgK : ∀ b, gK x'.1 b = gK x.1 b := fun b => by unfold gK; rw [hT]
  refine ⟨by rw [z, r1, hz1], by rw [hz1, hz2]; exact r2, by rw [hss, hz3]; exact r3, ⟨by rw [hz1]; exact r4.1, by rw [hz1]; exact r4.2.1, fun k h1 h2 => by rw [hgA]; exact r4.2.2.1 k h1 h2, fun i hi => by rw [hgA]; exact r4.2.2.2 i hi⟩, fun q hq => ?_, fun b hb => by rw [hgT] at hb ⊢; exact r6 b hb, fun b hb => by rw [hgT] at hb; rw [hz1]; exact r7 b hb, fun b => ?_⟩
  · have : q ≠ a := by
      intro e
      have := hA.1
      omega
    rw [e3 q this]
    exact r5 q hq
  · by_cases hb : b = a
    · subst hb; exact hat
    · obtain ⟨c1, c2⟩ := r8 b
      unfold cAt
      rw [hgK]
      refine ⟨fun h1 h2 => ((c1 h1 h2).kept (e3 b hb)).to (fun j _ => (hV b hb _ j).symm), fun h1 h2 => ?_⟩
      rw [e3 b hb, hAr b hb]
      exact c2 h1 h2
theorem ssum_arr {H H' : Heap} {a n : Nat} {k : ClassId} {f f' : Nat → Value} (h0 : H[a]? = some (arrV k n f)) (h1 : H'[a]? = some (arrV k n f')) (e3 : ∀ q, q ≠ a → H'[q]? = H[q]?) : ssum H' = ssum H := by
  refine ssum_congr fun i => ?_
  by_cases hi : i = a
  · subst hi
    rw [h0, h1]
    simp only [Option.map_some, arrV_size]
  · rw [e3 i hi]
theorem va_S_L {A : Nat → Prop} {H0 H H' : Heap} {locs L : List Loc} {a : Nat} (hS : va_S A H0 H locs) (z : H'.size = H.size) (e3 : ∀ q, q ≠ a → H'[q]? = H[q]?) (ha : A a) (hL : ∀ q ∈ L, q.base = a) : va_S A H0 H' (locs ++ L) := by
  refine ⟨by rw [z]; exact hS.1, fun q h1 h2 => ?_, fun q hq => ?_⟩
  · rw [e3 q (fun e => h2 (by rw [e]; exact ha))]
    exact hS.2.1 q h1 h2
  · rcases List.mem_append.mp hq with h | h
    · exact hS.2.2 q h
    · rw [hL q h]; exact ha
theorem yc_acpyB {s d : Nat} {sp dp n : Int32} {own : String} {index : Nat} (hs9 : gT g s = 103) (hd9 : gT g d = 103) (hx : xcp sp dp n (gN g s) (gN g d) = true) (hb9 : xcpB c s sp.toNatClampNeg n.toNatClampNeg = true)
    (ql : Cond.methodLink own index arraycopyName ∈ lw_all) (qn : Cond.native arraycopyName ∈ lw_all) (qs : Cond.static arraycopyName ∈ lw_all) (qi : Cond.initialized "java/lang/System" ∈ lw_all) (ho : M.2.2.1 = own) (hfr : 1 ≤ M.2.2.2.1) (hlo : 40 ≤ M.2.2.2.2.1) (hcat : (st.map fun v => v.category).sum ≤ 8) (dd : decode M.1 pc = .ok (.invokestatic index, 3))
    (kk : xV (wC D P) K M Q (g, cpA c s d sp.toNatClampNeg dp.toNatClampNeg n.toNatClampNeg) (pc + 3) loc st) : xV (wC D P) K M Q (g, c) pc loc (.int n :: .int dp :: .ref d :: .int sp :: .ref s :: st) := by
  intro ok H locs cells slots ls hR hS hcc hs hl
  subst ho
  obtain ⟨x1, x2, x3, x4, x5⟩ := xcp_of hx
  have hR' : RelC D P (g, c) H := hR
  have hcs : H[s]? = some (arrV (D.1 103) (gN g s) (fun j => .int (cA c s j))) := RelC_ar (x := (g, c)) hR' (gKo hs9 (by decide)) (by decide) (by decide)
  have hcd : H[d]? = some (arrV (D.1 103) (gN g d) (fun j => .int (cA c d j))) := RelC_ar (x := (g, c)) hR' (gKo hd9 (by decide)) (by decide) (by decide)
  obtain ⟨-, k0, hk0, cm0, hkk0⟩ := (ok.2.2.2.2.2.2.2.2.2.1.2.1 103 (by decide) (by decide)).1 (gN g s) (fun j => .int (cA c s j))
  have hA : AC P d := RelC.elim hR' hd9 (by decide) (by decide)
  have hw : nativeFrameWords "java/lang/System" "arraycopy" 5 + 11 ≤ 32 := by decide +kernel
  have h9 : 40 ≤ (xKR K).locals := Nat.le_trans hlo ok.2.2.2.2.2.2.2.1
  refine x_acpy (fun z => Value.int z) ok.1 ok.2.1 (ok.2.2.1.trans hl.1.symm) ok.2.2.2.1 (ok.2.2.2.2.1 _ ql) (ok.2.2.2.2.1 _ qn) (ok.2.2.2.2.1 _ qs) (ok.2.2.2.2.1 _ qi) hcs hcd hk0 hk0 hkk0 hkk0 rfl x1 x2 x3 x4 x5 (fun T vm₁ _ _ i hi => ⟨?_, trivial⟩) (Nat.le_trans hfr ok.2.2.2.2.2.2.1) (by omega) dd fun H1 L e1 z e3 hL => ?_
  · exact List.all_eq_true.mp hb9 i (List.mem_range.mpr hi)
  · refine kk ok H1 (locs ++ L) cells slots ls (RelC_cell (x := (g, c)) hR' hA (ssum_arr hcd e1 e3) z e3 rfl rfl (fun b hb t j => rfl) (fun b hb t => ?_) ⟨fun _ h => ?_, fun _ _ => ?_⟩) (va_S_L hS z e3 hA hL) hcc hs hl
    · unfold cAr
      rw [show cA (g, cpA c s d sp.toNatClampNeg dp.toNatClampNeg n.toNatClampNeg).2 b = cA c b by funext i; simp [cA, cpA, hb]]
      rfl
    · have h8 : gK g d = 103 := gKo hd9 (by decide)
      have : gK g d < 22 := h
      omega
    · have h8 : gK g d = 103 := gKo hd9 (by decide)
      show H1[d]? = some (vp_cell (D.1 (gK g d)) (cAr (g, cpA c s d sp.toNatClampNeg dp.toNatClampNeg n.toNatClampNeg) (gK g d) d))
      rw [h8, e1]
      show _ = some (arrV (D.1 103) (gN g d) (fun j => .int (cA (cpA c s d sp.toNatClampNeg dp.toNatClampNeg n.toNatClampNeg) d j)))
      rw [show cA (cpA c s d sp.toNatClampNeg dp.toNatClampNeg n.toNatClampNeg) d = va_cpy (cA c s) (cA c d) sp.toNatClampNeg dp.toNatClampNeg n.toNatClampNeg by funext i; simp [cA, cpA]; rfl]
theorem yc_acpyO {s d : Nat} {sp dp n : Int32} {own : String} {index : Nat} (hs9 : gT g s = 109) (hd9 : gT g d = 109) (hx : xcp sp dp n (gN g s) (gN g d) = true) (hb9 : xcpO g c s sp.toNatClampNeg n.toNatClampNeg = true)
    (ql : Cond.methodLink own index arraycopyName ∈ lw_all) (qn : Cond.native arraycopyName ∈ lw_all) (qs : Cond.static arraycopyName ∈ lw_all) (qi : Cond.initialized "java/lang/System" ∈ lw_all) (ho : M.2.2.1 = own) (hfr : 1 ≤ M.2.2.2.1) (hlo : 40 ≤ M.2.2.2.2.1) (hcat : (st.map fun v => v.category).sum ≤ 8) (dd : decode M.1 pc = .ok (.invokestatic index, 3))
    (kk : xV (wC D P) K M Q (g, cpP c s d sp.toNatClampNeg dp.toNatClampNeg n.toNatClampNeg) (pc + 3) loc st) : xV (wC D P) K M Q (g, c) pc loc (.int n :: .int dp :: .ref d :: .int sp :: .ref s :: st) := by
  intro ok H locs cells slots ls hR hS hcc hs hl
  subst ho
  obtain ⟨x1, x2, x3, x4, x5⟩ := xcp_of hx
  have hR' : RelC D P (g, c) H := hR
  have hcs : H[s]? = some (arrV (D.1 109) (gN g s) (fun j => va_rf (cP c s j))) := RelC_ar (x := (g, c)) hR' (gKo hs9 (by decide)) (by decide) (by decide)
  have hcd : H[d]? = some (arrV (D.1 109) (gN g d) (fun j => va_rf (cP c d j))) := RelC_ar (x := (g, c)) hR' (gKo hd9 (by decide)) (by decide) (by decide)
  have hKC := ok.2.2.2.2.2.2.2.2.2.1
  obtain ⟨-, k0, hk0, cm0, hkk0⟩ := (hKC.2.1 109 (by decide) (by decide)).1 (gN g s) (fun j => va_rf (cP c s j))
  have hA : AC P d := RelC.elim hR' hd9 (by decide) (by decide)
  have hw : nativeFrameWords "java/lang/System" "arraycopy" 5 + 11 ≤ 32 := by decide +kernel
  have h9 : 40 ≤ (xKR K).locals := Nat.le_trans hlo ok.2.2.2.2.2.2.2.1
  refine x_acpy va_rf ok.1 ok.2.1 (ok.2.2.1.trans hl.1.symm) ok.2.2.2.1 (ok.2.2.2.2.1 _ ql) (ok.2.2.2.2.1 _ qn) (ok.2.2.2.2.1 _ qs) (ok.2.2.2.2.1 _ qi) hcs hcd hk0 hk0 hkk0 hkk0 rfl x1 x2 x3 x4 x5 (fun T vm₁ hT hal i hi => ?_) (Nat.le_trans hfr ok.2.2.2.2.2.2.1) (by omega) dd fun H1 L e1 z e3 hL => ?_
  · have hel := List.all_eq_true.mp hb9 i (List.mem_range.mpr hi)
    cases hy : cP c s (sp.toNatClampNeg + i) with
    | none => exact ⟨rfl, trivial⟩
    | some y =>
      rw [hy] at hel
      simp only [Bool.and_eq_true, decide_eq_true_eq] at hel
      obtain ⟨⟨y1, y2⟩, y3⟩ := hel
      obtain ⟨cell, q1, q2, q3, -⟩ := RelC_ob (x := (g, c)) hR' rfl y2 y3
      obtain ⟨kA, kc, ke, comp, a1, a2, a3, a4, a5⟩ := hKC.2.2.1 109 (gK g y) y1
      have hcm : k0 = kA := Option.some.inj (hk0.symm.trans a1)
      subst hcm
      have hcm2 : comp = cm0 := by
        have e := hkk0.symm.trans a2
        injection e with e1 e2
        exact e1.symm
      subst hcm2
      obtain ⟨kc', hkc', -⟩ := hal.2.2 _ _ a3
      obtain ⟨ke', hke', -⟩ := hal.2.2 _ _ a4
      refine ⟨rfl, cell, (show T.heap[y]? = some cell by rw [hT]; exact q1), (fun q h => by rw [q3] at h; cases h), ⟨ke', by rw [q2]; exact hke'⟩, ⟨kc', hkc'⟩, ?_⟩
      show vm₁.assignable _ _ = true
      rw [hal.assignable, q2]
      exact a5
  · refine kk ok H1 (locs ++ L) cells slots ls (RelC_cell (x := (g, c)) hR' hA (ssum_arr hcd e1 e3) z e3 rfl rfl (fun b hb t j => rfl) (fun b hb t => ?_) ⟨fun _ h => ?_, fun _ _ => ?_⟩) (va_S_L hS z e3 hA hL) hcc hs hl
    · unfold cAr
      rw [show cP (g, cpP c s d sp.toNatClampNeg dp.toNatClampNeg n.toNatClampNeg).2 b = cP c b by funext i; simp [cP, cpP, hb]]
      rfl
    · have h8 : gK g d = 109 := gKo hd9 (by decide)
      have : gK g d < 22 := h
      omega
    · have h8 : gK g d = 109 := gKo hd9 (by decide)
      show H1[d]? = some (vp_cell (D.1 (gK g d)) (cAr (g, cpP c s d sp.toNatClampNeg dp.toNatClampNeg n.toNatClampNeg) (gK g d) d))
      rw [h8, e1]
      show _ = some (arrV (D.1 109) (gN g d) (fun j => va_rf (cP (cpP c s d sp.toNatClampNeg dp.toNatClampNeg n.toNatClampNeg) d j)))
      rw [show cP (cpP c s d sp.toNatClampNeg dp.toNatClampNeg n.toNatClampNeg) d = va_cpy (cP c s) (cP c d) sp.toNatClampNeg dp.toNatClampNeg n.toNatClampNeg by funext i; simp [cP, cpP]; rfl]
theorem yc_chkA {a : Nat} {own nm : String} {index : Nat} (t : Nat) (ht : gK g a = t) (h0 : 100 ≤ t) (h1 : t < 111) (ql : Cond.classLink own index nm ∈ lw_all) (hn : "[" ++ (aty t).toString = nm) (ho : M.2.2.1 = own) (d : decode M.1 pc = .ok (.checkcast index, 3))
    (kk : xV (wC D P) K M Q (g, c) (pc + 3) loc (.ref a :: st)) : xV (wC D P) K M Q (g, c) pc loc (.ref a :: st) := by
  intro ok H locs cells slots ls hR hS hcc hs hl
  subst ho; subst hn
  have hc := RelC_ar (x := (g, c)) hR ht h0 h1
  exact va_castA (D := (D.1, D.2.1)) (cl := []) (ws := [(a, .inl (D.1 t, cAr (g, c) t a))]) ok.1 ok.2.1 ok.2.2.2.1 (ok.2.2.2.2.1 _ ql) (fun k q hq => by
    cases k with
    | zero => cases hq; exact hc
    | succ k => cases hq) 0 rfl (ok.2.2.2.2.2.2.2.2.2.1.2.1 t h0 h1).2 d (kk ok H locs cells slots ls hR hS hcc hs hl)
theorem yc_instS {a : Nat} {own nm : String} {index : Nat} (t : Nat) (ht : gK g a = t) (h0 : 0 < t) (h1 : t < 22) (ql : Cond.classLink own index nm ∈ lw_all) (hn : kC t = nm) (ho : M.2.2.1 = own) (d : decode M.1 pc = .ok (.instanceof index, 3))
    (kk : xV (wC D P) K M Q (g, c) (pc + 3) loc (.int 1 :: st)) : xV (wC D P) K M Q (g, c) pc loc (.ref a :: st) := by
  intro ok H locs cells slots ls hR hS hcc hs hl
  subst ho; subst hn
  exact va_instS ok.1 ok.2.1 ok.2.2.2.1 (ok.2.2.2.2.1 _ ql) (ok.2.2.2.2.2.2.2.2.2.1.1 t h0 h1).2 (yc_recv ht h0 h1 H hR ok.2.2.2.2.2.2.2.2.2.1) d (kk ok H locs cells slots ls hR hS hcc hs hl)
theorem yc_ldcSw {own tx : String} {index : Nat} (i : Nat) (hi : i < txN) (ht : txO i = (own, index, tx)) (ho : M.2.2.1 = own) (d : decode M.1 pc = .ok (.ldc_w index, 3))
    (kk : xV (wC D P) K M Q (g, c) (pc + 3) loc (.ref (gA g 0 (100 + i)) :: st)) : xV (wC D P) K M Q (g, c) pc loc st := by
  intro ok H locs cells slots ls hR hS hcc hs hl
  subst ho
  have hR' : RelC D P (g, c) H := hR
  have hk := ok.2.2.2.2.2.2.2.2.2.1.2.2.2.2.2.2.1 i hi
  rw [ht, hR'.2.2.2.1.2.2.2 i hi] at hk
  intro T hT X
  obtain ⟨t, a1, b1⟩ := kk ok H locs cells slots ls hR hS hcc hs hl T hT X
  exact ⟨t, X.ldcStringW ok.1 ok.2.2.2.1 (text := tx) hk.1 hk.2 (g := F0 (xKm K) pc ls st) rfl (by rw [ok.2.1]; exact d) t a1, b1⟩
theorem yc_callP {y y0 : MethodName} {C0 own : String} {g1 : CG} {c1 : CC} {v : Option Value} {index n nL fr lo : Nat} {bytes : ByteArray} {ret : Option FieldType} {b t : Nat} {As rest : List Value} (hM : xMet (wC D P) K.2.1 y (ws_ y bytes nL ret) fr lo (grc g) (grs g) (.ref b :: As) (g, c) (v, (g1, c1))) (hT : GoodIn lw_all (ws_ y bytes nL ret))
    (ql : Cond.methodLink own index y ∈ lw_all) (qs : Cond.sameMethod y.cls y.cls y.name y.desc ∈ lw_all) (qi : Cond.instanceMethod y ∈ lw_all) (qn : Cond.initialized y.cls ∈ lw_all) (q0 : Cond.selects C0 y0 y0 ∈ lw_all) (qp : Cond.privateMethod y ∈ lw_tbl) (hcls : y0.cls = y.cls)
    (hd : y.cls ≠ "java/lang/invoke/MethodHandle" ∧ y.cls ≠ "java/lang/invoke/VarHandle" ∧ (parseMethodDescriptor y.desc).map (fun d => d.parameters.length) = some n)
    (ho : M.2.2.1 = own) (hfr : fr + 1 ≤ M.2.2.2.1) (hlo : 8 + (nL + 11) + lo ≤ M.2.2.2.2.1) (hn : As.length = n) (ht : gK g b = t) (h0 : 0 < t) (h1 : t < 22)
    (hst : st = As.reverse ++ .ref b :: rest) (hcat : (rest.map fun v => v.category).sum ≤ 8) (d : decode M.1 pc = .ok (.invokevirtual index, 3))
    (k : xV (wC D P) K M Q (g1, c1) (pc + 3) loc (v.toList ++ rest)) : xV (wC D P) K M Q (g, c) pc loc st := by
  intro ok H locs cells slots ls hR hS hc hs hl
  subst ho
  have hKC := ok.2.2.2.2.2.2.2.2.2.1
  have hw := ok.2.2.2.2.1
  have hsel := x_selP (C := kC t) (y := y) (hKC.1 t h0 h1).2.1 (hw _ q0) hcls (va_Nw.use rfl (hKC.2.2.2.1 _ qp rfl)) (hw _ qi) ⟨hd.1, hd.2.1⟩
  exact yc_go ok hR hS hl (fun cells slots hf => va_runU (As := As) (rest := rest) ⟨ok.1, ok.2.1, ok.2.2.1, ok.2.2.2.1, hw⟩ hM (va_cwP n hw hT ql qs qi qn hsel rfl rfl rfl hd ⟨Nat.le_trans hfr ok.2.2.2.2.2.2.1, Nat.le_trans hlo ok.2.2.2.2.2.2.2.1⟩)
    ⟨x_blind ok.2.2.2.2.2.2.2.2.2.2.1, yc_recv ht h0 h1 H hR hKC, yc_pre ok hR⟩ rfl hn hl.1 hst (lv_room hcat) d hf) k
theorem yc_getsN {own ref host : String} {index : Nat} (k : Nat) (hk : k < stN) (h8 : k ≠ 8) (q : Cond.fieldLinkNest own index ref (stt k).2.1 (stt k).2.2 host ∈ lw_tbl) (hs9 : (stt k).1 = ref) (ho : M.2.2.1 = own) (d : decode M.1 pc = .ok (.getstatic index, 3))
    (kk : xV (wC D P) K M Q (g, c) (pc + 3) loc (.ref (gA g 0 k) :: st)) : xV (wC D P) K M Q (g, c) pc loc st := by
  intro ok H locs cells slots ls hR hS hcc hs hl
  subst ho; subst hs9
  have hKC := ok.2.2.2.2.2.2.2.2.2.1
  obtain ⟨cf, kf, fi, f, cell, e1, e2, e3, e4, e5, e6, e7, e8⟩ := hKC.2.2.2.2.1 k hk
  have hR' : RelC D P (g, c) H := hR
  have h9 := hR'.2.2.2.2.1 _ e5
  rw [hR'.2.2.2.1.2.2.1 k hk h8] at e8
  exact va_WgetsN ok.1 ok.2.1 ok.2.2.2.1 (va_Nw.use rfl (hKC.2.2.2.1 _ q rfl)) e1 e2 e3 e4 (h9.trans e6) (fun h => by rw [h] at e7; cases e7) e8 rfl d (kk ok H locs cells slots ls hR hS hcc hs hl)
/-- a handler of the class that is thrown -/
theorem yc_catch {x : CS} {q : Nat} {name : String} (pre : List ExceptionTableEntry) (z : ExceptionTableEntry) (suf : List ExceptionTableEntry) (hsplit : K.2.2.2.2.2.2.2.2.2.exceptionTable.toList = pre ++ z :: suf) (hpass : ∀ z ∈ pre, covers z pc = false) (hz : covers z pc = true) (h0 : z.catchType ≠ 0)
    (ql : Cond.classLink M.2.2.1 z.catchType name ∈ lw_all) (qc : Cond.castable xFl name ∈ lw_tbl) (k : xV (wC D P) K M Q x z.handlerPc loc [.ref q]) : xT (wC D P) K M Q x pc loc q := by
  intro ok
  exact xT_catch pre z suf hsplit hpass hz h0 ql (va_Nw.use rfl (ok.2.2.2.2.2.2.2.2.2.1.2.2.2.1 _ qc rfl)) k ok
/-- the class object of Object[] -/
theorem yc_ldcM {own : String} {index : Nat} (ql : Cond.classLink own index "[Ljava/lang/Object;" ∈ lw_all) (ho : M.2.2.1 = own) (d : decode M.1 pc = .ok (.ldc index, 2))
    (kk : xV (wC D P) K M Q (g, c) (pc + 2) loc (.ref (D.2.2.2.2 1000) :: st)) : xV (wC D P) K M Q (g, c) pc loc st := by
  intro ok H locs cells slots ls hR hS hcc hs hl
  subst ho
  exact va_ldcM ok.1 ok.2.1 ok.2.2.2.1 (ok.2.2.2.2.1 _ ql) ok.2.2.2.2.2.2.2.2.2.1.2.2.2.2.2.2.2.1.2 d (kk ok H locs cells slots ls hR hS hcc hs hl)
theorem yc_getC {a : Nat} {own : String} {index : Nat} (ht : gK g a = 109) (ql : Cond.methodLink own index ⟨"java/lang/Object", "getClass", "()Ljava/lang/Class;"⟩ ∈ lw_all) (qd : Cond.declares ⟨"java/lang/Object", "getClass", "()Ljava/lang/Class;"⟩ ∈ lw_tbl) (qs : Cond.selects "[Ljava/lang/Object;" ⟨"java/lang/Object", "getClass", "()Ljava/lang/Class;"⟩ ⟨"java/lang/Object", "getClass", "()Ljava/lang/Class;"⟩ ∈ lw_all)
    (qi : Cond.instanceMethod ⟨"java/lang/Object", "getClass", "()Ljava/lang/Class;"⟩ ∈ lw_all) (qn : Cond.native ⟨"java/lang/Object", "getClass", "()Ljava/lang/Class;"⟩ ∈ lw_all) (ho : M.2.2.1 = own) (hfr : 1 ≤ M.2.2.2.1) (hlo : 40 ≤ M.2.2.2.2.1) (hcat : (st.map fun v => v.category).sum ≤ 8) (d : decode M.1 pc = .ok (.invokevirtual index, 3))
    (kk : xV (wC D P) K M Q (g, c) (pc + 3) loc (.ref (D.2.2.2.2 1000) :: st)) : xV (wC D P) K M Q (g, c) pc loc (.ref a :: st) := by
  intro ok H locs cells slots ls hR hS hcc hs hl
  subst ho
  have hKC := ok.2.2.2.2.2.2.2.2.2.1
  have hc := RelC_ar (x := (g, c)) hR ht (by decide) (by decide)
  have h9 : 40 ≤ (xKR K).locals := Nat.le_trans hlo ok.2.2.2.2.2.2.2.1
  exact va_getC ok.1 ok.2.1 (ok.2.2.1.trans hl.1.symm) ok.2.2.2.1 (ok.2.2.2.2.1 _ ql) (va_Nw.use rfl (hKC.2.2.2.1 _ qd rfl)) (ok.2.2.2.2.1 _ qs) (ok.2.2.2.2.1 _ qi) (ok.2.2.2.2.1 _ qn) hKC.2.2.2.2.2.2.2.1.2
    ⟨_, hc, rfl, (hKC.2.1 109 (by decide) (by decide)).2⟩ (Nat.le_trans hfr ok.2.2.2.2.2.2.1) (by omega) d (kk ok H locs cells slots ls hR hS hcc hs hl)
end YCP
