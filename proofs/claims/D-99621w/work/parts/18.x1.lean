/-! thrown objects: contracts that return or throw, rows -/
set_option maxRecDepth 100000
/-- the one class that is thrown -/
def xFl : String := "BentRiver$Fault"
def xCX {S : Type} (w : xW S) (Z : (Option Value ⊕ Nat) × S) : Array Value → State → Outcome → State → Prop := fun _ st o t => ∃ v, Z.1 = .inl v ∧ o = .returned v ∧ w.1 Z.2 t.heap ∧ va_F w.2.1 st t
def xXX {S : Type} (w : xW S) (Z : (Option Value ⊕ Nat) × S) : Addr → String → State → State → Prop := fun q E st t => E = xFl ∧ Z.1 = .inr q ∧ w.1 Z.2 t.heap ∧ va_F w.2.1 st t
abbrev xQX {S : Type} (w : xW S) (K : xK) (Z : (Option Value ⊕ Nat) × S) : State → Prop := vy_MQ K.2.2.2.2.2.2.2.1 (xCX w Z) (xXX w Z) K.2.2.2.2.2.2.1 (xKs K) (xKR K).cells (xKR K).slots w.2.1
def xMetX {S : Type} (w : xW S) (l : Launch) (y : MethodName) (ws : List Cond) (fr lo mc ms : Nat) (as : List Value) (x : S) (Z : (Option Value ⊕ Nat) × S) : Prop :=
  vy_Met l y ws { frames := fr, cells := mc, slots := ms, locals := lo } (va_Pc as (fun U => w.2.2.1 U ∧ w.1 x U.heap)) (xCX w Z) (xXX w Z) mc ms w.2.1
/-- no rows in the method's table of handlers -/
def xNoT (K : xK) : Prop := ∀ x ∈ K.2.2.2.2.2.2.2.2.2.exceptionTable.toList, False
/-- q is thrown over the frame -/
def xT {S : Type} (w : xW S) (K : xK) (M : xM) (Q : State → Prop) (x : S) (pc : Nat) (loc : List (Nat × Value)) (q : Nat) : Prop :=
  xOK w K M → ∀ (H : Heap) (locs : List Loc) (cells slots : Nat) (ls : Array Slot) (rest : List Value) (ce : Cell), w.1 x H → va_S w.2.1 (xKs K).heap H locs → cells ≤ (xKR K).cells → slots ≤ (xKR K).slots → lv_has ls M.2.1 loc → H[q]? = some ce → ce.vm = .none → (xKs K).vm.findClass xFl = some ce.cls →
    vy_W K.1 K.2.1 K.2.2.1 (xKR K) (xKs K) (xKm K) K.2.2.2.2.2.2.1 K.2.2.2.2.2.2.2.1 K.2.2.2.2.2.2.2.2.1 K.2.2.2.2.2.2.2.2.2 H locs cells slots Q (F0 (xKm K) pc ls rest) q
section XX
variable {S : Type} {w : xW S} {K : xK} {M : xM} {Q : State → Prop} {x : S} {pc : Nat} {loc : List (Nat × Value)} {st : List Value}
theorem xMetX_of {Z : (Option Value ⊕ Nat) × S} {l : Launch} {y : MethodName} {fr lo mc ms : Nat} {as : List Value} {cc : ByteArray} {nL : Nat} {ret : Option FieldType} (hy : plainName y.cls = true) (hlen : (lg_sl as).length ≤ nL)
    (hK : xKp w.2.2.1) (hRP : ∀ s : State, w.1 x s.heap → w.2.2.2 { frames := fr, cells := mc, slots := ms, locals := lo } s) (body : ∀ K : xK, K.2.1 = l → (xKR K).cells = mc → (xKR K).slots = ms → xNoT K → xV w K (cc, nL, y.cls, fr, lo, ret, y.name) (xQX w K Z) x 0 (lv_args 0 as) []) : xMetX w l y (ws_ y cc nL ret) fr lo mc ms as x Z := by
  refine vy_ofW (cc := cc) (maxL := nL) (ret := ret) hy rfl ?_
  intro p e s m args below meth c s₁ B hml hno hv
  obtain ⟨rfl, hk, hr⟩ := hv
  have hts := atoms_spec (ws := ws_ y cc nL ret) B.pre
  have hts : ∀ c ∈ lw_all, c.before _ s = true := fun c h => hts c (List.mem_cons_of_mem _ h)
  have hl := lv_entry as (n := nL) hlen
  rw [lg_entry_eq]
  exact body (p, l, e, { frames := fr, cells := mc, slots := ms, locals := lo }, s, m, as.toArray, below, meth, c) rfl rfl rfl hno
    ⟨B.exec, B.bytes, hml, findClass_of_methodNamed B.named, hts, B.notSynchronized, Nat.le_refl _, Nat.le_refl _, B.returns, hk, hK, hRP s hr, (name_of_methodNamed B.named B.method).1⟩ s.heap [] 0 0 _ hr va_S.rf (Nat.zero_le _) (Nat.zero_le _) hl
/-- a return, in a body that may throw -/
theorem xV_ret {x1 : S} {v : Option Value} (k : xV w K M (xQ w K (v, x1)) x pc loc st) : xV w K M (xQX w K (.inl v, x1)) x pc loc st := by
  intro ok H locs cells slots ls hR hS hc hs hl T hT X
  obtain ⟨t, a1, o, b1, b2, b3, b4⟩ := k ok H locs cells slots ls hR hS hc hs hl T hT X
  exact ⟨t, a1, o, b1, b2, Or.inl ⟨⟨v, rfl, b3.1, b3.2.1, b3.2.2⟩, b4⟩⟩
theorem xT_out {q : Nat} (hx : xNoT K) : xT w K M (xQX w K (.inr q, x)) x pc loc q := by
  intro ok H locs cells slots ls rest ce hR hS hc hs hl h1 h2 h3
  exact vy_out (E := xFl) (fun z hz => (hx z hz).elim) ok.2.2.2.2.2.1 h1 h2 h3 (fun t ht _ => ⟨rfl, rfl, by rw [ht]; exact hR, hS.F ht⟩) hS.2.2 hc hs
theorem xT_catch {q : Nat} {name : String} (pre : List ExceptionTableEntry) (z : ExceptionTableEntry) (suf : List ExceptionTableEntry) (hsplit : K.2.2.2.2.2.2.2.2.2.exceptionTable.toList = pre ++ z :: suf) (hpass : ∀ z ∈ pre, covers z pc = false) (hz : covers z pc = true) (h0 : z.catchType ≠ 0)
    (ql : Cond.classLink M.2.2.1 z.catchType name ∈ lw_all) (qc : (Cond.castable xFl name).before K.2.2.2.2.2.2.1 (xKs K) = true) (k : xV w K M Q x z.handlerPc loc [.ref q]) : xT w K M Q x pc loc q := by
  intro ok H locs cells slots ls rest ce hR hS hc hs hl h1 h2 h3
  exact vy_catch (E := xFl) ok.2.2.2.1 pre z suf hsplit (fun u hu => Or.inl (hpass u hu)) hz h0 (ok.2.2.2.2.1 _ ql) qc h1 h2 h3 (k ok H locs cells slots ls hR hS hc hs hl)
theorem xr_athrow {q : Nat} (hq : ∀ (H : Heap) (s : State), w.1 x H → w.2.2.1 s → ∃ ce : Cell, H[q]? = some ce ∧ ce.vm = .none ∧ s.vm.findClass xFl = some ce.cls) (d : decode M.1 pc = .ok (.athrow, 1)) (k : xT w K M Q x pc loc q) : xV w K M Q x pc loc (.ref q :: st) := by
  intro ok H locs cells slots ls hR hS hc hs hl
  obtain ⟨ce, h1, h2, h3⟩ := hq H (xKs K) hR ok.2.2.2.2.2.2.2.2.2.1
  exact vy_athrow ok.1 ok.2.1 d (k ok H locs cells slots ls st ce hR hS hc hs hl h1 h2 h3)
end XX
section YT
variable {D : CD} {P : CP} {K : xK} {M : xM} {Q : State → Prop} {g : CG} {c : CC} {pc : Nat} {loc : List (Nat × Value)} {st : List Value} {Z : (Option Value ⊕ Nat) × CS}
theorem yc_athrow {q t : Nat} (ht : gK g q = t) (h0 : 0 < t) (h1 : t < 22) (hC : kC t = xFl) (d : decode M.1 pc = .ok (.athrow, 1)) (k : xT (wC D P) K M Q (g, c) pc loc q) : xV (wC D P) K M Q (g, c) pc loc (.ref q :: st) := by
  refine xr_athrow (fun H s hR hK => ?_) d k
  have hR' : RelC D P (g, c) H := hR
  have hK' : KC D P s := hK
  obtain ⟨cell, q1, q2, q3, -⟩ := RelC_ob (x := (g, c)) hR' ht h0 h1
  exact ⟨cell, q1, q3, by rw [← hC, q2]; exact (hK'.1 t h0 h1).2.1⟩
theorem yc_goX {rest : List Value} {H : Heap} {locs : List Loc} {cells slots : Nat} {ls : Array Slot} {a : Array Value} (ok : xOK (wC D P) K M) (hR : RelC D P (g, c) H) (hS : va_S (AC P) (xKs K).heap H locs) (hl : lv_has ls M.2.1 loc)
    (hr : ∀ cells slots, cells + grc g ≤ (xKR K).cells ∧ slots + grs g ≤ (xKR K).slots → vy_Run K.1 K.2.1 K.2.2.1 (xKR K) (xKs K) (xKm K) K.2.2.2.2.2.2.1 K.2.2.2.2.2.2.2.1 K.2.2.2.2.2.2.2.2.1 K.2.2.2.2.2.2.2.2.2 H locs cells slots (grc g) (grs g) (F0 (xKm K) pc ls st) rest (xCX (wC D P) Z a) (xXX (wC D P) Z) (AC P))
    (k1 : ∀ v, Z.1 = .inl v → xV (wC D P) K M Q Z.2 (pc + 3) loc (v.toList ++ rest)) (k2 : ∀ q, Z.1 = .inr q → xT (wC D P) K M Q Z.2 pc loc q) : xU K H locs cells slots Q (F0 (xKm K) pc ls st) := by
  intro T hT X
  obtain ⟨q1, q2⟩ := yc_room ok hR hT X
  rcases hr _ _ ⟨Nat.le_of_eq q1, Nat.le_of_eq q2⟩ T hT (stand_tight X) with ⟨v', st₀, t, T', L, h0, X', hL, e1, e2, ⟨v, hv, hv', hR1, hz, hk⟩, go⟩ | ⟨q, st₀, t, T', L, E, ce, h0, X', hL, e1, e2, ⟨hE, hv, hR1, hz, hk⟩, hce, hcv, hcl, go⟩
  · cases hv'
    rw [h0] at hz hk
    obtain ⟨t2, a1, b1⟩ := k1 v' hv ok T'.heap (locs ++ L) _ _ ls (by rw [e1]; exact hR1)
      ⟨Nat.le_trans hS.1 (by rw [e1]; exact hz), fun q h1 h2 => by rw [e1, hk q (Nat.lt_of_lt_of_le h1 hS.1) h2]; exact hS.2.1 q h1 h2, fun q hq => by
        rcases List.mem_append.mp hq with h | h
        · exact hS.2.2 q h
        · exact hL q h⟩ (Nat.le_of_eq q1) (Nat.le_of_eq q2) hl T' rfl X'
    exact ⟨t2, go t2 a1, b1⟩
  · subst hE
    rw [h0] at hz hk
    obtain ⟨t2, a1, b1⟩ := k2 q hv ok T'.heap (locs ++ L) _ _ ls rest ce (by rw [e1]; exact hR1)
      ⟨Nat.le_trans hS.1 (by rw [e1]; exact hz), fun q h1 h2 => by rw [e1, hk q (Nat.lt_of_lt_of_le h1 hS.1) h2]; exact hS.2.1 q h1 h2, fun q hq => by
        rcases List.mem_append.mp hq with h | h
        · exact hS.2.2 q h
        · exact hL q h⟩ (Nat.le_of_eq q1) (Nat.le_of_eq q2) hl (by rw [e1]; exact hce) hcv hcl T' rfl X'
    exact ⟨t2, go.trans a1, b1⟩
variable {y : MethodName} {C own host : String} {index n nL fr lo : Nat} {bytes : ByteArray} {ret : Option FieldType} {b t : Nat} {As rest : List Value}
theorem yc_callVX (hM : xMetX (wC D P) K.2.1 y (ws_ y bytes nL ret) fr lo (grc g) (grs g) (.ref b :: As) (g, c) Z) (hT : GoodIn lw_all (wsV own index C y (ws_ y bytes nL ret)))
    (hd : y.cls = C ∧ y.cls ≠ "java/lang/invoke/MethodHandle" ∧ y.cls ≠ "java/lang/invoke/VarHandle" ∧ (parseMethodDescriptor y.desc).map (fun d => d.parameters.length) = some n)
    (ho : M.2.2.1 = own) (hfr : fr + 1 ≤ M.2.2.2.1) (hlo : 8 + (nL + 11) + lo ≤ M.2.2.2.2.1) (hn : As.length = n) (ht : gK g b = t) (h0 : 0 < t) (h1 : t < 22) (hC : kC t = C)
    (hst : st = As.reverse ++ .ref b :: rest) (hcat : (rest.map fun v => v.category).sum ≤ 8) (d : decode M.1 pc = .ok (.invokevirtual index, 3))
    (k1 : ∀ v, Z.1 = .inl v → xV (wC D P) K M Q Z.2 (pc + 3) loc (v.toList ++ rest)) (k2 : ∀ q, Z.1 = .inr q → xT (wC D P) K M Q Z.2 pc loc q) : xV (wC D P) K M Q (g, c) pc loc st := by
  intro ok H locs cells slots ls hR hS hc hs hl
  subst ho; subst hC
  exact yc_goX ok hR hS hl (fun cells slots hf => vy_runV (As := As) (rest := rest) ⟨ok.1, ok.2.1, ok.2.2.1, ok.2.2.2.1, ok.2.2.2.2.1⟩ hM (cwV n ok.2.2.2.2.1 hT rfl rfl rfl hd ⟨Nat.le_trans hfr ok.2.2.2.2.2.2.1, Nat.le_trans hlo ok.2.2.2.2.2.2.2.1⟩)
    ⟨x_blind ok.2.2.2.2.2.2.2.2.2.2.1, yc_recv ht h0 h1 H hR ok.2.2.2.2.2.2.2.2.2.1, yc_pre ok hR⟩ rfl hn hl.1 hst (lv_room hcat) d hf) k1 k2
theorem yc_callSX (hM : xMetX (wC D P) K.2.1 y (ws_ y bytes nL ret) fr lo (grc g) (grs g) As (g, c) Z) (hT : GoodIn lw_all (va_wsS own index y (ws_ y bytes nL ret)))
    (hd : y.cls ≠ "java/lang/invoke/MethodHandle" ∧ y.cls ≠ "java/lang/invoke/VarHandle" ∧ (parseMethodDescriptor y.desc).map (fun d => d.parameters.length) = some n)
    (ho : M.2.2.1 = own) (hfr : fr + 1 ≤ M.2.2.2.1) (hlo : 8 + (nL + 11) + lo ≤ M.2.2.2.2.1) (hn : As.length = n)
    (hst : st = As.reverse ++ rest) (hcat : (rest.map fun v => v.category).sum ≤ 8) (d : decode M.1 pc = .ok (.invokestatic index, 3))
    (k1 : ∀ v, Z.1 = .inl v → xV (wC D P) K M Q Z.2 (pc + 3) loc (v.toList ++ rest)) (k2 : ∀ q, Z.1 = .inr q → xT (wC D P) K M Q Z.2 pc loc q) : xV (wC D P) K M Q (g, c) pc loc st := by
  intro ok H locs cells slots ls hR hS hc hs hl
  subst ho
  exact yc_goX ok hR hS hl (fun cells slots hf => vy_runS (As := As) (rest := rest) ⟨ok.1, ok.2.1, ok.2.2.1, ok.2.2.2.1, ok.2.2.2.2.1⟩ hM (va_cwS n ok.2.2.2.2.1 hT rfl rfl rfl hd ⟨Nat.le_trans hfr ok.2.2.2.2.2.2.1, Nat.le_trans hlo ok.2.2.2.2.2.2.2.1⟩)
    ⟨x_blind ok.2.2.2.2.2.2.2.2.2.2.1, yc_pre ok hR⟩ rfl hn hl.1 hst (lv_room hcat) d hf) k1 k2
end YT
