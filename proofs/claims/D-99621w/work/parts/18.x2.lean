/-! methods with a table of handlers; calls of methods that may throw, one row for each end -/
set_option maxRecDepth 100000
abbrev ws_H (y : MethodName) (cc : ByteArray) (nL : Nat) (ret : Option FieldType) (hh : List (Nat × Nat × Nat × Nat)) : List Cond := Cond.codeWith y cc nL ret hh :: lw_all
theorem Met_ofWH {l : Launch} {y : MethodName} {ws ws' : List Cond} {rm : Room} {Pc : Array Value → State → Prop} {Qc : Array Value → State → Outcome → State → Prop} {mc ms : Nat} {free : Addr → Prop} {cc : ByteArray} {maxL : Nat} {ret : Option FieldType} {hh : List (Nat × Nat × Nat × Nat)}
    (hy : plainName y.cls = true) (hw : ws = Cond.codeWith y cc maxL ret hh :: ws')
    (body : ∀ p e s m args below meth c s₁, BodyLoose p l y (headSpec ws rm) cc maxL ret e s m args below meth c s₁ → c.maxLocals = maxL → Pc args s →
      W p l e (headSpec ws rm).room s m args below meth c s.heap [] 0 0 (MQ below Qc args s mc ms free) (entryFrame m args maxL)) : Met l y ws rm Pc Qc mc ms free := by
  refine MetFree.of_bodyS (code := cc) (maxLocals := maxL) (ret := ret) hy ?_ ?_
  · intro args s m h hn
    obtain ⟨m9, meth, c, hn9, h1, h2, h3, h4, -, h5, h6, -⟩ := Cond.codeWith_spec (atoms_spec (ws := ws) h _ (by rw [hw]; exact List.mem_cons_self))
    cases hn.symm.trans hn9
    exact ⟨meth, c, h1, h2, h3, h4, h5, h6⟩
  · intro p e s m args below meth c s₁ B hml hP _
    have hh0 : s₁.heap = s.heap := by rw [B.state]; rfl
    obtain ⟨t, a1, o, b1, b2, b3⟩ := body p e s m args below meth c s₁ B hml hP s₁ hh0 (Stand.of_body B)
    exact ⟨t, o, a1, b1, b2, ⟨b3.1, b3.2⟩⟩
theorem xMet_ofH {S : Type} {w : xW S} {x : S} {Z : Option Value × S} {l : Launch} {y : MethodName} {fr lo mc ms : Nat} {as : List Value} {cc : ByteArray} {nL : Nat} {ret : Option FieldType} {hh : List (Nat × Nat × Nat × Nat)} (hy : plainName y.cls = true) (hlen : (lg_sl as).length ≤ nL)
    (hK : xKp w.2.2.1) (hRP : ∀ s : State, w.1 x s.heap → w.2.2.2 { frames := fr, cells := mc, slots := ms, locals := lo } s) (body : ∀ K : xK, K.2.1 = l → (xKR K).cells = mc → (xKR K).slots = ms → K.2.2.2.2.2.2.2.2.2.exceptionTable.toList = tableOf hh → xV w K (cc, nL, y.cls, fr, lo, ret, y.name) (xQ w K Z) x 0 (lv_args 0 as) []) : xMet w l y (ws_H y cc nL ret hh) fr lo mc ms as x Z := by
  refine Met_ofWH (cc := cc) (maxL := nL) (ret := ret) (hh := hh) hy rfl ?_
  intro p e s m args below meth c s₁ B hml hv
  obtain ⟨rfl, hk, hr⟩ := hv
  have hts0 := atoms_spec (ws := ws_H y cc nL ret hh) B.pre
  have hts : ∀ c ∈ lw_all, c.before _ s = true := fun c h => hts0 c (List.mem_cons_of_mem _ h)
  have htab : c.exceptionTable.toList = tableOf hh := vy_table (x := y) B (hts0 _ List.mem_cons_self)
  have hl := lv_entry as (n := nL) hlen
  rw [lg_entry_eq]
  exact body (p, l, e, { frames := fr, cells := mc, slots := ms, locals := lo }, s, m, as.toArray, below, meth, c) rfl rfl rfl htab
    ⟨B.exec, B.bytes, hml, findClass_of_methodNamed B.named, hts, B.notSynchronized, Nat.le_refl _, Nat.le_refl _, B.returns, hk, hK, hRP s hr, (name_of_methodNamed B.named B.method).1⟩ s.heap [] 0 0 _ hr va_S.rf (Nat.zero_le _) (Nat.zero_le _) hl
section YX2
variable {D : CD} {P : CP} {K : xK} {M : xM} {Q : State → Prop} {g : CG} {c : CC} {pc : Nat} {loc : List (Nat × Value)} {st : List Value} {Z : (Option Value ⊕ Nat) × CS} {v : Option Value} {q : Nat} {x1 : CS}
variable {y : MethodName} {C own host : String} {index n nL fr lo : Nat} {bytes : ByteArray} {ret : Option FieldType} {b t : Nat} {As rest : List Value}
theorem yc_callVNX (hM : xMetX (wC D P) K.2.1 y (ws_ y bytes nL ret) fr lo (grc g) (grs g) (.ref b :: As) (g, c) Z) (hT : GoodIn lw_all (ws_ y bytes nL ret)) (hl9 : Cond.methodLinkNest own index y host ∈ lw_tbl) (hi : Cond.instanceMethod y ∈ lw_all) (hs9 : Cond.selects C y y ∈ lw_all) (hini : Cond.initialized y.cls ∈ lw_all)
    (hd : y.cls = C ∧ y.cls ≠ "java/lang/invoke/MethodHandle" ∧ y.cls ≠ "java/lang/invoke/VarHandle" ∧ (parseMethodDescriptor y.desc).map (fun d => d.parameters.length) = some n)
    (ho : M.2.2.1 = own) (hfr : fr + 1 ≤ M.2.2.2.1) (hlo : 8 + (nL + 11) + lo ≤ M.2.2.2.2.1) (hn : As.length = n) (ht : gK g b = t) (h0 : 0 < t) (h1 : t < 22) (hC : kC t = C)
    (hst : st = As.reverse ++ .ref b :: rest) (hcat : (rest.map fun v => v.category).sum ≤ 8) (d : decode M.1 pc = .ok (.invokevirtual index, 3))
    (k1 : ∀ v, Z.1 = .inl v → xV (wC D P) K M Q Z.2 (pc + 3) loc (v.toList ++ rest)) (k2 : ∀ q, Z.1 = .inr q → xT (wC D P) K M Q Z.2 pc loc q) : xV (wC D P) K M Q (g, c) pc loc st := by
  intro ok H locs cells slots ls hR hS hc hs hl
  subst ho; subst hC
  have hw := ok.2.2.2.2.1
  exact yc_goX ok hR hS hl (fun cells slots hf => vy_runVN (As := As) (rest := rest) (bytes := bytes) (maxL := nL) (ret := ret) ⟨ok.1, ok.2.1, ok.2.2.1, ok.2.2.2.1, hw⟩ hM ⟨va_cnB n hw hT rfl rfl rfl (ok.2.2.2.2.2.2.2.2.2.1.2.2.2.1 _ hl9 rfl) (hw _ hini) hd.2 ⟨Nat.le_trans hfr ok.2.2.2.2.2.2.1, Nat.le_trans hlo ok.2.2.2.2.2.2.2.1⟩, hw _ hi, hw _ hs9⟩
    ⟨x_blind ok.2.2.2.2.2.2.2.2.2.2.1, yc_recv ht h0 h1 H hR ok.2.2.2.2.2.2.2.2.2.1, yc_pre ok hR⟩ rfl hn hl.1 hst (lv_room hcat) d hf) k1 k2
/-- which of the two ends it is -/
theorem yx_ret {w : xW CS} {k3 : Nat} (k : xV w K M Q x1 k3 loc (v.toList ++ rest)) : ∀ v', ((.inl v : Option Value ⊕ Nat), x1).1 = .inl v' → xV w K M Q ((.inl v : Option Value ⊕ Nat), x1).2 k3 loc (v'.toList ++ rest) := by
  intro v' e
  cases e
  exact k
theorem yx_noT {w : xW CS} : ∀ q', ((.inl v : Option Value ⊕ Nat), x1).1 = .inr q' → xT w K M Q ((.inl v : Option Value ⊕ Nat), x1).2 pc loc q' := by
  intro q' e
  cases e
theorem yx_noR {w : xW CS} {k3 : Nat} : ∀ v', ((.inr q : Option Value ⊕ Nat), x1).1 = .inl v' → xV w K M Q ((.inr q : Option Value ⊕ Nat), x1).2 k3 loc (v'.toList ++ rest) := by
  intro v' e
  cases e
theorem yx_thr {w : xW CS} (k : xT w K M Q x1 pc loc q) : ∀ q', ((.inr q : Option Value ⊕ Nat), x1).1 = .inr q' → xT w K M Q ((.inr q : Option Value ⊕ Nat), x1).2 pc loc q' := by
  intro q' e
  cases e
  exact k
theorem xT_sub {S : Type} {w : xW S} {x : S} {loc' : List (Nat × Value)} (ks : List Nat) (h : lv_pick loc ks = loc') (k : xT w K M Q x pc loc' q) : xT w K M Q x pc loc q :=
  fun ok H locs cells slots ls rest ce hR hS hc hs hl h1 h2 h3 => k ok H locs cells slots ls rest ce hR hS hc hs (lv_sub hl ks h) h1 h2 h3
end YX2
