/-! a call of the class above -/
section YSU
variable {D : CD} {P : CP} {K : xK} {M : xM} {Q : State → Prop} {g g1 : CG} {c c1 : CC} {pc : Nat} {loc : List (Nat × Value)} {st : List Value}
variable {v : Option Value} {y : MethodName} {own : String} {index n nL fr lo : Nat} {bytes : ByteArray} {ret : Option FieldType} {b t : Nat} {As rest : List Value}
theorem yc_callSU (hM : xMet (wC D P) K.2.1 y (ws_ y bytes nL ret) fr lo (grc g) (grs g) (.ref b :: As) (g, c) (v, (g1, c1))) (hT : GoodIn lw_all (va_wsSU own index y (ws_ y bytes nL ret)))
    (hd : y.name ≠ "<init>" ∧ (parseMethodDescriptor y.desc).map (fun d => d.parameters.length) = some n)
    (ho : M.2.2.1 = own) (hfr : fr + 1 ≤ M.2.2.2.1) (hlo : 8 + (nL + 11) + lo ≤ M.2.2.2.2.1) (hn : As.length = n) (ht : gK g b = t) (h0 : 0 < t) (h1 : t < 22)
    (hst : st = As.reverse ++ .ref b :: rest) (hcat : (rest.map fun v => v.category).sum ≤ 8) (d : decode M.1 pc = .ok (.invokespecial index, 3))
    (k : xV (wC D P) K M Q (g1, c1) (pc + 3) loc (v.toList ++ rest)) : xV (wC D P) K M Q (g, c) pc loc st := by
  intro ok H locs cells slots ls hR hS hc hs hl
  subst ho
  exact yc_go ok hR hS hl (fun cells slots hf => va_runSU (As := As) (rest := rest) (ok.2.2.2.2.2.2.2.2.2.1.1 t h0 h1).2 ⟨ok.1, ok.2.1, ok.2.2.1, ok.2.2.2.1, ok.2.2.2.2.1⟩ hM (va_cwSU n ok.2.2.2.2.1 hT rfl rfl rfl hd ⟨Nat.le_trans hfr ok.2.2.2.2.2.2.1, Nat.le_trans hlo ok.2.2.2.2.2.2.2.1⟩)
    ⟨x_blind ok.2.2.2.2.2.2.2.2.2.2.1, yc_recv ht h0 h1 H hR ok.2.2.2.2.2.2.2.2.2.1, yc_pre ok hR⟩ rfl hn hl.1 hst (lv_room hcat) d hf) k
end YSU
theorem Met_ofWF {l : Launch} {y : MethodName} {ws ws' : List Cond} {rm : Room} {Pc : Array Value → State → Prop} {Qc : Array Value → State → Outcome → State → Prop} {mc ms : Nat} {free : Addr → Prop} {cc : ByteArray} {maxL : Nat} {ret : Option FieldType}
    (hy : plainFor y = true) (hw : ws = Cond.code y cc maxL ret :: ws')
    (body : ∀ p e s m args below meth c s₁, BodyLoose p l y (headSpec ws rm) cc maxL ret e s m args below meth c s₁ → c.maxLocals = maxL → Pc args s →
      W p l e (headSpec ws rm).room s m args below meth c s.heap [] 0 0 (MQ below Qc args s mc ms free) (entryFrame m args maxL)) : Met l y ws rm Pc Qc mc ms free := by
  refine MetFree.of_bodySF (code := cc) (maxLocals := maxL) (ret := ret) hy ?_ ?_
  · intro args s m h hn
    obtain ⟨meth, c, h1, h2, h3, h4, h5, h6, -, -⟩ := Cond.code_spec hn (atoms_spec (ws := ws) h _ (by rw [hw]; exact List.mem_cons_self))
    exact ⟨meth, c, h1, h2, h3, h4, h5, h6⟩
  · intro p e s m args below meth c s₁ B hml hP _
    have hh0 : s₁.heap = s.heap := by rw [B.state]; rfl
    obtain ⟨t, a1, o, b1, b2, b3⟩ := body p e s m args below meth c s₁ B hml hP s₁ hh0 (Stand.of_body B)
    exact ⟨t, o, a1, b1, b2, ⟨b3.1, b3.2⟩⟩
/-- a method of a class some of whose methods the machine runs by itself: not this one -/
theorem xMet_ofF {S : Type} {w : xW S} {x : S} {Z : Option Value × S} {l : Launch} {y : MethodName} {fr lo mc ms : Nat} {as : List Value} {cc : ByteArray} {nL : Nat} {ret : Option FieldType} (hy : plainFor y = true) (hlen : (lg_sl as).length ≤ nL)
    (hK : xKp w.2.2.1) (hRP : ∀ s : State, w.1 x s.heap → w.2.2.2 { frames := fr, cells := mc, slots := ms, locals := lo } s) (body : ∀ K : xK, K.2.1 = l → (xKR K).cells = mc → (xKR K).slots = ms → xV w K (cc, nL, y.cls, fr, lo, ret, y.name) (xQ w K Z) x 0 (lv_args 0 as) []) : xMet w l y (ws_ y cc nL ret) fr lo mc ms as x Z := by
  refine Met_ofWF (cc := cc) (maxL := nL) (ret := ret) hy rfl ?_
  intro p e s m args below meth c s₁ B hml hv
  obtain ⟨rfl, hk, hr⟩ := hv
  have hts := atoms_spec (ws := ws_ y cc nL ret) B.pre
  have hts : ∀ c ∈ lw_all, c.before _ s = true := fun c h => hts c (List.mem_cons_of_mem _ h)
  have hl := lv_entry as (n := nL) hlen
  rw [lg_entry_eq]
  exact body (p, l, e, { frames := fr, cells := mc, slots := ms, locals := lo }, s, m, as.toArray, below, meth, c) rfl rfl rfl
    ⟨B.exec, B.bytes, hml, findClass_of_methodNamed B.named, hts, B.notSynchronized, Nat.le_refl _, Nat.le_refl _, B.returns, hk, hK, hRP s hr, (name_of_methodNamed B.named B.method).1⟩ s.heap [] 0 0 _ hr va_S.rf (Nat.zero_le _) (Nat.zero_le _) hl
/-- a short list of words -/
theorem lw_2 {a b : Cond} {c : List Cond} (h1 : a ∈ lw_all) (h2 : b ∈ lw_all) (hc : GoodIn lw_all c) : GoodIn lw_all (a :: b :: c) := fun w hw => by
  rcases List.mem_cons.mp hw with e | hw
  · rw [e]; exact lw_self _ h1
  rcases List.mem_cons.mp hw with e | hw
  · rw [e]; exact lw_self _ h2
  exact hc w hw
theorem lw_1 {a : Cond} {c : List Cond} (h1 : a ∈ lw_all) (hc : GoodIn lw_all c) : GoodIn lw_all (a :: c) := fun w hw => by
  rcases List.mem_cons.mp hw with e | hw
  · rw [e]; exact lw_self _ h1
  exact hc w hw
theorem xr_cret {S : Type} {w : xW S} {K : xK} {M : xM} {x : S} {pc : Nat} {loc : List (Nat × Value)} {v u : Int32} (d : decode M.1 pc = .ok (.ireturn, 1)) (hr : M.2.2.2.2.2.1 = some .char) (hv : v.toUInt32.toUInt16.toUInt32.toInt32 = u) : xV w K M (xQ w K (some (.int u), x)) x pc loc [.int v] := by
  intro ok H locs cells slots ls hR hS hc hs hl
  refine W.widen hc hs ?_
  have hlocks := ok.2.2.2.2.2.1
  have hr := (ok.2.2.2.2.2.2.2.2.1.trans hr)
  have hexec := ok.1
  have hb := ok.2.1
  intro T hT X
  obtain ⟨fs, hret, hrun, hended, hW, hframe⟩ := X.leave (v := some (.int u)) (fun h => by rw [hr] at h; cases h)
  have hmeth' := X.method'
  refine ⟨T.setFrames fs, ?_, .returned (some (.int u)), hrun, hended, x_end hR hS _ hT, locs, ⟨⟨_, rfl⟩, hW, hframe⟩, hS.2.2⟩
  have hn : narrow .char (.int v) = .int u := by rw [← hv]; rfl
  jvm_step X.here [X.here.top, hexec, hb, d, hmeth', hr, hn]
  (try refine ⟨rfl, ?_⟩); (try refine ⟨rfl, ?_⟩)
  first | (intro acts; rw [hret _ acts rfl rfl rfl]) | rw [hret _ _ rfl rfl rfl]
  exact Steps.refl _
theorem xr_bret {S : Type} {w : xW S} {K : xK} {M : xM} {x : S} {pc : Nat} {loc : List (Nat × Value)} {v u : Int32} (d : decode M.1 pc = .ok (.ireturn, 1)) (hr : M.2.2.2.2.2.1 = some .byte) (hv : v.toInt8.toInt32 = u) : xV w K M (xQ w K (some (.int u), x)) x pc loc [.int v] := by
  intro ok H locs cells slots ls hR hS hc hs hl
  refine W.widen hc hs ?_
  have hlocks := ok.2.2.2.2.2.1
  have hr := (ok.2.2.2.2.2.2.2.2.1.trans hr)
  have hexec := ok.1
  have hb := ok.2.1
  intro T hT X
  obtain ⟨fs, hret, hrun, hended, hW, hframe⟩ := X.leave (v := some (.int u)) (fun h => by rw [hr] at h; cases h)
  have hmeth' := X.method'
  refine ⟨T.setFrames fs, ?_, .returned (some (.int u)), hrun, hended, x_end hR hS _ hT, locs, ⟨⟨_, rfl⟩, hW, hframe⟩, hS.2.2⟩
  have hn : narrow .byte (.int v) = .int u := by rw [← hv]; rfl
  jvm_step X.here [X.here.top, hexec, hb, d, hmeth', hr, hn]
  (try refine ⟨rfl, ?_⟩); (try refine ⟨rfl, ?_⟩)
  first | (intro acts; rw [hret _ acts rfl rfl rfl]) | rw [hret _ _ rfl rfl rfl]
  exact Steps.refl _
