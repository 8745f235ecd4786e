/-! rows over the component world: puts, arrays -/
set_option maxRecDepth 100000
theorem up2_ne {α : Type} {f : Nat → Nat → α} {k a j b : Nat} {v : α} (h : ¬ (j = k ∧ b = a)) : up2 f k a v j b = f j b := by simp only [up2, if_neg h]
theorem up2_eq {α : Type} {f : Nat → Nat → α} {k a : Nat} {v : α} : up2 f k a v k a = v := by simp [up2]
section YP
variable {D : CD} {P : CP} {K : xK} {M : xM} {Q : State → Prop} {g : CG} {c : CC} {pc : Nat} {loc : List (Nat × Value)} {st : List Value}
theorem yc_put {a : Nat} {own ref : String} {index : Nat} (t k : Nat) {g' : CG} {c' : CC} (ht : gT g a = t) (h0 : 0 < t) (h1 : t < 22) (hk : k < kN t) (hfin : (kT t k).2.2.2 = false) (q : Cond.fieldLink own index ref (kT t k).2.1 (kT t k).2.2.1 ∈ lw_all) (hs : ∀ (args : Array Value) (s : State), (∀ w ∈ lw_all, w.before args s = true) → ∀ y, s.fieldFound? (kT t k).1 (kT t k).2.1 (kT t k).2.2.1 = some y → s.fieldFound? ref (kT t k).2.1 (kT t k).2.2.1 = some y)
    {ty : FieldType} {v : Value} (hty : parseFieldDescriptor (kT t k).2.2.1 = some ty) (hn : narrow ty v = v) (hf : fits ty v = true)
    (hT : g'.1 = g.1) (hz : g'.2.2.2 = g.2.2.2) (hv : ∀ j, j < kN t → updV (fun j => cV (g, c) t j a) k v j = cV (g', c') t j a) (hV : ∀ b, b ≠ a → ∀ t j, cV (g', c') t j b = cV (g, c) t j b) (hAr : ∀ b, ∀ t, cAr (g', c') t b = cAr (g, c) t b)
    (ho : M.2.2.1 = own) (d : decode M.1 pc = .ok (.putfield index, 3)) (kk : xV (wC D P) K M Q (g', c') (pc + 3) loc st) : xV (wC D P) K M Q (g, c) pc loc (v :: .ref a :: st) := by
  refine yc_put0 t k ht h0 h1 hk hs hty hn hf hT hz hv hV hAr (fun ok H locs cells slots ls cell cf kf fi f hown hi hi' hst hc hvm hlt hnf hcls hkk kk' => ?_) ho kk
  obtain ⟨kC', hfc, hkC, hkind⟩ := hkk
  have hlay := ok.2.2.2.2.1 _ (kIn t h0 h1 _ (u_in_lay hk))
  unfold u_lay at hlay
  rw [if_neg (by rw [hfin]; decide)] at hlay
  have h6 := u_store hfc hkC hkind hlay hi hty hn hf
  exact W.putK ok.1 ok.2.1 (f := f) ⟨hown, ok.2.2.2.2.1 _ q, ⟨_, _, _, hi'⟩, hst⟩ (by rw [hcls]; exact h6) hc hvm hlt rfl rfl d kk'
theorem yc_putN {a : Nat} {own ref host : String} {index : Nat} (t k : Nat) {g' : CG} {c' : CC} (ht : gT g a = t) (h0 : 0 < t) (h1 : t < 22) (hk : k < kN t) (hfin : (kT t k).2.2.2 = false) (q : Cond.fieldLinkNest own index ref (kT t k).2.1 (kT t k).2.2.1 host ∈ lw_tbl) (hs : ∀ (args : Array Value) (s : State), (∀ w ∈ lw_all, w.before args s = true) → ∀ y, s.fieldFound? (kT t k).1 (kT t k).2.1 (kT t k).2.2.1 = some y → s.fieldFound? ref (kT t k).2.1 (kT t k).2.2.1 = some y)
    {ty : FieldType} {v : Value} (hty : parseFieldDescriptor (kT t k).2.2.1 = some ty) (hn : narrow ty v = v) (hf : fits ty v = true)
    (hT : g'.1 = g.1) (hz : g'.2.2.2 = g.2.2.2) (hv : ∀ j, j < kN t → updV (fun j => cV (g, c) t j a) k v j = cV (g', c') t j a) (hV : ∀ b, b ≠ a → ∀ t j, cV (g', c') t j b = cV (g, c) t j b) (hAr : ∀ b, ∀ t, cAr (g', c') t b = cAr (g, c) t b)
    (ho : M.2.2.1 = own) (d : decode M.1 pc = .ok (.putfield index, 3)) (kk : xV (wC D P) K M Q (g', c') (pc + 3) loc st) : xV (wC D P) K M Q (g, c) pc loc (v :: .ref a :: st) := by
  refine yc_put0 t k ht h0 h1 hk hs hty hn hf hT hz hv hV hAr (fun ok H locs cells slots ls cell cf kf fi f hown hi hi' hst hc hvm hlt hnf hcls hkk kk' => ?_) ho kk
  obtain ⟨kC', hfc, hkC, hkind⟩ := hkk
  have hlay := ok.2.2.2.2.1 _ (kIn t h0 h1 _ (u_in_lay hk))
  unfold u_lay at hlay
  rw [if_neg (by rw [hfin]; decide)] at hlay
  have h6 := u_store hfc hkC hkind hlay hi hty hn hf
  exact va_WputK ok.1 ok.2.1 (f := f) hown (va_Nw.use rfl (ok.2.2.2.2.2.2.2.2.2.1.2.2.2.1 _ q rfl)) hi' hst (by rw [hcls]; exact h6) hc hvm hlt rfl rfl d kk'
/-- a final field, in a constructor of its own class -/
theorem yc_putF {a : Nat} {own : String} {index : Nat} (t k : Nat) {g' : CG} {c' : CC} (ht : gT g a = t) (h0 : 0 < t) (h1 : t < 22) (hk : k < kN t) (hfin : (kT t k).2.2.2 = true) (q : Cond.fieldLink own index own (kT t k).2.1 (kT t k).2.2.1 ∈ lw_all) (hs : (kT t k).1 = own)
    {ty : FieldType} {v : Value} (hty : parseFieldDescriptor (kT t k).2.2.1 = some ty) (hn : narrow ty v = v) (hf : fits ty v = true)
    (hT : g'.1 = g.1) (hz : g'.2.2.2 = g.2.2.2) (hv : ∀ j, j < kN t → updV (fun j => cV (g, c) t j a) k v j = cV (g', c') t j a) (hV : ∀ b, b ≠ a → ∀ t j, cV (g', c') t j b = cV (g, c) t j b) (hAr : ∀ b, ∀ t, cAr (g', c') t b = cAr (g, c) t b)
    (ho : M.2.2.1 = own) (hnm : M.2.2.2.2.2.2 = "<init>") (d : decode M.1 pc = .ok (.putfield index, 3)) (kk : xV (wC D P) K M Q (g', c') (pc + 3) loc st) : xV (wC D P) K M Q (g, c) pc loc (v :: .ref a :: st) := by
  refine yc_put0 t k ht h0 h1 hk (ys_eq hs) hty hn hf hT hz hv hV hAr (fun ok H locs cells slots ls cell cf kf fi f hown hi hi' hst hc hvm hlt hnf hcls hkk kk' => ?_) ho kk
  obtain ⟨kC', hfc, hkC, hkind⟩ := hkk
  have hlay := ok.2.2.2.2.1 _ (kIn t h0 h1 _ (u_in_lay hk))
  unfold u_lay at hlay
  rw [if_pos hfin] at hlay
  have hcf : (xKm K).cls = cf := by
    obtain ⟨_, _, c', _, _, _, -, -, hf', -, -, -, hown2, -⟩ := Cond.laysFinal_spec hlay
    have e1 : c' = cf := by have := hi.symm.trans hf'; simp at this; exact this.1.symm
    rw [hs] at hown2
    rw [← e1]; exact Option.some.inj (hown.symm.trans hown2)
  exact W.putFinK ok.1 ok.2.1 hown (ok.2.2.2.2.1 _ q) hi' hst hcf (ok.2.2.2.2.2.2.2.2.2.2.2.2.trans hnm) (by rw [hcls]; exact hnf) hc hvm hlt rfl rfl d kk'
theorem cV_uI {t k a G : Nat} {u : Int32} (hG : 100 * t + k = G) (hf : fk t k = 0) (hk : k < kN t) : ∀ j, j < kN t → updV (fun j => cV (g, c) t j a) k (.int u) j = cV (g, uI c G a u) t j a := by
  intro j _
  subst hG
  unfold updV
  by_cases hj : j = k
  · subst hj
    rw [if_pos rfl, cV_I hf]
    show _ = Value.int (up2 _ _ _ _ _ _)
    rw [up2_eq]
  · rw [if_neg hj]
    unfold cV
    rw [show cI (g, uI c (100 * t + k) a u).2 (100 * t + j) a = cI c (100 * t + j) a from up2_ne (fun h => hj (by omega))]
    rfl
theorem cV_uI' {a G : Nat} {u : Int32} : ∀ b, b ≠ a → ∀ t j, cV (g, uI c G a u) t j b = cV (g, c) t j b := by
  intro b hb t j
  unfold cV
  rw [show cI (g, uI c G a u).2 (100 * t + j) b = cI c (100 * t + j) b from up2_ne (fun h => hb h.2)]
  rfl
theorem cV_uL {t k a G : Nat} {u : Int64} (hG : 100 * t + k = G) (hf : fk t k = 1) (hk : k < kN t) : ∀ j, j < kN t → updV (fun j => cV (g, c) t j a) k (.long u) j = cV (g, uL c G a u) t j a := by
  intro j _
  subst hG
  unfold updV
  by_cases hj : j = k
  · subst hj
    rw [if_pos rfl, cV_L hf]
    show _ = Value.long (up2 _ _ _ _ _ _)
    rw [up2_eq]
  · rw [if_neg hj]
    unfold cV
    rw [show cL (g, uL c (100 * t + k) a u).2 (100 * t + j) a = cL c (100 * t + j) a from up2_ne (fun h => hj (by omega))]
    rfl
theorem cV_uL' {a G : Nat} {u : Int64} : ∀ b, b ≠ a → ∀ t j, cV (g, uL c G a u) t j b = cV (g, c) t j b := by
  intro b hb t j
  unfold cV
  rw [show cL (g, uL c G a u).2 (100 * t + j) b = cL c (100 * t + j) b from up2_ne (fun h => hb h.2)]
  rfl
theorem cV_uR {t k a G : Nat} {u : Option Nat} (hG : 100 * t + k = G) (hf : fk t k = 2) (hk : k < kN t) : ∀ j, j < kN t → updV (fun j => cV (g, c) t j a) k (va_rf u) j = cV (g, uR c G a u) t j a := by
  intro j _
  subst hG
  unfold updV
  by_cases hj : j = k
  · subst hj
    rw [if_pos rfl, cV_R hf]
    show _ = va_rf (up2 _ _ _ _ _ _)
    rw [up2_eq]
  · rw [if_neg hj]
    unfold cV
    rw [show cR (g, uR c (100 * t + k) a u).2 (100 * t + j) a = cR c (100 * t + j) a from up2_ne (fun h => hj (by omega))]
    rfl
theorem cV_uR' {a G : Nat} {u : Option Nat} : ∀ b, b ≠ a → ∀ t j, cV (g, uR c G a u) t j b = cV (g, c) t j b := by
  intro b hb t j
  unfold cV
  rw [show cR (g, uR c G a u).2 (100 * t + j) b = cR c (100 * t + j) b from up2_ne (fun h => hb h.2)]
  rfl
theorem cV_vR {t k a G : Nat} {u : Option Nat} (hG : 100 * t + k = G) (hf : fk t k = 3) (hk : k < kN t) : ∀ j, j < kN t → updV (fun j => cV (g, c) t j a) k (va_rf u) j = cV (vR g G a u, c) t j a := by
  intro j _
  subst hG
  unfold updV
  by_cases hj : j = k
  · subst hj
    rw [if_pos rfl, cV_F hf]
    show _ = va_rf (up2 _ _ _ _ _ _)
    rw [up2_eq]
  · rw [if_neg hj]
    unfold cV
    rw [show gR (vR g (100 * t + k) a u, c).1 (100 * t + j) a = gR g (100 * t + j) a from up2_ne (fun h => hj (by omega))]
theorem cV_vR' {a G : Nat} {u : Option Nat} : ∀ b, b ≠ a → ∀ t j, cV (vR g G a u, c) t j b = cV (g, c) t j b := by
  intro b hb t j
  unfold cV
  rw [show gR (vR g G a u, c).1 (100 * t + j) b = gR g (100 * t + j) b from up2_ne (fun h => hb h.2)]
theorem rf_n {ty : FieldType} {u : Option Nat} (h : ty.isReference = true) : narrow ty (va_rf u) = va_rf u ∧ fits ty (va_rf u) = true := by
  cases ty <;> first | (cases u <;> exact ⟨rfl, rfl⟩) | cases h
end YP
