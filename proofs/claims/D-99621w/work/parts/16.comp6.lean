/-! rows: references that may be null, casts, statics -/
set_option maxRecDepth 100000
section XN
variable {S : Type} {w : xW S} {K : xK} {M : xM} {Q : State → Prop} {x : S} {pc : Nat} {loc : List (Nat × Value)} {st : List Value}
theorem xr_null (d : decode M.1 pc = .ok (.aconst_null, 1)) (k : xV w K M Q x (pc + 1) loc (va_rf none :: st)) : xV w K M Q x pc loc st := xV_of (fun ok _ _ _ _ _ _ h => lv_null ok.1 ok.2.1 d h) k
theorem xr_aloadq_n {n : Fin 4} {i : Nat} (j : Nat) {r : Option Nat} (d : decode M.1 pc = .ok (.aload_n n, 1)) (hi : (n : Nat) = i) (hl : loc[j]? = some (i, va_rf r)) (k : xV w K M Q x (pc + 1) loc (va_rf r :: st)) : xV w K M Q x pc loc st := by
  cases r with
  | none => exact xV_of (fun ok _ _ _ _ _ hh h => lv_aload_nN ok.1 ok.2.1 d hi (lv_at hh j hl) h) k
  | some a => exact xV_of (fun ok _ _ _ _ _ hh h => lv_aload_n ok.1 ok.2.1 d hi (lv_at hh j hl) h) k
theorem xr_aloadq {i : Nat} (j : Nat) {r : Option Nat} (d : decode M.1 pc = .ok (.aload i, 2)) (hl : loc[j]? = some (i, va_rf r)) (k : xV w K M Q x (pc + 2) loc (va_rf r :: st)) : xV w K M Q x pc loc st := by
  cases r with
  | none => exact xV_of (fun ok _ _ _ _ _ hh h => lv_aloadN ok.1 ok.2.1 d (lv_at hh j hl) h) k
  | some a => exact xV_of (fun ok _ _ _ _ _ hh h => lv_aload ok.1 ok.2.1 d (lv_at hh j hl) h) k
theorem xr_astoreq_n {n : Fin 4} {i : Nat} {r : Option Nat} {loc' : List (Nat × Value)} (d : decode M.1 pc = .ok (.astore_n n, 1)) (hi : (n : Nat) = i) (hn : i < M.2.1) (hl : x_st1 loc i (va_rf r) = loc') (k : xV w K M Q x (pc + 1) loc' st) : xV w K M Q x pc loc (va_rf r :: st) := by
  cases r with
  | none => exact fun ok H locs cells slots ls hR hS hc hs hh => lv_astore_nN ok.1 ok.2.1 d hi hh hn hl (fun ls' h' => k ok H locs cells slots ls' hR hS hc hs h')
  | some a => exact fun ok H locs cells slots ls hR hS hc hs hh => lv_astore_n ok.1 ok.2.1 d hi hh hn hl (fun ls' h' => k ok H locs cells slots ls' hR hS hc hs h')
theorem xr_ifnull {r : Option Nat} {off : Int} (tgt : Nat) (d : decode M.1 pc = .ok (.ifnull off, 3)) (ht : (pc : Int) + off = (tgt : Int)) (kt : r = none → xV w K M Q x tgt loc st) (kf : ¬ r = none → xV w K M Q x (pc + 3) loc st) : xV w K M Q x pc loc (va_rf r :: st) := by
  cases r with
  | none => exact xV_of (fun ok _ _ _ _ _ _ h => lv_ifnullN ok.1 ok.2.1 d ht h) (kt rfl)
  | some a => exact xV_of (fun ok _ _ _ _ _ _ h => lv_ifnull ok.1 ok.2.1 d h) (kf (by intro h; cases h))
theorem xr_ifnonnull {r : Option Nat} {off : Int} (tgt : Nat) (d : decode M.1 pc = .ok (.ifnonnull off, 3)) (ht : (pc : Int) + off = (tgt : Int)) (kf : r = none → xV w K M Q x (pc + 3) loc st) (kt : ¬ r = none → xV w K M Q x tgt loc st) : xV w K M Q x pc loc (va_rf r :: st) := by
  cases r with
  | none => exact xV_of (fun ok _ _ _ _ _ _ h => lv_ifnonnullN ok.1 ok.2.1 d h) (kf rfl)
  | some a => exact xV_of (fun ok _ _ _ _ _ _ h => lv_ifnonnull ok.1 ok.2.1 d ht h) (kt (by intro h; cases h))
theorem xr_lxor {a b : Int64} (d : decode M.1 pc = .ok (.lxor, 1)) (k : xV w K M Q x (pc + 1) loc (.long (a ^^^ b) :: st)) : xV w K M Q x pc loc (.long b :: .long a :: st) := xV_of (fun ok _ _ _ _ _ _ h => lv_lxor ok.1 ok.2.1 d h) k
/-- a reference that isn't null -/
theorem xr_some {r : Option Nat} {b : Nat} (h : r = some b) (k : xV w K M Q x pc loc (.ref b :: st)) : xV w K M Q x pc loc (va_rf r :: st) := by rw [h]; exact k
theorem xr_acmp_eq {a b : Nat} {off : Int} (tgt : Nat) (d : decode M.1 pc = .ok (.if_acmp .eq off, 3)) (ht : (pc : Int) + off = (tgt : Int)) (kt : a = b → xV w K M Q x tgt loc st) (kf : ¬ a = b → xV w K M Q x (pc + 3) loc st) : xV w K M Q x pc loc (.ref b :: .ref a :: st) :=
  fun ok H locs cells slots ls hR hS hc hs hl => lv_acmp_eq (rx := some a) (ry := some b) ok.1 ok.2.1 d ht (fun h => kt (Option.some.inj h) ok H locs cells slots ls hR hS hc hs hl) (fun h => kf (fun e => h (by rw [e])) ok H locs cells slots ls hR hS hc hs hl)
theorem xr_acmp_ne {a b : Nat} {off : Int} (tgt : Nat) (d : decode M.1 pc = .ok (.if_acmp .ne off, 3)) (ht : (pc : Int) + off = (tgt : Int)) (kf : a = b → xV w K M Q x (pc + 3) loc st) (kt : ¬ a = b → xV w K M Q x tgt loc st) : xV w K M Q x pc loc (.ref b :: .ref a :: st) :=
  fun ok H locs cells slots ls hR hS hc hs hl => lv_acmp_ne (rx := some a) (ry := some b) ok.1 ok.2.1 d ht (fun h => kt (fun e => h (by rw [e])) ok H locs cells slots ls hR hS hc hs hl) (fun h => kf (Option.some.inj h) ok H locs cells slots ls hR hS hc hs hl)
theorem xr_aret {a : Nat} {rt : FieldType} (d : decode M.1 pc = .ok (.areturn, 1)) (hr : M.2.2.2.2.2.1 = some rt) (hrt : (∃ n, rt = .object n) ∨ ∃ t, rt = .array t) : xV w K M (xQ w K (some (.ref a), x)) x pc loc [.ref a] := by
  intro ok H locs cells slots ls hR hS hc hs hl
  refine W.widen hc hs ?_
  exact W.aret ok.1 ok.2.1 (ok.2.2.2.2.2.2.2.2.1.trans hr) hrt (Or.inr ⟨a, rfl⟩) (fun t ht _ => x_end hR hS t ht) hS.2.2 d (hlocks := ok.2.2.2.2.2.1)
end XN
section YN
variable {D : CD} {P : CP} {K : xK} {M : xM} {Q : State → Prop} {g : CG} {c : CC} {pc : Nat} {loc : List (Nat × Value)} {st : List Value}
theorem yc_chk {a : Nat} {own nm : String} {index : Nat} (t : Nat) (ht : gK g a = t) (h0 : 0 < t) (h1 : t < 22) (ql : Cond.classLink own index nm ∈ lw_all) (qc : Cond.castable (kC t) nm ∈ lw_tbl) (ho : M.2.2.1 = own) (d : decode M.1 pc = .ok (.checkcast index, 3))
    (kk : xV (wC D P) K M Q (g, c) (pc + 3) loc (.ref a :: st)) : xV (wC D P) K M Q (g, c) pc loc (.ref a :: st) := by
  intro ok H locs cells slots ls hR hS hcc hs hl
  subst ho
  exact va_castY ok.1 ok.2.1 ok.2.2.2.1 (ok.2.2.2.2.1 _ ql) (ok.2.2.2.2.2.2.2.2.2.1.2.2.2.1 _ qc rfl) (yc_recv ht h0 h1 H hR ok.2.2.2.2.2.2.2.2.2.1) d (kk ok H locs cells slots ls hR hS hcc hs hl)
theorem yc_chkS {a : Nat} {own nm : String} {index : Nat} (t : Nat) (ht : gK g a = t) (h0 : 0 < t) (h1 : t < 22) (ql : Cond.classLink own index nm ∈ lw_all) (hn : kC t = nm) (ho : M.2.2.1 = own) (d : decode M.1 pc = .ok (.checkcast index, 3))
    (kk : xV (wC D P) K M Q (g, c) (pc + 3) loc (.ref a :: st)) : xV (wC D P) K M Q (g, c) pc loc (.ref a :: st) := by
  intro ok H locs cells slots ls hR hS hcc hs hl
  subst ho; subst hn
  exact va_castS ok.1 ok.2.1 ok.2.2.2.1 (ok.2.2.2.2.1 _ ql) (ok.2.2.2.2.2.2.2.2.2.1.1 t h0 h1).2 (yc_recv ht h0 h1 H hR ok.2.2.2.2.2.2.2.2.2.1) d (kk ok H locs cells slots ls hR hS hcc hs hl)
theorem yc_gets0 {own ref : String} {index : Nat} (k : Nat) (hk : k < stN) (q : Cond.fieldLink own index ref (stt k).2.1 (stt k).2.2 ∈ lw_all) (hs9 : (stt k).1 = ref) (ho : M.2.2.1 = own) (d : decode M.1 pc = .ok (.getstatic index, 3))
    (kk : xV (wC D P) K M Q (g, c) (pc + 3) loc (D.2.2.2.1 k :: st)) : xV (wC D P) K M Q (g, c) pc loc st := by
  intro ok H locs cells slots ls hR hS hcc hs hl
  subst ho; subst hs9
  obtain ⟨cf, kf, fi, f, cell, e1, e2, e3, e4, e5, e6, e7, e8⟩ := ok.2.2.2.2.2.2.2.2.2.1.2.2.2.2.1 k hk
  have hR' : RelC D P (g, c) H := hR
  have h9 := hR'.2.2.2.2.1 _ e5
  exact W.gets ok.1 ok.2.1 ok.2.2.2.1 (ok.2.2.2.2.1 _ q) e1 e2 e3 e4 (h9.trans e6) (fun h => by rw [h] at e7; cases e7) e8 rfl d (kk ok H locs cells slots ls hR hS hcc hs hl)
theorem yc_gets {own ref : String} {index : Nat} (k : Nat) (hk : k < stN) (h8 : k ≠ 8) (q : Cond.fieldLink own index ref (stt k).2.1 (stt k).2.2 ∈ lw_all) (hs9 : (stt k).1 = ref) (ho : M.2.2.1 = own) (d : decode M.1 pc = .ok (.getstatic index, 3))
    (kk : xV (wC D P) K M Q (g, c) (pc + 3) loc (.ref (gA g 0 k) :: st)) : xV (wC D P) K M Q (g, c) pc loc st := by
  refine yc_gets0 k hk q hs9 ho d ?_
  intro ok H locs cells slots ls hR hS hcc hs hl
  have hR' : RelC D P (g, c) H := hR
  rw [hR'.2.2.2.1.2.2.1 k hk h8]
  exact kk ok H locs cells slots ls hR hS hcc hs hl
theorem yc_gets8 {own ref : String} {index : Nat} (q : Cond.fieldLink own index ref (stt 8).2.1 (stt 8).2.2 ∈ lw_all) (hs9 : (stt 8).1 = ref) (ho : M.2.2.1 = own) (d : decode M.1 pc = .ok (.getstatic index, 3))
    (kk : xV (wC D P) K M Q (g, c) (pc + 3) loc (.int 1 :: st)) : xV (wC D P) K M Q (g, c) pc loc st := by
  refine yc_gets0 8 (by decide) q hs9 ho d ?_
  intro ok H locs cells slots ls hR hS hcc hs hl
  rw [ok.2.2.2.2.2.2.2.2.2.1.2.2.2.2.2.2.2.1.1]
  exact kk ok H locs cells slots ls hR hS hcc hs hl
theorem yc_ldcS {own tx : String} {index : Nat} (i : Nat) (hi : i < txN) (ht : txO i = (own, index, tx)) (ho : M.2.2.1 = own) (d : decode M.1 pc = .ok (.ldc index, 2))
    (kk : xV (wC D P) K M Q (g, c) (pc + 2) loc (.ref (gA g 0 (100 + i)) :: st)) : xV (wC D P) K M Q (g, c) pc loc st := by
  intro ok H locs cells slots ls hR hS hcc hs hl
  subst ho
  have hR' : RelC D P (g, c) H := hR
  have hk := ok.2.2.2.2.2.2.2.2.2.1.2.2.2.2.2.2.1 i hi
  rw [ht, hR'.2.2.2.1.2.2.2 i hi] at hk
  exact va_ldcS ok.1 ok.2.1 ok.2.2.2.1 hk d (kk ok H locs cells slots ls hR hS hcc hs hl)
end YN
