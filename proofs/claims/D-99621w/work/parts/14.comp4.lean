/-! rows over the component world: typed -/
set_option maxRecDepth 100000
section YT
variable {D : CD} {P : CP} {K : xK} {M : xM} {Q : State → Prop} {g : CG} {c : CC} {pc : Nat} {loc : List (Nat × Value)} {st : List Value}
theorem yc_getI {a : Nat} {own ref : String} {index : Nat} (t k G : Nat) (ht : gK g a = t) (h0 : 0 < t) (h1 : t < 22) (hk : k < kN t) (hf : fk t k = 0) (hG : 100 * t + k = G)  (q : Cond.fieldLink own index ref (kT t k).2.1 (kT t k).2.2.1 ∈ lw_all) (hs : ∀ (args : Array Value) (s : State), (∀ w ∈ lw_all, w.before args s = true) → ∀ y, s.fieldFound? (kT t k).1 (kT t k).2.1 (kT t k).2.2.1 = some y → s.fieldFound? ref (kT t k).2.1 (kT t k).2.2.1 = some y) (ho : M.2.2.1 = own) (d : decode M.1 pc = .ok (.getfield index, 3))
    (kk : xV (wC D P) K M Q (g, c) (pc + 3) loc (.int (cI c G a) :: st)) : xV (wC D P) K M Q (g, c) pc loc (.ref a :: st) :=
  yc_get t k ht h0 h1 hk q hs ho d (by subst hG; rw [cV_I hf]; exact kk)
theorem yc_getL {a : Nat} {own ref : String} {index : Nat} (t k G : Nat) (ht : gK g a = t) (h0 : 0 < t) (h1 : t < 22) (hk : k < kN t) (hf : fk t k = 1) (hG : 100 * t + k = G)  (q : Cond.fieldLink own index ref (kT t k).2.1 (kT t k).2.2.1 ∈ lw_all) (hs : ∀ (args : Array Value) (s : State), (∀ w ∈ lw_all, w.before args s = true) → ∀ y, s.fieldFound? (kT t k).1 (kT t k).2.1 (kT t k).2.2.1 = some y → s.fieldFound? ref (kT t k).2.1 (kT t k).2.2.1 = some y) (ho : M.2.2.1 = own) (d : decode M.1 pc = .ok (.getfield index, 3))
    (kk : xV (wC D P) K M Q (g, c) (pc + 3) loc (.long (cL c G a) :: st)) : xV (wC D P) K M Q (g, c) pc loc (.ref a :: st) :=
  yc_get t k ht h0 h1 hk q hs ho d (by subst hG; rw [cV_L hf]; exact kk)
theorem yc_getR {a : Nat} {own ref : String} {index : Nat} (t k G : Nat) (ht : gK g a = t) (h0 : 0 < t) (h1 : t < 22) (hk : k < kN t) (hf : fk t k = 2) (hG : 100 * t + k = G)  (q : Cond.fieldLink own index ref (kT t k).2.1 (kT t k).2.2.1 ∈ lw_all) (hs : ∀ (args : Array Value) (s : State), (∀ w ∈ lw_all, w.before args s = true) → ∀ y, s.fieldFound? (kT t k).1 (kT t k).2.1 (kT t k).2.2.1 = some y → s.fieldFound? ref (kT t k).2.1 (kT t k).2.2.1 = some y) (ho : M.2.2.1 = own) (d : decode M.1 pc = .ok (.getfield index, 3))
    (kk : xV (wC D P) K M Q (g, c) (pc + 3) loc (va_rf (cR c G a) :: st)) : xV (wC D P) K M Q (g, c) pc loc (.ref a :: st) :=
  yc_get t k ht h0 h1 hk q hs ho d (by subst hG; rw [cV_R hf]; exact kk)
theorem yc_getF {a : Nat} {own ref : String} {index : Nat} (t k G : Nat) (ht : gK g a = t) (h0 : 0 < t) (h1 : t < 22) (hk : k < kN t) (hf : fk t k = 3) (hG : 100 * t + k = G)  (q : Cond.fieldLink own index ref (kT t k).2.1 (kT t k).2.2.1 ∈ lw_all) (hs : ∀ (args : Array Value) (s : State), (∀ w ∈ lw_all, w.before args s = true) → ∀ y, s.fieldFound? (kT t k).1 (kT t k).2.1 (kT t k).2.2.1 = some y → s.fieldFound? ref (kT t k).2.1 (kT t k).2.2.1 = some y) (ho : M.2.2.1 = own) (d : decode M.1 pc = .ok (.getfield index, 3))
    (kk : xV (wC D P) K M Q (g, c) (pc + 3) loc (va_rf (gR g G a) :: st)) : xV (wC D P) K M Q (g, c) pc loc (.ref a :: st) :=
  yc_get t k ht h0 h1 hk q hs ho d (by subst hG; rw [cV_F hf]; exact kk)
theorem yc_getRs {a : Nat} {own ref : String} {index : Nat} {b : Nat} (t k G : Nat) (ht : gK g a = t) (h0 : 0 < t) (h1 : t < 22) (hk : k < kN t) (hf : fk t k = 2) (hG : 100 * t + k = G) (hb : cR c G a = some b) (q : Cond.fieldLink own index ref (kT t k).2.1 (kT t k).2.2.1 ∈ lw_all) (hs : ∀ (args : Array Value) (s : State), (∀ w ∈ lw_all, w.before args s = true) → ∀ y, s.fieldFound? (kT t k).1 (kT t k).2.1 (kT t k).2.2.1 = some y → s.fieldFound? ref (kT t k).2.1 (kT t k).2.2.1 = some y) (ho : M.2.2.1 = own) (d : decode M.1 pc = .ok (.getfield index, 3))
    (kk : xV (wC D P) K M Q (g, c) (pc + 3) loc (.ref b :: st)) : xV (wC D P) K M Q (g, c) pc loc (.ref a :: st) :=
  yc_getR t k G ht h0 h1 hk hf hG q hs ho d (by rw [hb]; exact kk)
theorem yc_getFs {a : Nat} {own ref : String} {index : Nat} {b : Nat} (t k G : Nat) (ht : gK g a = t) (h0 : 0 < t) (h1 : t < 22) (hk : k < kN t) (hf : fk t k = 3) (hG : 100 * t + k = G) (hb : gR g G a = some b) (q : Cond.fieldLink own index ref (kT t k).2.1 (kT t k).2.2.1 ∈ lw_all) (hs : ∀ (args : Array Value) (s : State), (∀ w ∈ lw_all, w.before args s = true) → ∀ y, s.fieldFound? (kT t k).1 (kT t k).2.1 (kT t k).2.2.1 = some y → s.fieldFound? ref (kT t k).2.1 (kT t k).2.2.1 = some y) (ho : M.2.2.1 = own) (d : decode M.1 pc = .ok (.getfield index, 3))
    (kk : xV (wC D P) K M Q (g, c) (pc + 3) loc (.ref b :: st)) : xV (wC D P) K M Q (g, c) pc loc (.ref a :: st) :=
  yc_getF t k G ht h0 h1 hk hf hG q hs ho d (by rw [hb]; exact kk)
theorem yc_putI {a : Nat} {own ref : String} {index : Nat} {u : Int32} (t k G : Nat) (ht : gT g a = t) (h0 : 0 < t) (h1 : t < 22) (hk : k < kN t) (hfin : (kT t k).2.2.2 = false) (hf : fk t k = 0) (hG : 100 * t + k = G) {ty : FieldType} (hty : parseFieldDescriptor (kT t k).2.2.1 = some ty) (hn : narrow ty (.int u) = .int u) (hft : fits ty (.int u) = true) (q : Cond.fieldLink own index ref (kT t k).2.1 (kT t k).2.2.1 ∈ lw_all) (hs : ∀ (args : Array Value) (s : State), (∀ w ∈ lw_all, w.before args s = true) → ∀ y, s.fieldFound? (kT t k).1 (kT t k).2.1 (kT t k).2.2.1 = some y → s.fieldFound? ref (kT t k).2.1 (kT t k).2.2.1 = some y) (ho : M.2.2.1 = own) (d : decode M.1 pc = .ok (.putfield index, 3))
    (kk : xV (wC D P) K M Q (g, uI c G a u) (pc + 3) loc st) : xV (wC D P) K M Q (g, c) pc loc (.int u :: .ref a :: st) :=
  yc_put t k ht h0 h1 hk hfin q hs hty hn hft rfl rfl (cV_uI hG hf hk) cV_uI' (fun _ _ => rfl) ho d kk
theorem yc_putL {a : Nat} {own ref : String} {index : Nat} {u : Int64} (t k G : Nat) (ht : gT g a = t) (h0 : 0 < t) (h1 : t < 22) (hk : k < kN t) (hfin : (kT t k).2.2.2 = false) (hf : fk t k = 1) (hG : 100 * t + k = G) (hty : parseFieldDescriptor (kT t k).2.2.1 = some .long) (q : Cond.fieldLink own index ref (kT t k).2.1 (kT t k).2.2.1 ∈ lw_all) (hs : ∀ (args : Array Value) (s : State), (∀ w ∈ lw_all, w.before args s = true) → ∀ y, s.fieldFound? (kT t k).1 (kT t k).2.1 (kT t k).2.2.1 = some y → s.fieldFound? ref (kT t k).2.1 (kT t k).2.2.1 = some y) (ho : M.2.2.1 = own) (d : decode M.1 pc = .ok (.putfield index, 3))
    (kk : xV (wC D P) K M Q (g, uL c G a u) (pc + 3) loc st) : xV (wC D P) K M Q (g, c) pc loc (.long u :: .ref a :: st) :=
  yc_put t k ht h0 h1 hk hfin q hs hty rfl rfl rfl rfl (cV_uL hG hf hk) cV_uL' (fun _ _ => rfl) ho d kk
theorem yc_putR {a : Nat} {own ref : String} {index : Nat} {u : Option Nat} (t k G : Nat) (ht : gT g a = t) (h0 : 0 < t) (h1 : t < 22) (hk : k < kN t) (hfin : (kT t k).2.2.2 = false) (hf : fk t k = 2) (hG : 100 * t + k = G) {ty : FieldType} (hty : parseFieldDescriptor (kT t k).2.2.1 = some ty) (hr : ty.isReference = true) (q : Cond.fieldLink own index ref (kT t k).2.1 (kT t k).2.2.1 ∈ lw_all) (hs : ∀ (args : Array Value) (s : State), (∀ w ∈ lw_all, w.before args s = true) → ∀ y, s.fieldFound? (kT t k).1 (kT t k).2.1 (kT t k).2.2.1 = some y → s.fieldFound? ref (kT t k).2.1 (kT t k).2.2.1 = some y) (ho : M.2.2.1 = own) (d : decode M.1 pc = .ok (.putfield index, 3))
    (kk : xV (wC D P) K M Q (g, uR c G a u) (pc + 3) loc st) : xV (wC D P) K M Q (g, c) pc loc (va_rf u :: .ref a :: st) :=
  yc_put t k ht h0 h1 hk hfin q hs hty (rf_n hr).1 (rf_n hr).2 rfl rfl (cV_uR hG hf hk) cV_uR' (fun _ _ => rfl) ho d kk
theorem yc_putRs {a : Nat} {own ref : String} {index : Nat} {u : Nat} (t k G : Nat) (ht : gT g a = t) (h0 : 0 < t) (h1 : t < 22) (hk : k < kN t) (hfin : (kT t k).2.2.2 = false) (hf : fk t k = 2) (hG : 100 * t + k = G) {ty : FieldType} (hty : parseFieldDescriptor (kT t k).2.2.1 = some ty) (hr : ty.isReference = true) (q : Cond.fieldLink own index ref (kT t k).2.1 (kT t k).2.2.1 ∈ lw_all) (hs : ∀ (args : Array Value) (s : State), (∀ w ∈ lw_all, w.before args s = true) → ∀ y, s.fieldFound? (kT t k).1 (kT t k).2.1 (kT t k).2.2.1 = some y → s.fieldFound? ref (kT t k).2.1 (kT t k).2.2.1 = some y) (ho : M.2.2.1 = own) (d : decode M.1 pc = .ok (.putfield index, 3))
    (kk : xV (wC D P) K M Q (g, uR c G a (some u)) (pc + 3) loc st) : xV (wC D P) K M Q (g, c) pc loc (.ref u :: .ref a :: st) :=
  yc_putR (u := some u) t k G ht h0 h1 hk hfin hf hG hty hr q hs ho d kk
theorem yc_getIN {a : Nat} {own ref host : String} {index : Nat} (t k G : Nat) (ht : gK g a = t) (h0 : 0 < t) (h1 : t < 22) (hk : k < kN t) (hf : fk t k = 0) (hG : 100 * t + k = G)  (q : Cond.fieldLinkNest own index ref (kT t k).2.1 (kT t k).2.2.1 host ∈ lw_tbl) (hs : ∀ (args : Array Value) (s : State), (∀ w ∈ lw_all, w.before args s = true) → ∀ y, s.fieldFound? (kT t k).1 (kT t k).2.1 (kT t k).2.2.1 = some y → s.fieldFound? ref (kT t k).2.1 (kT t k).2.2.1 = some y) (ho : M.2.2.1 = own) (d : decode M.1 pc = .ok (.getfield index, 3))
    (kk : xV (wC D P) K M Q (g, c) (pc + 3) loc (.int (cI c G a) :: st)) : xV (wC D P) K M Q (g, c) pc loc (.ref a :: st) :=
  yc_getN t k ht h0 h1 hk q hs ho d (by subst hG; rw [cV_I hf]; exact kk)
theorem yc_getLN {a : Nat} {own ref host : String} {index : Nat} (t k G : Nat) (ht : gK g a = t) (h0 : 0 < t) (h1 : t < 22) (hk : k < kN t) (hf : fk t k = 1) (hG : 100 * t + k = G)  (q : Cond.fieldLinkNest own index ref (kT t k).2.1 (kT t k).2.2.1 host ∈ lw_tbl) (hs : ∀ (args : Array Value) (s : State), (∀ w ∈ lw_all, w.before args s = true) → ∀ y, s.fieldFound? (kT t k).1 (kT t k).2.1 (kT t k).2.2.1 = some y → s.fieldFound? ref (kT t k).2.1 (kT t k).2.2.1 = some y) (ho : M.2.2.1 = own) (d : decode M.1 pc = .ok (.getfield index, 3))
    (kk : xV (wC D P) K M Q (g, c) (pc + 3) loc (.long (cL c G a) :: st)) : xV (wC D P) K M Q (g, c) pc loc (.ref a :: st) :=
  yc_getN t k ht h0 h1 hk q hs ho d (by subst hG; rw [cV_L hf]; exact kk)
theorem yc_getRN {a : Nat} {own ref host : String} {index : Nat} (t k G : Nat) (ht : gK g a = t) (h0 : 0 < t) (h1 : t < 22) (hk : k < kN t) (hf : fk t k = 2) (hG : 100 * t + k = G)  (q : Cond.fieldLinkNest own index ref (kT t k).2.1 (kT t k).2.2.1 host ∈ lw_tbl) (hs : ∀ (args : Array Value) (s : State), (∀ w ∈ lw_all, w.before args s = true) → ∀ y, s.fieldFound? (kT t k).1 (kT t k).2.1 (kT t k).2.2.1 = some y → s.fieldFound? ref (kT t k).2.1 (kT t k).2.2.1 = some y) (ho : M.2.2.1 = own) (d : decode M.1 pc = .ok (.getfield index, 3))
    (kk : xV (wC D P) K M Q (g, c) (pc + 3) loc (va_rf (cR c G a) :: st)) : xV (wC D P) K M Q (g, c) pc loc (.ref a :: st) :=
  yc_getN t k ht h0 h1 hk q hs ho d (by subst hG; rw [cV_R hf]; exact kk)
theorem yc_getFN {a : Nat} {own ref host : String} {index : Nat} (t k G : Nat) (ht : gK g a = t) (h0 : 0 < t) (h1 : t < 22) (hk : k < kN t) (hf : fk t k = 3) (hG : 100 * t + k = G)  (q : Cond.fieldLinkNest own index ref (kT t k).2.1 (kT t k).2.2.1 host ∈ lw_tbl) (hs : ∀ (args : Array Value) (s : State), (∀ w ∈ lw_all, w.before args s = true) → ∀ y, s.fieldFound? (kT t k).1 (kT t k).2.1 (kT t k).2.2.1 = some y → s.fieldFound? ref (kT t k).2.1 (kT t k).2.2.1 = some y) (ho : M.2.2.1 = own) (d : decode M.1 pc = .ok (.getfield index, 3))
    (kk : xV (wC D P) K M Q (g, c) (pc + 3) loc (va_rf (gR g G a) :: st)) : xV (wC D P) K M Q (g, c) pc loc (.ref a :: st) :=
  yc_getN t k ht h0 h1 hk q hs ho d (by subst hG; rw [cV_F hf]; exact kk)
theorem yc_getRsN {a : Nat} {own ref host : String} {index : Nat} {b : Nat} (t k G : Nat) (ht : gK g a = t) (h0 : 0 < t) (h1 : t < 22) (hk : k < kN t) (hf : fk t k = 2) (hG : 100 * t + k = G) (hb : cR c G a = some b) (q : Cond.fieldLinkNest own index ref (kT t k).2.1 (kT t k).2.2.1 host ∈ lw_tbl) (hs : ∀ (args : Array Value) (s : State), (∀ w ∈ lw_all, w.before args s = true) → ∀ y, s.fieldFound? (kT t k).1 (kT t k).2.1 (kT t k).2.2.1 = some y → s.fieldFound? ref (kT t k).2.1 (kT t k).2.2.1 = some y) (ho : M.2.2.1 = own) (d : decode M.1 pc = .ok (.getfield index, 3))
    (kk : xV (wC D P) K M Q (g, c) (pc + 3) loc (.ref b :: st)) : xV (wC D P) K M Q (g, c) pc loc (.ref a :: st) :=
  yc_getRN t k G ht h0 h1 hk hf hG q hs ho d (by rw [hb]; exact kk)
theorem yc_getFsN {a : Nat} {own ref host : String} {index : Nat} {b : Nat} (t k G : Nat) (ht : gK g a = t) (h0 : 0 < t) (h1 : t < 22) (hk : k < kN t) (hf : fk t k = 3) (hG : 100 * t + k = G) (hb : gR g G a = some b) (q : Cond.fieldLinkNest own index ref (kT t k).2.1 (kT t k).2.2.1 host ∈ lw_tbl) (hs : ∀ (args : Array Value) (s : State), (∀ w ∈ lw_all, w.before args s = true) → ∀ y, s.fieldFound? (kT t k).1 (kT t k).2.1 (kT t k).2.2.1 = some y → s.fieldFound? ref (kT t k).2.1 (kT t k).2.2.1 = some y) (ho : M.2.2.1 = own) (d : decode M.1 pc = .ok (.getfield index, 3))
    (kk : xV (wC D P) K M Q (g, c) (pc + 3) loc (.ref b :: st)) : xV (wC D P) K M Q (g, c) pc loc (.ref a :: st) :=
  yc_getFN t k G ht h0 h1 hk hf hG q hs ho d (by rw [hb]; exact kk)
theorem yc_putIN {a : Nat} {own ref host : String} {index : Nat} {u : Int32} (t k G : Nat) (ht : gT g a = t) (h0 : 0 < t) (h1 : t < 22) (hk : k < kN t) (hfin : (kT t k).2.2.2 = false) (hf : fk t k = 0) (hG : 100 * t + k = G) {ty : FieldType} (hty : parseFieldDescriptor (kT t k).2.2.1 = some ty) (hn : narrow ty (.int u) = .int u) (hft : fits ty (.int u) = true) (q : Cond.fieldLinkNest own index ref (kT t k).2.1 (kT t k).2.2.1 host ∈ lw_tbl) (hs : ∀ (args : Array Value) (s : State), (∀ w ∈ lw_all, w.before args s = true) → ∀ y, s.fieldFound? (kT t k).1 (kT t k).2.1 (kT t k).2.2.1 = some y → s.fieldFound? ref (kT t k).2.1 (kT t k).2.2.1 = some y) (ho : M.2.2.1 = own) (d : decode M.1 pc = .ok (.putfield index, 3))
    (kk : xV (wC D P) K M Q (g, uI c G a u) (pc + 3) loc st) : xV (wC D P) K M Q (g, c) pc loc (.int u :: .ref a :: st) :=
  yc_putN t k ht h0 h1 hk hfin q hs hty hn hft rfl rfl (cV_uI hG hf hk) cV_uI' (fun _ _ => rfl) ho d kk
theorem yc_putLN {a : Nat} {own ref host : String} {index : Nat} {u : Int64} (t k G : Nat) (ht : gT g a = t) (h0 : 0 < t) (h1 : t < 22) (hk : k < kN t) (hfin : (kT t k).2.2.2 = false) (hf : fk t k = 1) (hG : 100 * t + k = G) (hty : parseFieldDescriptor (kT t k).2.2.1 = some .long) (q : Cond.fieldLinkNest own index ref (kT t k).2.1 (kT t k).2.2.1 host ∈ lw_tbl) (hs : ∀ (args : Array Value) (s : State), (∀ w ∈ lw_all, w.before args s = true) → ∀ y, s.fieldFound? (kT t k).1 (kT t k).2.1 (kT t k).2.2.1 = some y → s.fieldFound? ref (kT t k).2.1 (kT t k).2.2.1 = some y) (ho : M.2.2.1 = own) (d : decode M.1 pc = .ok (.putfield index, 3))
    (kk : xV (wC D P) K M Q (g, uL c G a u) (pc + 3) loc st) : xV (wC D P) K M Q (g, c) pc loc (.long u :: .ref a :: st) :=
  yc_putN t k ht h0 h1 hk hfin q hs hty rfl rfl rfl rfl (cV_uL hG hf hk) cV_uL' (fun _ _ => rfl) ho d kk
theorem yc_putRN {a : Nat} {own ref host : String} {index : Nat} {u : Option Nat} (t k G : Nat) (ht : gT g a = t) (h0 : 0 < t) (h1 : t < 22) (hk : k < kN t) (hfin : (kT t k).2.2.2 = false) (hf : fk t k = 2) (hG : 100 * t + k = G) {ty : FieldType} (hty : parseFieldDescriptor (kT t k).2.2.1 = some ty) (hr : ty.isReference = true) (q : Cond.fieldLinkNest own index ref (kT t k).2.1 (kT t k).2.2.1 host ∈ lw_tbl) (hs : ∀ (args : Array Value) (s : State), (∀ w ∈ lw_all, w.before args s = true) → ∀ y, s.fieldFound? (kT t k).1 (kT t k).2.1 (kT t k).2.2.1 = some y → s.fieldFound? ref (kT t k).2.1 (kT t k).2.2.1 = some y) (ho : M.2.2.1 = own) (d : decode M.1 pc = .ok (.putfield index, 3))
    (kk : xV (wC D P) K M Q (g, uR c G a u) (pc + 3) loc st) : xV (wC D P) K M Q (g, c) pc loc (va_rf u :: .ref a :: st) :=
  yc_putN t k ht h0 h1 hk hfin q hs hty (rf_n hr).1 (rf_n hr).2 rfl rfl (cV_uR hG hf hk) cV_uR' (fun _ _ => rfl) ho d kk
theorem yc_putRsN {a : Nat} {own ref host : String} {index : Nat} {u : Nat} (t k G : Nat) (ht : gT g a = t) (h0 : 0 < t) (h1 : t < 22) (hk : k < kN t) (hfin : (kT t k).2.2.2 = false) (hf : fk t k = 2) (hG : 100 * t + k = G) {ty : FieldType} (hty : parseFieldDescriptor (kT t k).2.2.1 = some ty) (hr : ty.isReference = true) (q : Cond.fieldLinkNest own index ref (kT t k).2.1 (kT t k).2.2.1 host ∈ lw_tbl) (hs : ∀ (args : Array Value) (s : State), (∀ w ∈ lw_all, w.before args s = true) → ∀ y, s.fieldFound? (kT t k).1 (kT t k).2.1 (kT t k).2.2.1 = some y → s.fieldFound? ref (kT t k).2.1 (kT t k).2.2.1 = some y) (ho : M.2.2.1 = own) (d : decode M.1 pc = .ok (.putfield index, 3))
    (kk : xV (wC D P) K M Q (g, uR c G a (some u)) (pc + 3) loc st) : xV (wC D P) K M Q (g, c) pc loc (.ref u :: .ref a :: st) :=
  yc_putRN (u := some u) t k G ht h0 h1 hk hfin hf hG hty hr q hs ho d kk
theorem yc_putFI {a : Nat} {own : String} {index : Nat} {u : Int32} (t k G : Nat) (ht : gT g a = t) (h0 : 0 < t) (h1 : t < 22) (hk : k < kN t) (hfin : (kT t k).2.2.2 = true) (hf : fk t k = 0) (hG : 100 * t + k = G) {ty : FieldType} (hty : parseFieldDescriptor (kT t k).2.2.1 = some ty) (hn : narrow ty (.int u) = .int u) (hft : fits ty (.int u) = true) (q : Cond.fieldLink own index own (kT t k).2.1 (kT t k).2.2.1 ∈ lw_all) (hs : (kT t k).1 = own) (ho : M.2.2.1 = own) (hnm : M.2.2.2.2.2.2 = "<init>") (d : decode M.1 pc = .ok (.putfield index, 3))
    (kk : xV (wC D P) K M Q (g, uI c G a u) (pc + 3) loc st) : xV (wC D P) K M Q (g, c) pc loc (.int u :: .ref a :: st) :=
  yc_putF t k ht h0 h1 hk hfin q hs hty hn hft rfl rfl (cV_uI hG hf hk) cV_uI' (fun _ _ => rfl) ho hnm d kk
theorem yc_putFL {a : Nat} {own : String} {index : Nat} {u : Int64} (t k G : Nat) (ht : gT g a = t) (h0 : 0 < t) (h1 : t < 22) (hk : k < kN t) (hfin : (kT t k).2.2.2 = true) (hf : fk t k = 1) (hG : 100 * t + k = G) (hty : parseFieldDescriptor (kT t k).2.2.1 = some .long) (q : Cond.fieldLink own index own (kT t k).2.1 (kT t k).2.2.1 ∈ lw_all) (hs : (kT t k).1 = own) (ho : M.2.2.1 = own) (hnm : M.2.2.2.2.2.2 = "<init>") (d : decode M.1 pc = .ok (.putfield index, 3))
    (kk : xV (wC D P) K M Q (g, uL c G a u) (pc + 3) loc st) : xV (wC D P) K M Q (g, c) pc loc (.long u :: .ref a :: st) :=
  yc_putF t k ht h0 h1 hk hfin q hs hty rfl rfl rfl rfl (cV_uL hG hf hk) cV_uL' (fun _ _ => rfl) ho hnm d kk
theorem yc_putFR {a : Nat} {own : String} {index : Nat} {u : Option Nat} (t k G : Nat) (ht : gT g a = t) (h0 : 0 < t) (h1 : t < 22) (hk : k < kN t) (hfin : (kT t k).2.2.2 = true) (hf : fk t k = 3) (hG : 100 * t + k = G) {ty : FieldType} (hty : parseFieldDescriptor (kT t k).2.2.1 = some ty) (hr : ty.isReference = true) (q : Cond.fieldLink own index own (kT t k).2.1 (kT t k).2.2.1 ∈ lw_all) (hs : (kT t k).1 = own) (ho : M.2.2.1 = own) (hnm : M.2.2.2.2.2.2 = "<init>") (d : decode M.1 pc = .ok (.putfield index, 3))
    (kk : xV (wC D P) K M Q (vR g G a u, c) (pc + 3) loc st) : xV (wC D P) K M Q (g, c) pc loc (va_rf u :: .ref a :: st) :=
  yc_putF (g' := vR g G a u) (c' := c) t k ht h0 h1 hk hfin q hs hty (rf_n hr).1 (rf_n hr).2 rfl rfl (cV_vR hG hf hk) cV_vR' (fun _ _ => rfl) ho hnm d kk
theorem yc_putFRs {a : Nat} {own : String} {index : Nat} {u : Nat} (t k G : Nat) (ht : gT g a = t) (h0 : 0 < t) (h1 : t < 22) (hk : k < kN t) (hfin : (kT t k).2.2.2 = true) (hf : fk t k = 3) (hG : 100 * t + k = G) {ty : FieldType} (hty : parseFieldDescriptor (kT t k).2.2.1 = some ty) (hr : ty.isReference = true) (q : Cond.fieldLink own index own (kT t k).2.1 (kT t k).2.2.1 ∈ lw_all) (hs : (kT t k).1 = own) (ho : M.2.2.1 = own) (hnm : M.2.2.2.2.2.2 = "<init>") (d : decode M.1 pc = .ok (.putfield index, 3))
    (kk : xV (wC D P) K M Q (vR g G a (some u), c) (pc + 3) loc st) : xV (wC D P) K M Q (g, c) pc loc (.ref u :: .ref a :: st) :=
  yc_putFR (u := some u) t k G ht h0 h1 hk hfin hf hG hty hr q hs ho hnm d kk
theorem yc_iald {a : Nat} {i : Int32} (ht : gK g a = 100) (hin : xin i (gN g a) = true) (d : decode M.1 pc = .ok (.iaload, 1))
    (kk : xV (wC D P) K M Q (g, c) (pc + 1) loc (.int (cA c a i.toNatClampNeg) :: st)) : xV (wC D P) K M Q (g, c) pc loc (.int i :: .ref a :: st) := by
  intro ok H locs cells slots ls hR hS hcc hs hl
  have hcell := RelC_ar (x := (g, c)) hR ht (by decide) (by decide)
  rw [show cAr (g, c) 100 a = (gN g a, .inl (cA c a)) by simp [cAr, aknd]] at hcell
  have hv := xin_vp hin
  have hlt : i.toNatClampNeg < gN g a := Nat.not_le.mp fun q => hv (Or.inr q)
  exact W.iald ok.1 ok.2.1 hcell ((ok.2.2.2.2.2.2.2.2.2.1.2.1 100 (by decide) (by decide)).1 (gN g a) (fun j => .int (cA c a j))) (fun q => by cases q) (by show ¬ (_ ∨ (arrV _ _ _).slots.size ≤ _); rw [arrV_size]; exact hv) (by show (arrV _ _ (fun j => Value.int (cA c a j))).slots[_]? = _; rw [arrV_read _ _ hlt]) rfl rfl d (kk ok H locs cells slots ls hR hS hcc hs hl)
theorem yc_cald {a : Nat} {i : Int32} (ht : gK g a = 102) (hin : xin i (gN g a) = true) (d : decode M.1 pc = .ok (.caload, 1))
    (kk : xV (wC D P) K M Q (g, c) (pc + 1) loc (.int (cA c a i.toNatClampNeg) :: st)) : xV (wC D P) K M Q (g, c) pc loc (.int i :: .ref a :: st) := by
  intro ok H locs cells slots ls hR hS hcc hs hl
  have hcell := RelC_ar (x := (g, c)) hR ht (by decide) (by decide)
  rw [show cAr (g, c) 102 a = (gN g a, .inl (cA c a)) by simp [cAr, aknd]] at hcell
  have hv := xin_vp hin
  have hlt : i.toNatClampNeg < gN g a := Nat.not_le.mp fun q => hv (Or.inr q)
  exact W.cald ok.1 ok.2.1 hcell ((ok.2.2.2.2.2.2.2.2.2.1.2.1 102 (by decide) (by decide)).1 (gN g a) (fun j => .int (cA c a j))) (fun q => by cases q) (by show ¬ (_ ∨ (arrV _ _ _).slots.size ≤ _); rw [arrV_size]; exact hv) (by show (arrV _ _ (fun j => Value.int (cA c a j))).slots[_]? = _; rw [arrV_read _ _ hlt]) rfl rfl d (kk ok H locs cells slots ls hR hS hcc hs hl)
theorem yc_bald {a : Nat} {i : Int32} (ht : gK g a = 103) (hin : xin i (gN g a) = true) (d : decode M.1 pc = .ok (.baload, 1))
    (kk : xV (wC D P) K M Q (g, c) (pc + 1) loc (.int (cA c a i.toNatClampNeg) :: st)) : xV (wC D P) K M Q (g, c) pc loc (.int i :: .ref a :: st) := by
  intro ok H locs cells slots ls hR hS hcc hs hl
  have hcell := RelC_ar (x := (g, c)) hR ht (by decide) (by decide)
  rw [show cAr (g, c) 103 a = (gN g a, .inl (cA c a)) by simp [cAr, aknd]] at hcell
  have hv := xin_vp hin
  have hlt : i.toNatClampNeg < gN g a := Nat.not_le.mp fun q => hv (Or.inr q)
  exact W.bald ok.1 ok.2.1 hcell ((ok.2.2.2.2.2.2.2.2.2.1.2.1 103 (by decide) (by decide)).1 (gN g a) (fun j => .int (cA c a j))) (fun q => by cases q) (by show ¬ (_ ∨ (arrV _ _ _).slots.size ≤ _); rw [arrV_size]; exact hv) (by show (arrV _ _ (fun j => Value.int (cA c a j))).slots[_]? = _; rw [arrV_read _ _ hlt]) rfl rfl d (kk ok H locs cells slots ls hR hS hcc hs hl)
theorem yc_zald {a : Nat} {i : Int32} (ht : gK g a = 104) (hin : xin i (gN g a) = true) (d : decode M.1 pc = .ok (.baload, 1))
    (kk : xV (wC D P) K M Q (g, c) (pc + 1) loc (.int (cA c a i.toNatClampNeg) :: st)) : xV (wC D P) K M Q (g, c) pc loc (.int i :: .ref a :: st) := by
  intro ok H locs cells slots ls hR hS hcc hs hl
  have hcell := RelC_ar (x := (g, c)) hR ht (by decide) (by decide)
  rw [show cAr (g, c) 104 a = (gN g a, .inl (cA c a)) by simp [cAr, aknd]] at hcell
  have hv := xin_vp hin
  have hlt : i.toNatClampNeg < gN g a := Nat.not_le.mp fun q => hv (Or.inr q)
  exact W.zald ok.1 ok.2.1 hcell ((ok.2.2.2.2.2.2.2.2.2.1.2.1 104 (by decide) (by decide)).1 (gN g a) (fun j => .int (cA c a j))) (fun q => by cases q) (by show ¬ (_ ∨ (arrV _ _ _).slots.size ≤ _); rw [arrV_size]; exact hv) (by show (arrV _ _ (fun j => Value.int (cA c a j))).slots[_]? = _; rw [arrV_read _ _ hlt]) rfl rfl d (kk ok H locs cells slots ls hR hS hcc hs hl)
theorem yc_lald {a : Nat} {i : Int32} (ht : gK g a = 101) (hin : xin i (gN g a) = true) (d : decode M.1 pc = .ok (.laload, 1))
    (kk : xV (wC D P) K M Q (g, c) (pc + 1) loc (.long (cM c a i.toNatClampNeg) :: st)) : xV (wC D P) K M Q (g, c) pc loc (.int i :: .ref a :: st) := by
  intro ok H locs cells slots ls hR hS hcc hs hl
  have hcell := RelC_ar (x := (g, c)) hR ht (by decide) (by decide)
  rw [show cAr (g, c) 101 a = (gN g a, .inr (.inl (cM c a))) by simp [cAr, aknd]] at hcell
  have hv := xin_vp hin
  have hlt : i.toNatClampNeg < gN g a := Nat.not_le.mp fun q => hv (Or.inr q)
  exact W.lald ok.1 ok.2.1 hcell ((ok.2.2.2.2.2.2.2.2.2.1.2.1 101 (by decide) (by decide)).1 (gN g a) (fun j => .long (cM c a j))) (fun q => by cases q) (by show ¬ (_ ∨ (arrV _ _ _).slots.size ≤ _); rw [arrV_size]; exact hv) (by show (arrV _ _ (fun j => Value.long (cM c a j))).slots[_]? = _; rw [arrV_read _ _ hlt]) rfl rfl d (kk ok H locs cells slots ls hR hS hcc hs hl)
theorem yc_aaldF {a : Nat} {i : Int32} (t : Nat) (ht : gK g a = t) (h0 : 100 ≤ t) (h1 : t < 111) (hk : aknd t = 3) (hty : (aty t).isReference = true) (hin : xin i (gN g a) = true) (d : decode M.1 pc = .ok (.aaload, 1))
    (kk : xV (wC D P) K M Q (g, c) (pc + 1) loc (.ref (gA g a i.toNatClampNeg) :: st)) : xV (wC D P) K M Q (g, c) pc loc (.int i :: .ref a :: st) := by
  intro ok H locs cells slots ls hR hS hcc hs hl
  have hcell := RelC_ar (x := (g, c)) hR ht h0 h1
  rw [show cAr (g, c) t a = (gN g a, .inr (.inr (.inr (.inr (fun i => some (gA g a i)))))) by simp [cAr, hk]] at hcell
  have hv := xin_vp hin
  have hlt : i.toNatClampNeg < gN g a := Nat.not_le.mp fun q => hv (Or.inr q)
  exact W.aald ok.1 ok.2.1 hcell ((ok.2.2.2.2.2.2.2.2.2.1.2.1 t h0 h1).1 (gN g a) (fun j => va_rf (some (gA g a j)))) hty (fun q => by cases q) (by show ¬ (_ ∨ (arrV _ _ _).slots.size ≤ _); rw [arrV_size]; exact hv) (by show (arrV _ _ (fun j => va_rf (some (gA g a j)))).slots[_]? = _; rw [arrV_read _ _ hlt]; rfl) rfl rfl d (kk ok H locs cells slots ls hR hS hcc hs hl)
theorem yc_aald {a : Nat} {i : Int32} (t : Nat) (ht : gK g a = t) (h0 : 100 ≤ t) (h1 : t < 111) (hk : aknd t = 2) (hty : (aty t).isReference = true) (hin : xin i (gN g a) = true) (d : decode M.1 pc = .ok (.aaload, 1))
    (kk : xV (wC D P) K M Q (g, c) (pc + 1) loc (va_rf (cP c a i.toNatClampNeg) :: st)) : xV (wC D P) K M Q (g, c) pc loc (.int i :: .ref a :: st) := by
  intro ok H locs cells slots ls hR hS hcc hs hl
  have hcell := RelC_ar (x := (g, c)) hR ht h0 h1
  rw [show cAr (g, c) t a = (gN g a, .inr (.inr (.inr (.inr (cP c a))))) by simp [cAr, hk]] at hcell
  have hv := xin_vp hin
  have hlt : i.toNatClampNeg < gN g a := Nat.not_le.mp fun q => hv (Or.inr q)
  exact W.aald ok.1 ok.2.1 hcell ((ok.2.2.2.2.2.2.2.2.2.1.2.1 t h0 h1).1 (gN g a) (fun j => va_rf (cP c a j))) hty (fun q => by cases q) (by show ¬ (_ ∨ (arrV _ _ _).slots.size ≤ _); rw [arrV_size]; exact hv) (by show (arrV _ _ (fun j => va_rf (cP c a j))).slots[_]? = _; rw [arrV_read _ _ hlt]) rfl rfl d (kk ok H locs cells slots ls hR hS hcc hs hl)
theorem yc_aalds {a b : Nat} {i : Int32} (t : Nat) (ht : gK g a = t) (h0 : 100 ≤ t) (h1 : t < 111) (hk : aknd t = 2) (hty : (aty t).isReference = true) (hin : xin i (gN g a) = true) (hb : cP c a i.toNatClampNeg = some b) (d : decode M.1 pc = .ok (.aaload, 1))
    (kk : xV (wC D P) K M Q (g, c) (pc + 1) loc (.ref b :: st)) : xV (wC D P) K M Q (g, c) pc loc (.int i :: .ref a :: st) := yc_aald t ht h0 h1 hk hty hin d (by rw [hb]; exact kk)
theorem yc_alen {a : Nat} (t : Nat) (ht : gK g a = t) (h0 : 100 ≤ t) (h1 : t < 111) (d : decode M.1 pc = .ok (.arraylength, 1))
    (kk : xV (wC D P) K M Q (g, c) (pc + 1) loc (.int (Int32.ofNat (gN g a)) :: st)) : xV (wC D P) K M Q (g, c) pc loc (.ref a :: st) := by
  intro ok H locs cells slots ls hR hS hcc hs hl
  have hcell := RelC_ar (x := (g, c)) hR ht h0 h1
  have hA := (ok.2.2.2.2.2.2.2.2.2.1.2.1 t h0 h1).1 (gN g a)
  have hk := kk ok H locs cells slots ls hR hS hcc hs hl
  by_cases k0 : aknd t = 0
  · rw [show cAr (g, c) t a = (gN g a, .inl (cA c a)) by simp [cAr, k0]] at hcell
    exact W.alen ok.1 ok.2.1 hcell (hA (fun j => .int (cA c a j))) (by show (arrV _ _ _).slots.size.toInt32 = _; rw [arrV_size]) rfl rfl d hk
  by_cases k1 : aknd t = 1
  · rw [show cAr (g, c) t a = (gN g a, .inr (.inl (cM c a))) by simp [cAr, k1]] at hcell
    exact W.alen ok.1 ok.2.1 hcell (hA (fun j => .long (cM c a j))) (by show (arrV _ _ _).slots.size.toInt32 = _; rw [arrV_size]) rfl rfl d hk
  by_cases k2 : aknd t = 2
  · rw [show cAr (g, c) t a = (gN g a, .inr (.inr (.inr (.inr (cP c a))))) by simp [cAr, k2]] at hcell
    exact W.alen ok.1 ok.2.1 hcell (hA (fun j => va_rf (cP c a j))) (by show (arrV _ _ _).slots.size.toInt32 = _; rw [arrV_size]) rfl rfl d hk
  · rw [show cAr (g, c) t a = (gN g a, .inr (.inr (.inr (.inr (fun i => some (gA g a i)))))) by simp [cAr, k0, k1, k2]] at hcell
    exact W.alen ok.1 ok.2.1 hcell (hA (fun j => va_rf (some (gA g a j)))) (by show (arrV _ _ _).slots.size.toInt32 = _; rw [arrV_size]) rfl rfl d hk
theorem RelC_uA {H H' : Heap} {a t j : Nat} {v : Int32} {cell : Cell} (hR : RelC D P (g, c) H) (ht : gT g a = t) (h0 : 100 ≤ t) (h1 : t < 111) (hk : aknd t = 0) (hcell : H[a]? = some cell) (e1 : H'[a]? = some (cell.setSlot j (.int v))) (z : H'.size = H.size) (e3 : ∀ q, q ≠ a → H'[q]? = H[q]?) : RelC D P (g, uA c a j v) H' := by
  have hgk : gK g a = t := gKo ht (by omega)
  refine RelC_set (x := (g, c)) hR (hR.elim ht (by omega) (by omega)) hcell e1 z e3 rfl rfl (fun b hb t j => rfl) (fun b hb t => ?_) ⟨fun _ h => ?_, fun _ _ => ?_⟩
  · unfold cAr
    rw [show cA (g, uA c a j v).2 b = cA c b by funext i; exact up2_ne (fun h => hb h.1)]
    rfl
  · have : gK g a < 22 := h
    omega
  · show H'[a]? = some (vp_cell (D.1 (gK g a)) (cAr (g, uA c a j v) (gK g a) a))
    have hc := RelC_ar (x := (g, c)) hR hgk h0 h1
    rw [hcell] at hc
    rw [hgk, e1, Option.some.inj hc]
    rw [show cAr (g, c) t a = (gN g a, .inl (cA c a)) by simp [cAr, hk], show cAr (g, uA c a j v) t a = (gN g a, .inl (cA (uA c a j v) a)) by simp [cAr, hk], vp_cell_i, vp_cell_i, arrV_store]
    congr 2
    funext q
    by_cases hq : q = j
    · subst hq; simp [updV, cA, uA, up2]
    · simp [updV, cA, uA, up2, hq]
theorem yc_iast {a : Nat} {i v : Int32} (ht : gT g a = 100) (hin : xin i (gN g a) = true) (d : decode M.1 pc = .ok (.iastore, 1))
    (kk : xV (wC D P) K M Q (g, uA c a i.toNatClampNeg v) (pc + 1) loc st) : xV (wC D P) K M Q (g, c) pc loc (.int v :: .int i :: .ref a :: st) := by
  intro ok H locs cells slots ls hR hS hcc hs hl
  have hcell := RelC_ar (x := (g, c)) hR (gKo ht (by decide)) (by decide) (by decide)
  have hv := xin_vp hin
  refine W.iast ok.1 ok.2.1 hcell ((ok.2.2.2.2.2.2.2.2.2.1.2.1 100 (by decide) (by decide)).1 (gN g a) (fun j => .int (cA c a j))) (fun q => by cases q) (by show ¬ (_ ∨ (arrV _ _ _).slots.size ≤ _); rw [arrV_size]; exact hv) rfl rfl d fun H' e z oq => ?_
  exact kk ok H' _ cells slots ls (RelC_uA hR ht (by decide) (by decide) rfl hcell e z oq) (hS.put z oq (RelC.elim hR ht (by decide) (by decide))) hcc hs hl
theorem yc_cast {a : Nat} {i v : Int32} (ht : gT g a = 102) (hin : xin i (gN g a) = true) (d : decode M.1 pc = .ok (.castore, 1))
    (kk : xV (wC D P) K M Q (g, uA c a i.toNatClampNeg v.toUInt32.toUInt16.toUInt32.toInt32) (pc + 1) loc st) : xV (wC D P) K M Q (g, c) pc loc (.int v :: .int i :: .ref a :: st) := by
  intro ok H locs cells slots ls hR hS hcc hs hl
  have hcell := RelC_ar (x := (g, c)) hR (gKo ht (by decide)) (by decide) (by decide)
  have hv := xin_vp hin
  refine W.cast ok.1 ok.2.1 hcell ((ok.2.2.2.2.2.2.2.2.2.1.2.1 102 (by decide) (by decide)).1 (gN g a) (fun j => .int (cA c a j))) (fun q => by cases q) (by show ¬ (_ ∨ (arrV _ _ _).slots.size ≤ _); rw [arrV_size]; exact hv) rfl rfl d fun H' e z oq => ?_
  exact kk ok H' _ cells slots ls (RelC_uA hR ht (by decide) (by decide) rfl hcell e z oq) (hS.put z oq (RelC.elim hR ht (by decide) (by decide))) hcc hs hl
theorem yc_bast {a : Nat} {i v : Int32} (ht : gT g a = 103) (hin : xin i (gN g a) = true) (d : decode M.1 pc = .ok (.bastore, 1))
    (kk : xV (wC D P) K M Q (g, uA c a i.toNatClampNeg v.toInt8.toInt32) (pc + 1) loc st) : xV (wC D P) K M Q (g, c) pc loc (.int v :: .int i :: .ref a :: st) := by
  intro ok H locs cells slots ls hR hS hcc hs hl
  have hcell := RelC_ar (x := (g, c)) hR (gKo ht (by decide)) (by decide) (by decide)
  have hv := xin_vp hin
  refine W.bast ok.1 ok.2.1 hcell ((ok.2.2.2.2.2.2.2.2.2.1.2.1 103 (by decide) (by decide)).1 (gN g a) (fun j => .int (cA c a j))) (fun q => by cases q) (by show ¬ (_ ∨ (arrV _ _ _).slots.size ≤ _); rw [arrV_size]; exact hv) rfl rfl d fun H' e z oq => ?_
  exact kk ok H' _ cells slots ls (RelC_uA hR ht (by decide) (by decide) rfl hcell e z oq) (hS.put z oq (RelC.elim hR ht (by decide) (by decide))) hcc hs hl
theorem yc_zast {a : Nat} {i v : Int32} (ht : gT g a = 104) (hin : xin i (gN g a) = true) (d : decode M.1 pc = .ok (.bastore, 1))
    (kk : xV (wC D P) K M Q (g, uA c a i.toNatClampNeg (v &&& 1)) (pc + 1) loc st) : xV (wC D P) K M Q (g, c) pc loc (.int v :: .int i :: .ref a :: st) := by
  intro ok H locs cells slots ls hR hS hcc hs hl
  have hcell := RelC_ar (x := (g, c)) hR (gKo ht (by decide)) (by decide) (by decide)
  have hv := xin_vp hin
  refine W.zast ok.1 ok.2.1 hcell ((ok.2.2.2.2.2.2.2.2.2.1.2.1 104 (by decide) (by decide)).1 (gN g a) (fun j => .int (cA c a j))) (fun q => by cases q) (by show ¬ (_ ∨ (arrV _ _ _).slots.size ≤ _); rw [arrV_size]; exact hv) rfl rfl d fun H' e z oq => ?_
  exact kk ok H' _ cells slots ls (RelC_uA hR ht (by decide) (by decide) rfl hcell e z oq) (hS.put z oq (RelC.elim hR ht (by decide) (by decide))) hcc hs hl
theorem yc_last {a : Nat} {i : Int32} {v : Int64} (ht : gT g a = 101) (hin : xin i (gN g a) = true) (d : decode M.1 pc = .ok (.lastore, 1))
    (kk : xV (wC D P) K M Q (g, uM c a i.toNatClampNeg v) (pc + 1) loc st) : xV (wC D P) K M Q (g, c) pc loc (.long v :: .int i :: .ref a :: st) := by
  intro ok H locs cells slots ls hR hS hcc hs hl
  have hgk : gK g a = 101 := gKo ht (by decide)
  have hcell := RelC_ar (x := (g, c)) hR hgk (by decide) (by decide)
  have hv := xin_vp hin
  have hA : AC P a := RelC.elim hR ht (by decide) (by decide)
  refine W.last ok.1 ok.2.1 hcell ((ok.2.2.2.2.2.2.2.2.2.1.2.1 101 (by decide) (by decide)).1 (gN g a) (fun j => .long (cM c a j))) (fun q => by cases q) (by show ¬ (_ ∨ (arrV _ _ _).slots.size ≤ _); rw [arrV_size]; exact hv) rfl rfl d fun H' e z oq => ?_
  refine kk ok H' _ cells slots ls (RelC_set (x := (g, c)) hR hA hcell e z oq rfl rfl (fun b hb t j => rfl) (fun b hb t => ?_) ⟨fun _ h => ?_, fun _ _ => ?_⟩) (hS.put z oq hA) hcc hs hl
  · unfold cAr
    rw [show cM (g, uM c a i.toNatClampNeg v).2 b = cM c b by funext j; exact up2_ne (fun h => hb h.1)]
    rfl
  · have : gK g a < 22 := h
    omega
  · show H'[a]? = some (vp_cell (D.1 (gK g a)) (cAr (g, uM c a i.toNatClampNeg v) (gK g a) a))
    rw [hgk, e]
    show some ((vp_cell (D.1 101) (gN g a, .inr (.inl (cM c a)))).setSlot _ _) = some (vp_cell (D.1 101) (gN g a, .inr (.inl (cM (uM c a i.toNatClampNeg v) a))))
    rw [vp_cell_l, vp_cell_l, arrV_store]
    congr 2
    funext q
    by_cases hq : q = i.toNatClampNeg
    · subst hq; simp [updV, cM, uM, up2]
    · simp [updV, cM, uM, up2, hq]
theorem yc_aast {a v : Nat} {i : Int32} (t e : Nat) (ht : gT g a = t) (h0 : 100 ≤ t) (h1 : t < 111) (hk : aknd t = 2) (hty : (aty t).isReference = true) (he : gK g v = e) (has : asg t e = true) (hin : xin i (gN g a) = true) (d : decode M.1 pc = .ok (.aastore, 1))
    (kk : xV (wC D P) K M Q (g, uP c a i.toNatClampNeg (some v)) (pc + 1) loc st) : xV (wC D P) K M Q (g, c) pc loc (.ref v :: .int i :: .ref a :: st) := by
  intro ok H locs cells slots ls hR hS hcc hs hl
  have hgk : gK g a = t := gKo ht (by omega)
  have hcell := RelC_ar (x := (g, c)) hR hgk h0 h1
  rw [show cAr (g, c) t a = (gN g a, .inr (.inr (.inr (.inr (cP c a))))) by simp [cAr, hk]] at hcell
  have hv := xin_vp hin
  have hlt : i.toNatClampNeg < gN g a := Nat.not_le.mp fun q => hv (Or.inr q)
  have hA : AC P a := RelC.elim hR ht (by omega) (by omega)
  obtain ⟨kA, kc, ke, comp, a1, a2, a3, a4, a5⟩ := ok.2.2.2.2.2.2.2.2.2.1.2.2.1 t e has
  have hval : ∃ cv : Cell, H[v]? = some cv ∧ cv.cls = D.1 e ∧ cv.vm = .none := by
    have hle : (0 < e ∧ e < 22) ∨ (100 ≤ e ∧ e < 111) := by
      unfold asg at has
      simp only [Bool.or_eq_true, Bool.and_eq_true, beq_iff_eq] at has
      omega
    rcases hle with h | h
    · obtain ⟨cv, z1, z2, z3, -⟩ := RelC_ob (x := (g, c)) hR he h.1 h.2
      exact ⟨cv, z1, z2, z3⟩
    · refine ⟨_, RelC_ar (x := (g, c)) hR he h.1 h.2, ?_, ?_⟩
      · unfold cAr; split <;> first | rfl | (split <;> first | rfl | (split <;> rfl))
      · unfold cAr; split <;> first | rfl | (split <;> first | rfl | (split <;> rfl))
  obtain ⟨cv, v1, v2, v3⟩ := hval
  refine W.aast ok.1 ok.2.1 hcell (fun q h => by cases h) (fun h => by cases h) a1 a2 hty a3 ⟨fun h => hv (Or.inl h), by show _ < (arrV _ _ _).slots.size; rw [arrV_size]; exact hlt⟩ v1 (fun q h => by rw [v3] at h; cases h) (by rw [v2]; exact a4) (by rw [v2]; exact a5) rfl rfl d fun H' e z oq => ?_
  refine kk ok H' _ cells slots ls (RelC_set (x := (g, c)) hR hA hcell e z oq rfl rfl (fun b hb t j => rfl) (fun b hb t => ?_) ⟨fun _ h => ?_, fun _ _ => ?_⟩) (hS.put z oq hA) hcc hs hl
  · unfold cAr
    rw [show cP (g, uP c a i.toNatClampNeg (some v)).2 b = cP c b by funext j; exact up2_ne (fun h => hb h.1)]
    rfl
  · have : gK g a < 22 := h
    omega
  · show H'[a]? = some (vp_cell (D.1 (gK g a)) (cAr (g, uP c a i.toNatClampNeg (some v)) (gK g a) a))
    rw [hgk, e, show cAr (g, uP c a i.toNatClampNeg (some v)) t a = (gN g a, .inr (.inr (.inr (.inr (cP (uP c a i.toNatClampNeg (some v)) a))))) by simp [cAr, hk]]
    rw [vp_cell_q, vp_cell_q, arrV_store]
    congr 2
    funext q
    by_cases hq : q = i.toNatClampNeg
    · subst hq; simp [updV, cP, uP, up2, va_rf]
    · simp [updV, cP, uP, up2, hq]
end YT
