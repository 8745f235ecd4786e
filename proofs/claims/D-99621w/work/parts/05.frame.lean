/-! OWN JUDGEMENT over the kit's W: worlds, contracts, rows of one instruction each -/
set_option maxRecDepth 100000
/-- program, launch, environment, room, start, method, arguments, frames below, method, code -/
abbrev xK : Type := Program × Launch × Env × Room × State × MethodId × Array Value × List Frame × Method × Code
/-- code, locals, own class, frames, locals' room, answer, name -/
abbrev xM : Type := ByteArray × Nat × String × Nat × Nat × Option FieldType × String
/-- what holds of the heap, the region that may be written, what is known of the tables, what is known of the room -/
abbrev xW (S : Type) : Type := (S → Heap → Prop) × (Nat → Prop) × (State → Prop) × (Room → State → Prop)
def xKR (K : xK) : Room := K.2.2.2.1
def xKs (K : xK) : State := K.2.2.2.2.1
def xKm (K : xK) : MethodId := K.2.2.2.2.2.1
/-- what is known of the tables stays known -/
def xKp (P : State → Prop) : Prop := (∀ u U : State, u.WarmedH U.vm → P u → P U) ∧ ∀ u U : State, u.vm = U.vm → P u → P U
def xOK {S : Type} (w : xW S) (K : xK) (M : xM) : Prop :=
  K.1.tables.exec = Jvm.exec ∧ K.2.2.2.2.2.2.2.2.2.code = M.1 ∧ K.2.2.2.2.2.2.2.2.2.maxLocals = M.2.1 ∧ (xKs K).vm.findClass M.2.2.1 = some (xKm K).cls ∧ (∀ c ∈ lw_all, c.before K.2.2.2.2.2.2.1 (xKs K) = true) ∧
  K.2.2.2.2.2.2.2.2.1.locks = false ∧ M.2.2.2.1 ≤ (xKR K).frames ∧ M.2.2.2.2.1 ≤ (xKR K).locals ∧ K.2.2.2.2.2.2.2.2.1.sig.returnType = M.2.2.2.2.2.1 ∧ w.2.2.1 (xKs K) ∧ xKp w.2.2.1 ∧ w.2.2.2 (xKR K) (xKs K) ∧ K.2.2.2.2.2.2.2.2.1.name = M.2.2.2.2.2.2
abbrev xU (K : xK) (H : Heap) (locs : List Loc) (cells slots : Nat) (Q : State → Prop) (g : JFrame) : Prop :=
  W K.1 K.2.1 K.2.2.1 (xKR K) (xKs K) (xKm K) K.2.2.2.2.2.2.1 K.2.2.2.2.2.2.2.1 K.2.2.2.2.2.2.2.2.1 K.2.2.2.2.2.2.2.2.2 H locs cells slots Q g
/-- the end: returned, and the world behind it -/
def xC {S : Type} (w : xW S) (Z : Option Value × S) : Array Value → State → Outcome → State → Prop := fun _ st o t => o = .returned Z.1 ∧ w.1 Z.2 t.heap ∧ va_F w.2.1 st t
abbrev xQ {S : Type} (w : xW S) (K : xK) (Z : Option Value × S) : State → Prop := MQ K.2.2.2.2.2.2.2.1 (xC w Z) K.2.2.2.2.2.2.1 (xKs K) (xKR K).cells (xKR K).slots w.2.1
def xV {S : Type} (w : xW S) (K : xK) (M : xM) (Q : State → Prop) (x : S) (pc : Nat) (loc : List (Nat × Value)) (st : List Value) : Prop :=
  xOK w K M → ∀ (H : Heap) (locs : List Loc) (cells slots : Nat) (ls : Array Slot), w.1 x H → va_S w.2.1 (xKs K).heap H locs → cells ≤ (xKR K).cells → slots ≤ (xKR K).slots → lv_has ls M.2.1 loc → xU K H locs cells slots Q (F0 (xKm K) pc ls st)
/-- a contract -/
def xMet {S : Type} (w : xW S) (l : Launch) (y : MethodName) (ws : List Cond) (fr lo mc ms : Nat) (as : List Value) (x : S) (Z : Option Value × S) : Prop :=
  Met l y ws { frames := fr, cells := mc, slots := ms, locals := lo } (va_Pc as (fun U => w.2.2.1 U ∧ w.1 x U.heap)) (xC w Z) mc ms w.2.1
section XR
variable {S : Type} {w : xW S} {K : xK} {M : xM} {Q : State → Prop} {x : S} {pc : Nat} {loc : List (Nat × Value)} {st : List Value}
theorem xMet_of {Z : Option Value × S} {l : Launch} {y : MethodName} {fr lo mc ms : Nat} {as : List Value} {cc : ByteArray} {nL : Nat} {ret : Option FieldType} (hy : plainName y.cls = true) (hlen : (lg_sl as).length ≤ nL)
    (hK : xKp w.2.2.1) (hRP : ∀ s : State, w.1 x s.heap → w.2.2.2 { frames := fr, cells := mc, slots := ms, locals := lo } s) (body : ∀ K : xK, K.2.1 = l → (xKR K).cells = mc → (xKR K).slots = ms → xV w K (cc, nL, y.cls, fr, lo, ret, y.name) (xQ w K Z) x 0 (lv_args 0 as) []) : xMet w l y (ws_ y cc nL ret) fr lo mc ms as x Z := by
  refine Met.ofW (cc := cc) (maxL := nL) (ret := ret) hy rfl ?_
  intro p e s m args below meth c s₁ B hml hv
  obtain ⟨rfl, hk, hr⟩ := hv
  have hts := atoms_spec (ws := ws_ y cc nL ret) B.pre
  have hts : ∀ c ∈ lw_all, c.before _ s = true := fun c h => hts c (List.mem_cons_of_mem _ h)
  have hl := lv_entry as (n := nL) hlen
  rw [lg_entry_eq]
  exact body (p, l, e, { frames := fr, cells := mc, slots := ms, locals := lo }, s, m, as.toArray, below, meth, c) rfl rfl rfl
    ⟨B.exec, B.bytes, hml, findClass_of_methodNamed B.named, hts, B.notSynchronized, Nat.le_refl _, Nat.le_refl _, B.returns, hk, hK, hRP s hr, (name_of_methodNamed B.named B.method).1⟩ s.heap [] 0 0 _ hr va_S.rf (Nat.zero_le _) (Nat.zero_le _) hl
theorem xV_sub {loc' : List (Nat × Value)} (ks : List Nat) (h : lv_pick loc ks = loc') (k : xV w K M Q x pc loc' st) : xV w K M Q x pc loc st :=
  fun ok H locs cells slots ls hR hS hc hs hl => k ok H locs cells slots ls hR hS hc hs (lv_sub hl ks h)
theorem xV_of {pc' : Nat} {st' : List Value} (f : ∀ (_ : xOK w K M) (H : Heap) (locs : List Loc) (cells slots : Nat) (ls : Array Slot), lv_has ls M.2.1 loc → xU K H locs cells slots Q (F0 (xKm K) pc' ls st') → xU K H locs cells slots Q (F0 (xKm K) pc ls st))
    (k : xV w K M Q x pc' loc st') : xV w K M Q x pc loc st :=
  fun ok H locs cells slots ls hR hS hc hs hl => f ok H locs cells slots ls hl (k ok H locs cells slots ls hR hS hc hs hl)
theorem xr_iconst {n : Int} {v : Int32} (d : decode M.1 pc = .ok (.iconst n, 1)) (hv : Int32.ofInt n = v) (k : xV w K M Q x (pc + 1) loc (.int v :: st)) : xV w K M Q x pc loc st :=
  xV_of (fun ok _ _ _ _ _ _ h => lv_iconst ok.1 ok.2.1 d hv h) k
theorem xr_bipush {n : Int} {v : Int32} (d : decode M.1 pc = .ok (.bipush n, 2)) (hv : (Int8.ofInt n).toInt32 = v) (k : xV w K M Q x (pc + 2) loc (.int v :: st)) : xV w K M Q x pc loc st :=
  xV_of (fun ok _ _ _ _ _ _ h => lv_bipush ok.1 ok.2.1 d hv h) k
theorem xr_sipush {n : Int} {v : Int32} (d : decode M.1 pc = .ok (.sipush n, 3)) (hv : (Int16.ofInt n).toInt32 = v) (k : xV w K M Q x (pc + 3) loc (.int v :: st)) : xV w K M Q x pc loc st :=
  xV_of (fun ok _ _ _ _ _ _ h => lv_sipush ok.1 ok.2.1 d hv h) k
theorem xr_lconst {n : Fin 2} {v : Int64} (d : decode M.1 pc = .ok (.lconst n, 1)) (hv : Int64.ofNat (n : Nat) = v) (k : xV w K M Q x (pc + 1) loc (.long v :: st)) : xV w K M Q x pc loc st :=
  xV_of (fun ok _ _ _ _ _ _ h => lv_lconst ok.1 ok.2.1 d hv h) k
theorem xr_ldc {index : Nat} {v : Int32} (q : Cond.constant M.2.2.1 index v ∈ lw_all) (d : decode M.1 pc = .ok (.ldc index, 2)) (k : xV w K M Q x (pc + 2) loc (.int v :: st)) : xV w K M Q x pc loc st :=
  xV_of (fun ok _ _ _ _ _ _ h => lv_ldc ok.1 ok.2.1 ok.2.2.2.1 (ok.2.2.2.2.1 _ q) d h) k
theorem xr_ldcw {index : Nat} {v : Int32} (q : Cond.constant M.2.2.1 index v ∈ lw_all) (d : decode M.1 pc = .ok (.ldc_w index, 3)) (k : xV w K M Q x (pc + 3) loc (.int v :: st)) : xV w K M Q x pc loc st :=
  xV_of (fun ok _ _ _ _ _ _ h => lv_ldcw ok.1 ok.2.1 ok.2.2.2.1 (ok.2.2.2.2.1 _ q) d h) k
theorem xr_ldc2 {index : Nat} {v : Int64} (q : Cond.constantLong M.2.2.1 index v ∈ lw_all) (d : decode M.1 pc = .ok (.ldc2_w index, 3)) (k : xV w K M Q x (pc + 3) loc (.long v :: st)) : xV w K M Q x pc loc st :=
  xV_of (fun ok _ _ _ _ _ _ h => lv_ldc2 ok.1 ok.2.1 ok.2.2.2.1 (ok.2.2.2.2.1 _ q) d h) k
theorem xr_iload_n {n : Fin 4} {i : Nat} (j : Nat) {v : Int32} (d : decode M.1 pc = .ok (.iload_n n, 1)) (hi : (n : Nat) = i) (hl : loc[j]? = some (i, .int v)) (k : xV w K M Q x (pc + 1) loc (.int v :: st)) : xV w K M Q x pc loc st :=
  xV_of (fun ok _ _ _ _ _ hh h => lv_iload_n ok.1 ok.2.1 d hi (lv_at hh j hl) h) k
theorem xr_iload {i : Nat} (j : Nat) {v : Int32} (d : decode M.1 pc = .ok (.iload i, 2)) (hl : loc[j]? = some (i, .int v)) (k : xV w K M Q x (pc + 2) loc (.int v :: st)) : xV w K M Q x pc loc st :=
  xV_of (fun ok _ _ _ _ _ hh h => lv_iload ok.1 ok.2.1 d (lv_at hh j hl) h) k
theorem xr_lload_n {n : Fin 4} {i : Nat} (j : Nat) {v : Int64} (d : decode M.1 pc = .ok (.lload_n n, 1)) (hi : (n : Nat) = i) (hl : loc[j]? = some (i, .long v)) (k : xV w K M Q x (pc + 1) loc (.long v :: st)) : xV w K M Q x pc loc st :=
  xV_of (fun ok _ _ _ _ _ hh h => lv_lload_n ok.1 ok.2.1 d hi (lv_at hh j hl) h) k
theorem xr_lload {i : Nat} (j : Nat) {v : Int64} (d : decode M.1 pc = .ok (.lload i, 2)) (hl : loc[j]? = some (i, .long v)) (k : xV w K M Q x (pc + 2) loc (.long v :: st)) : xV w K M Q x pc loc st :=
  xV_of (fun ok _ _ _ _ _ hh h => lv_lload ok.1 ok.2.1 d (lv_at hh j hl) h) k
theorem xr_aload_n {n : Fin 4} {i : Nat} (j : Nat) {v : Nat} (d : decode M.1 pc = .ok (.aload_n n, 1)) (hi : (n : Nat) = i) (hl : loc[j]? = some (i, .ref v)) (k : xV w K M Q x (pc + 1) loc (.ref v :: st)) : xV w K M Q x pc loc st :=
  xV_of (fun ok _ _ _ _ _ hh h => lv_aload_n ok.1 ok.2.1 d hi (lv_at hh j hl) h) k
theorem xr_aload {i : Nat} (j : Nat) {v : Nat} (d : decode M.1 pc = .ok (.aload i, 2)) (hl : loc[j]? = some (i, .ref v)) (k : xV w K M Q x (pc + 2) loc (.ref v :: st)) : xV w K M Q x pc loc st :=
  xV_of (fun ok _ _ _ _ _ hh h => lv_aload ok.1 ok.2.1 d (lv_at hh j hl) h) k
abbrev x_st1 (loc : List (Nat × Value)) (i : Nat) (v : Value) : List (Nat × Value) := (i, v) :: loc.filter (fun q => !(q.1 == i) && !(q.1 + 1 == i && q.2.category == 2))
abbrev x_st2 (loc : List (Nat × Value)) (i : Nat) (v : Value) : List (Nat × Value) := (i, v) :: loc.filter (fun q => !(q.1 == i) && (!(q.1 == i + 1) && !(q.1 + 1 == i && q.2.category == 2)))
theorem xr_istore_n {n : Fin 4} {i : Nat} {v : Int32} {loc' : List (Nat × Value)} (d : decode M.1 pc = .ok (.istore_n n, 1)) (hi : (n : Nat) = i) (hn : i < M.2.1) (hl : x_st1 loc i (.int v) = loc') (k : xV w K M Q x (pc + 1) loc' st) : xV w K M Q x pc loc (.int v :: st) :=
  fun ok H locs cells slots ls hR hS hc hs hh => lv_istore_n ok.1 ok.2.1 d hi hh hn hl (fun ls' h' => k ok H locs cells slots ls' hR hS hc hs h')
theorem xr_istore {i : Nat} {v : Int32} {loc' : List (Nat × Value)} (d : decode M.1 pc = .ok (.istore i, 2)) (hn : i < M.2.1) (hl : x_st1 loc i (.int v) = loc') (k : xV w K M Q x (pc + 2) loc' st) : xV w K M Q x pc loc (.int v :: st) :=
  fun ok H locs cells slots ls hR hS hc hs hh => lv_istore ok.1 ok.2.1 d hh hn hl (fun ls' h' => k ok H locs cells slots ls' hR hS hc hs h')
theorem xr_lstore_n {n : Fin 4} {i : Nat} {v : Int64} {loc' : List (Nat × Value)} (d : decode M.1 pc = .ok (.lstore_n n, 1)) (hi : (n : Nat) = i) (hn : i + 1 < M.2.1) (hl : x_st2 loc i (.long v) = loc') (k : xV w K M Q x (pc + 1) loc' st) : xV w K M Q x pc loc (.long v :: st) :=
  fun ok H locs cells slots ls hR hS hc hs hh => lv_lstore_n ok.1 ok.2.1 d hi hh hn hl (fun ls' h' => k ok H locs cells slots ls' hR hS hc hs h')
theorem xr_lstore {i : Nat} {v : Int64} {loc' : List (Nat × Value)} (d : decode M.1 pc = .ok (.lstore i, 2)) (hn : i + 1 < M.2.1) (hl : x_st2 loc i (.long v) = loc') (k : xV w K M Q x (pc + 2) loc' st) : xV w K M Q x pc loc (.long v :: st) :=
  fun ok H locs cells slots ls hR hS hc hs hh => lv_lstore ok.1 ok.2.1 d hh hn hl (fun ls' h' => k ok H locs cells slots ls' hR hS hc hs h')
theorem xr_astore_n {n : Fin 4} {i : Nat} {v : Nat} {loc' : List (Nat × Value)} (d : decode M.1 pc = .ok (.astore_n n, 1)) (hi : (n : Nat) = i) (hn : i < M.2.1) (hl : x_st1 loc i (.ref v) = loc') (k : xV w K M Q x (pc + 1) loc' st) : xV w K M Q x pc loc (.ref v :: st) :=
  fun ok H locs cells slots ls hR hS hc hs hh => lv_astore_n ok.1 ok.2.1 d hi hh hn hl (fun ls' h' => k ok H locs cells slots ls' hR hS hc hs h')
theorem xr_astore {i : Nat} {v : Nat} {loc' : List (Nat × Value)} (d : decode M.1 pc = .ok (.astore i, 2)) (hn : i < M.2.1) (hl : x_st1 loc i (.ref v) = loc') (k : xV w K M Q x (pc + 2) loc' st) : xV w K M Q x pc loc (.ref v :: st) :=
  fun ok H locs cells slots ls hR hS hc hs hh => lv_astore ok.1 ok.2.1 d hh hn hl (fun ls' h' => k ok H locs cells slots ls' hR hS hc hs h')
theorem xr_iinc {i : Nat} (j : Nat) {n : Int} {v u : Int32} {loc' : List (Nat × Value)} (d : decode M.1 pc = .ok (.iinc i n, 3)) (hj : loc[j]? = some (i, .int v)) (hu : Int32.ofInt n = u) (hn : i < M.2.1) (hl : x_st1 loc i (.int (v + u)) = loc') (k : xV w K M Q x (pc + 3) loc' st) : xV w K M Q x pc loc st :=
  fun ok H locs cells slots ls hR hS hc hs hh => lv_iinc ok.1 ok.2.1 d hh hj (by rw [hu]) hn hl (fun ls' h' => k ok H locs cells slots ls' hR hS hc hs h')
theorem xr_iadd {a b : Int32} (d : decode M.1 pc = .ok (.iadd, 1)) (k : xV w K M Q x (pc + 1) loc (.int (a + b) :: st)) : xV w K M Q x pc loc (.int b :: .int a :: st) := xV_of (fun ok _ _ _ _ _ _ h => lv_iadd ok.1 ok.2.1 d h) k
theorem xr_isub {a b : Int32} (d : decode M.1 pc = .ok (.isub, 1)) (k : xV w K M Q x (pc + 1) loc (.int (a - b) :: st)) : xV w K M Q x pc loc (.int b :: .int a :: st) := xV_of (fun ok _ _ _ _ _ _ h => lv_isub ok.1 ok.2.1 d h) k
theorem xr_imul {a b : Int32} (d : decode M.1 pc = .ok (.imul, 1)) (k : xV w K M Q x (pc + 1) loc (.int (a * b) :: st)) : xV w K M Q x pc loc (.int b :: .int a :: st) := xV_of (fun ok _ _ _ _ _ _ h => lv_imul ok.1 ok.2.1 d h) k
theorem xr_iand {a b : Int32} (d : decode M.1 pc = .ok (.iand, 1)) (k : xV w K M Q x (pc + 1) loc (.int (a &&& b) :: st)) : xV w K M Q x pc loc (.int b :: .int a :: st) := xV_of (fun ok _ _ _ _ _ _ h => lv_iand ok.1 ok.2.1 d h) k
theorem xr_ior {a b : Int32} (d : decode M.1 pc = .ok (.ior, 1)) (k : xV w K M Q x (pc + 1) loc (.int (a ||| b) :: st)) : xV w K M Q x pc loc (.int b :: .int a :: st) := xV_of (fun ok _ _ _ _ _ _ h => lv_ior ok.1 ok.2.1 d h) k
theorem xr_ixor {a b : Int32} (d : decode M.1 pc = .ok (.ixor, 1)) (k : xV w K M Q x (pc + 1) loc (.int (a ^^^ b) :: st)) : xV w K M Q x pc loc (.int b :: .int a :: st) := xV_of (fun ok _ _ _ _ _ _ h => lv_ixor ok.1 ok.2.1 d h) k
theorem xr_ladd {a b : Int64} (d : decode M.1 pc = .ok (.ladd, 1)) (k : xV w K M Q x (pc + 1) loc (.long (a + b) :: st)) : xV w K M Q x pc loc (.long b :: .long a :: st) := xV_of (fun ok _ _ _ _ _ _ h => lv_ladd ok.1 ok.2.1 d h) k
theorem xr_lsub {a b : Int64} (d : decode M.1 pc = .ok (.lsub, 1)) (k : xV w K M Q x (pc + 1) loc (.long (a - b) :: st)) : xV w K M Q x pc loc (.long b :: .long a :: st) := xV_of (fun ok _ _ _ _ _ _ h => lv_lsub ok.1 ok.2.1 d h) k
theorem xr_lmul {a b : Int64} (d : decode M.1 pc = .ok (.lmul, 1)) (k : xV w K M Q x (pc + 1) loc (.long (a * b) :: st)) : xV w K M Q x pc loc (.long b :: .long a :: st) := xV_of (fun ok _ _ _ _ _ _ h => lv_lmul ok.1 ok.2.1 d h) k
theorem xr_idiv {a b : Int32} (d : decode M.1 pc = .ok (.idiv, 1)) (hne : ¬ b = 0) (k : xV w K M Q x (pc + 1) loc (.int (a / b) :: st)) : xV w K M Q x pc loc (.int b :: .int a :: st) := xV_of (fun ok _ _ _ _ _ _ h => lv_idiv ok.1 ok.2.1 d hne h) k
theorem xr_irem {a b : Int32} (d : decode M.1 pc = .ok (.irem, 1)) (hne : ¬ b = 0) (k : xV w K M Q x (pc + 1) loc (.int (a - a / b * b) :: st)) : xV w K M Q x pc loc (.int b :: .int a :: st) := xV_of (fun ok _ _ _ _ _ _ h => lv_irem ok.1 ok.2.1 d hne h) k
theorem xr_ldiv {a b : Int64} (d : decode M.1 pc = .ok (.ldiv, 1)) (hne : ¬ b = 0) (k : xV w K M Q x (pc + 1) loc (.long (a / b) :: st)) : xV w K M Q x pc loc (.long b :: .long a :: st) := xV_of (fun ok _ _ _ _ _ _ h => lv_ldiv ok.1 ok.2.1 d hne h) k
theorem xr_lrem {a b : Int64} (d : decode M.1 pc = .ok (.lrem, 1)) (hne : ¬ b = 0) (k : xV w K M Q x (pc + 1) loc (.long (a - a / b * b) :: st)) : xV w K M Q x pc loc (.long b :: .long a :: st) := xV_of (fun ok _ _ _ _ _ _ h => lv_lrem ok.1 ok.2.1 d hne h) k
theorem xr_ineg {a : Int32} (d : decode M.1 pc = .ok (.ineg, 1)) (k : xV w K M Q x (pc + 1) loc (.int (-a) :: st)) : xV w K M Q x pc loc (.int a :: st) := xV_of (fun ok _ _ _ _ _ _ h => lv_ineg ok.1 ok.2.1 d h) k
theorem xr_lneg {a : Int64} (d : decode M.1 pc = .ok (.lneg, 1)) (k : xV w K M Q x (pc + 1) loc (.long (-a) :: st)) : xV w K M Q x pc loc (.long a :: st) := xV_of (fun ok _ _ _ _ _ _ h => lv_lneg ok.1 ok.2.1 d h) k
theorem xr_ishl {a b : Int32} (d : decode M.1 pc = .ok (.ishl, 1)) (k : xV w K M Q x (pc + 1) loc (.int (a <<< (b &&& 31)) :: st)) : xV w K M Q x pc loc (.int b :: .int a :: st) := xV_of (fun ok _ _ _ _ _ _ h => lv_ishl ok.1 ok.2.1 d h) k
theorem xr_ishr {a b : Int32} (d : decode M.1 pc = .ok (.ishr, 1)) (k : xV w K M Q x (pc + 1) loc (.int (a >>> (b &&& 31)) :: st)) : xV w K M Q x pc loc (.int b :: .int a :: st) := xV_of (fun ok _ _ _ _ _ _ h => lv_ishr ok.1 ok.2.1 d h) k
theorem xr_iushr {a b : Int32} (d : decode M.1 pc = .ok (.iushr, 1)) (k : xV w K M Q x (pc + 1) loc (.int (a.toUInt32 >>> (b.toUInt32 &&& Int32.toUInt32 31)).toInt32 :: st)) : xV w K M Q x pc loc (.int b :: .int a :: st) := xV_of (fun ok _ _ _ _ _ _ h => lv_iushr ok.1 ok.2.1 d rfl h) k
theorem xr_i2l {a : Int32} (d : decode M.1 pc = .ok (.i2l, 1)) (k : xV w K M Q x (pc + 1) loc (.long a.toInt64 :: st)) : xV w K M Q x pc loc (.int a :: st) := xV_of (fun ok _ _ _ _ _ _ h => lv_i2l ok.1 ok.2.1 d rfl h) k
theorem xr_l2i {a : Int64} (d : decode M.1 pc = .ok (.l2i, 1)) (k : xV w K M Q x (pc + 1) loc (.int a.toInt32 :: st)) : xV w K M Q x pc loc (.long a :: st) := xV_of (fun ok _ _ _ _ _ _ h => lv_l2i ok.1 ok.2.1 d rfl h) k
theorem xr_i2b {a : Int32} (d : decode M.1 pc = .ok (.i2b, 1)) (k : xV w K M Q x (pc + 1) loc (.int a.toInt8.toInt32 :: st)) : xV w K M Q x pc loc (.int a :: st) := xV_of (fun ok _ _ _ _ _ _ h => lv_i2b ok.1 ok.2.1 d rfl h) k
theorem xr_i2c {a : Int32} (d : decode M.1 pc = .ok (.i2c, 1)) (k : xV w K M Q x (pc + 1) loc (.int (a.toUInt32 % 65536).toInt32 :: st)) : xV w K M Q x pc loc (.int a :: st) := xV_of (fun ok _ _ _ _ _ _ h => lv_i2c ok.1 ok.2.1 d rfl h) k
theorem xr_lcmp {a b : Int64} (d : decode M.1 pc = .ok (.lcmp, 1)) (k : xV w K M Q x (pc + 1) loc (.int (lg_cmp a b) :: st)) : xV w K M Q x pc loc (.long b :: .long a :: st) := xV_of (fun ok _ _ _ _ _ _ h => W.lcmp ok.1 ok.2.1 d h) k
theorem xr_dup {a : Value} (d : decode M.1 pc = .ok (.dup, 1)) (ha : a.category = 1) (k : xV w K M Q x (pc + 1) loc (a :: a :: st)) : xV w K M Q x pc loc (a :: st) := xV_of (fun ok _ _ _ _ _ _ h => lv_dup ok.1 ok.2.1 d ha h) k
theorem xr_pop {a : Value} (d : decode M.1 pc = .ok (.pop, 1)) (ha : a.category = 1) (k : xV w K M Q x (pc + 1) loc st) : xV w K M Q x pc loc (a :: st) := xV_of (fun ok _ _ _ _ _ _ h => lv_pop ok.1 ok.2.1 d ha h) k
theorem xr_dup_x1 {a b : Value} (d : decode M.1 pc = .ok (.dup_x1, 1)) (ha : a.category = 1) (hb : b.category = 1) (k : xV w K M Q x (pc + 1) loc (a :: b :: a :: st)) : xV w K M Q x pc loc (a :: b :: st) := xV_of (fun ok _ _ _ _ _ _ h => lv_dup_x1 ok.1 ok.2.1 d ha hb h) k
theorem xr_dup_x2 {a b c : Value} (d : decode M.1 pc = .ok (.dup_x2, 1)) (ha : a.category = 1) (hb : b.category = 1) (hc : c.category = 1) (k : xV w K M Q x (pc + 1) loc (a :: b :: c :: a :: st)) : xV w K M Q x pc loc (a :: b :: c :: st) := xV_of (fun ok _ _ _ _ _ _ h => lv_dup_x2 ok.1 ok.2.1 d ha hb hc h) k
theorem xr_dup2_11 {a b : Value} (d : decode M.1 pc = .ok (.dup2, 1)) (ha : a.category = 1) (hb : b.category = 1) (k : xV w K M Q x (pc + 1) loc (a :: b :: a :: b :: st)) : xV w K M Q x pc loc (a :: b :: st) := xV_of (fun ok _ _ _ _ _ _ h => lv_dup2_11 ok.1 ok.2.1 d ha hb h) k
theorem xr_dup2_2 {a : Value} (d : decode M.1 pc = .ok (.dup2, 1)) (ha : a.category = 2) (k : xV w K M Q x (pc + 1) loc (a :: a :: st)) : xV w K M Q x pc loc (a :: st) := xV_of (fun ok _ _ _ _ _ _ h => lv_dup2_2 ok.1 ok.2.1 d ha h) k
theorem xr_goto {off : Int} (tgt : Nat) (d : decode M.1 pc = .ok (.goto off, 3)) (ht : (pc : Int) + off = (tgt : Int)) (k : xV w K M Q x tgt loc st) : xV w K M Q x pc loc st := xV_of (fun ok _ _ _ _ _ _ h => lv_goto ok.1 ok.2.1 d ht h) k
theorem xr_if_eq {a : Int32} {off : Int} (tgt : Nat) (d : decode M.1 pc = .ok (.ifCond .eq off, 3)) (ht : (pc : Int) + off = (tgt : Int)) (kt : a = 0 → xV w K M Q x tgt loc st) (kf : ¬ a = 0 → xV w K M Q x (pc + 3) loc st) : xV w K M Q x pc loc (.int a :: st) :=
  fun ok H locs cells slots ls hR hS hc hs hl => lv_if_eq ok.1 ok.2.1 d ht (fun h => kt h ok H locs cells slots ls hR hS hc hs hl) (fun h => kf h ok H locs cells slots ls hR hS hc hs hl)
theorem xr_if_ne {a : Int32} {off : Int} (tgt : Nat) (d : decode M.1 pc = .ok (.ifCond .ne off, 3)) (ht : (pc : Int) + off = (tgt : Int)) (kf : a = 0 → xV w K M Q x (pc + 3) loc st) (kt : ¬ a = 0 → xV w K M Q x tgt loc st) : xV w K M Q x pc loc (.int a :: st) :=
  fun ok H locs cells slots ls hR hS hc hs hl => lv_if_ne ok.1 ok.2.1 d ht (fun h => kt h ok H locs cells slots ls hR hS hc hs hl) (fun h => kf h ok H locs cells slots ls hR hS hc hs hl)
theorem xr_if_lt {a : Int32} {off : Int} (tgt : Nat) (d : decode M.1 pc = .ok (.ifCond .lt off, 3)) (ht : (pc : Int) + off = (tgt : Int)) (kt : a < 0 → xV w K M Q x tgt loc st) (kf : ¬ a < 0 → xV w K M Q x (pc + 3) loc st) : xV w K M Q x pc loc (.int a :: st) :=
  fun ok H locs cells slots ls hR hS hc hs hl => lv_if_lt ok.1 ok.2.1 d ht (fun h => kt h ok H locs cells slots ls hR hS hc hs hl) (fun h => kf h ok H locs cells slots ls hR hS hc hs hl)
theorem xr_if_ge {a : Int32} {off : Int} (tgt : Nat) (d : decode M.1 pc = .ok (.ifCond .ge off, 3)) (ht : (pc : Int) + off = (tgt : Int)) (kt : 0 ≤ a → xV w K M Q x tgt loc st) (kf : ¬ 0 ≤ a → xV w K M Q x (pc + 3) loc st) : xV w K M Q x pc loc (.int a :: st) :=
  fun ok H locs cells slots ls hR hS hc hs hl => lv_if_ge ok.1 ok.2.1 d ht (fun h => kt h ok H locs cells slots ls hR hS hc hs hl) (fun h => kf h ok H locs cells slots ls hR hS hc hs hl)
theorem xr_if_gt {a : Int32} {off : Int} (tgt : Nat) (d : decode M.1 pc = .ok (.ifCond .gt off, 3)) (ht : (pc : Int) + off = (tgt : Int)) (kt : 0 < a → xV w K M Q x tgt loc st) (kf : ¬ 0 < a → xV w K M Q x (pc + 3) loc st) : xV w K M Q x pc loc (.int a :: st) :=
  fun ok H locs cells slots ls hR hS hc hs hl => lv_if_gt ok.1 ok.2.1 d ht (fun h => kt h ok H locs cells slots ls hR hS hc hs hl) (fun h => kf h ok H locs cells slots ls hR hS hc hs hl)
theorem xr_if_le {a : Int32} {off : Int} (tgt : Nat) (d : decode M.1 pc = .ok (.ifCond .le off, 3)) (ht : (pc : Int) + off = (tgt : Int)) (kt : a ≤ 0 → xV w K M Q x tgt loc st) (kf : ¬ a ≤ 0 → xV w K M Q x (pc + 3) loc st) : xV w K M Q x pc loc (.int a :: st) :=
  fun ok H locs cells slots ls hR hS hc hs hl => lv_if_le ok.1 ok.2.1 d ht (fun h => kt h ok H locs cells slots ls hR hS hc hs hl) (fun h => kf h ok H locs cells slots ls hR hS hc hs hl)
theorem xr_icmp_eq {a b : Int32} {off : Int} (tgt : Nat) (d : decode M.1 pc = .ok (.if_icmp .eq off, 3)) (ht : (pc : Int) + off = (tgt : Int)) (kt : a = b → xV w K M Q x tgt loc st) (kf : ¬ a = b → xV w K M Q x (pc + 3) loc st) : xV w K M Q x pc loc (.int b :: .int a :: st) :=
  fun ok H locs cells slots ls hR hS hc hs hl => lv_icmp_eq ok.1 ok.2.1 d ht (fun h => kt h ok H locs cells slots ls hR hS hc hs hl) (fun h => kf h ok H locs cells slots ls hR hS hc hs hl)
theorem xr_icmp_ne {a b : Int32} {off : Int} (tgt : Nat) (d : decode M.1 pc = .ok (.if_icmp .ne off, 3)) (ht : (pc : Int) + off = (tgt : Int)) (kf : a = b → xV w K M Q x (pc + 3) loc st) (kt : ¬ a = b → xV w K M Q x tgt loc st) : xV w K M Q x pc loc (.int b :: .int a :: st) :=
  fun ok H locs cells slots ls hR hS hc hs hl => lv_icmp_ne ok.1 ok.2.1 d ht (fun h => kt h ok H locs cells slots ls hR hS hc hs hl) (fun h => kf h ok H locs cells slots ls hR hS hc hs hl)
theorem xr_icmp_lt {a b : Int32} {off : Int} (tgt : Nat) (d : decode M.1 pc = .ok (.if_icmp .lt off, 3)) (ht : (pc : Int) + off = (tgt : Int)) (kt : a < b → xV w K M Q x tgt loc st) (kf : ¬ a < b → xV w K M Q x (pc + 3) loc st) : xV w K M Q x pc loc (.int b :: .int a :: st) :=
  fun ok H locs cells slots ls hR hS hc hs hl => lv_icmp_lt ok.1 ok.2.1 d ht (fun h => kt h ok H locs cells slots ls hR hS hc hs hl) (fun h => kf h ok H locs cells slots ls hR hS hc hs hl)
theorem xr_icmp_ge {a b : Int32} {off : Int} (tgt : Nat) (d : decode M.1 pc = .ok (.if_icmp .ge off, 3)) (ht : (pc : Int) + off = (tgt : Int)) (kt : b ≤ a → xV w K M Q x tgt loc st) (kf : ¬ b ≤ a → xV w K M Q x (pc + 3) loc st) : xV w K M Q x pc loc (.int b :: .int a :: st) :=
  fun ok H locs cells slots ls hR hS hc hs hl => lv_icmp_ge ok.1 ok.2.1 d ht (fun h => kt h ok H locs cells slots ls hR hS hc hs hl) (fun h => kf h ok H locs cells slots ls hR hS hc hs hl)
theorem xr_icmp_gt {a b : Int32} {off : Int} (tgt : Nat) (d : decode M.1 pc = .ok (.if_icmp .gt off, 3)) (ht : (pc : Int) + off = (tgt : Int)) (kt : b < a → xV w K M Q x tgt loc st) (kf : ¬ b < a → xV w K M Q x (pc + 3) loc st) : xV w K M Q x pc loc (.int b :: .int a :: st) :=
  fun ok H locs cells slots ls hR hS hc hs hl => lv_icmp_gt ok.1 ok.2.1 d ht (fun h => kt h ok H locs cells slots ls hR hS hc hs hl) (fun h => kf h ok H locs cells slots ls hR hS hc hs hl)
theorem xr_icmp_le {a b : Int32} {off : Int} (tgt : Nat) (d : decode M.1 pc = .ok (.if_icmp .le off, 3)) (ht : (pc : Int) + off = (tgt : Int)) (kt : a ≤ b → xV w K M Q x tgt loc st) (kf : ¬ a ≤ b → xV w K M Q x (pc + 3) loc st) : xV w K M Q x pc loc (.int b :: .int a :: st) :=
  fun ok H locs cells slots ls hR hS hc hs hl => lv_icmp_le ok.1 ok.2.1 d ht (fun h => kt h ok H locs cells slots ls hR hS hc hs hl) (fun h => kf h ok H locs cells slots ls hR hS hc hs hl)
theorem xr_tsw_in {a v : Int32} {dflt lo hi off : Int} {offs : Array Int} {len : Nat} (tgt : Nat) (d : decode M.1 pc = .ok (.tableswitch dflt lo hi offs, len)) (hv : a = v) (h : (decide (v.toInt < lo) || decide (hi < v.toInt)) = false) (ho : offs[(v.toInt - lo).toNat]? = some off) (ht : (pc : Int) + off = (tgt : Int)) (k : xV w K M Q x tgt loc st) : xV w K M Q x pc loc (.int a :: st) := by
  subst hv
  simp only [Bool.or_eq_false_iff, decide_eq_false_iff_not] at h
  exact xV_of (fun ok _ _ _ _ _ _ h' => lv_tableIn ok.1 ok.2.1 d h.1 h.2 ho ht h') k
theorem xsw_out {a : Int32} (lo hi : Int) (l : List Int32) (hl : (List.range (hi - lo + 1).toNat).all (fun k => l.any (fun v => v.toInt == lo + (k : Int))) = true) (hx : ∀ v ∈ l, ¬ a = v) : a.toInt < lo ∨ hi < a.toInt := by
  rcases Int.lt_or_le a.toInt lo with h | h
  · exact Or.inl h
  rcases Int.lt_or_le hi a.toInt with h2 | h2
  · exact Or.inr h2
  have hk := List.all_eq_true.mp hl (a.toInt - lo).toNat (List.mem_range.mpr (by omega))
  obtain ⟨v, hv, e⟩ := List.any_eq_true.mp hk
  have e2 : v.toInt = lo + (((a.toInt - lo).toNat : Nat) : Int) := by simpa using e
  exact absurd (Int32.toInt_inj.mp (show a.toInt = v.toInt by omega)) (hx v hv)
theorem xr_tsw_out {a : Int32} {dflt lo hi : Int} {offs : Array Int} {len : Nat} (tgt : Nat) (d : decode M.1 pc = .ok (.tableswitch dflt lo hi offs, len)) (h : a.toInt < lo ∨ hi < a.toInt) (ht : (pc : Int) + dflt = (tgt : Int)) (k : xV w K M Q x tgt loc st) : xV w K M Q x pc loc (.int a :: st) :=
  xV_of (fun ok _ _ _ _ _ _ h' => lv_tableOut ok.1 ok.2.1 d h ht h') k
theorem xr_lsw {a : Int32} {dflt off : Int} {ps : Array (Int × Int)} {len : Nat} (tgt : Nat) (d : decode M.1 pc = .ok (.lookupswitch dflt ps, len)) (hp : (ps.toList.zip (ps.toList.drop 1)).all (fun (a, next) => a.1 < next.1) = true) (ho : Op.lookupswitch.offset ps.toList dflt a.toInt = off) (ht : (pc : Int) + off = (tgt : Int)) (k : xV w K M Q x tgt loc st) : xV w K M Q x pc loc (.int a :: st) :=
  xV_of (fun ok _ _ _ _ _ _ h' => lv_lookup ok.1 ok.2.1 d hp ho ht h') k
theorem x_end {r : Option Value} {H : Heap} {locs : List Loc} (hR : w.1 x H) (hS : va_S w.2.1 (xKs K).heap H locs) (t : State) (ht : t.heap = H) : xC w (r, x) K.2.2.2.2.2.2.1 (xKs K) (.returned r) t :=
  ⟨rfl, by rw [ht]; exact hR, hS.F ht⟩
theorem xr_iret {v : Int32} (d : decode M.1 pc = .ok (.ireturn, 1)) (hr : M.2.2.2.2.2.1 = some .int) : xV w K M (xQ w K (some (.int v), x)) x pc loc [.int v] := by
  intro ok H locs cells slots ls hR hS hc hs hl
  refine W.widen hc hs ?_
  exact W.iret ok.1 ok.2.1 (ok.2.2.2.2.2.2.2.2.1.trans hr) (fun t ht _ => x_end hR hS t ht) hS.2.2 d (hlocks := ok.2.2.2.2.2.1)
theorem xr_zret {v u : Int32} (d : decode M.1 pc = .ok (.ireturn, 1)) (hr : M.2.2.2.2.2.1 = some .boolean) (hv : v &&& 1 = u) : xV w K M (xQ w K (some (.int u), x)) x pc loc [.int v] := by
  intro ok H locs cells slots ls hR hS hc hs hl
  refine W.widen hc hs ?_
  have hlocks := ok.2.2.2.2.2.1
  have hr := (ok.2.2.2.2.2.2.2.2.1.trans hr)
  have hexec := ok.1
  have hb := ok.2.1
  intro T hT X
  obtain ⟨fs, hret, hrun, hended, hW, hframe⟩ := X.leave (v := some (.int u)) (fun h => by rw [hr] at h; cases h)
  have hmeth' := X.method'
  refine ⟨T.setFrames fs, ?_, .returned (some (.int u)), hrun, hended, x_end hR hS _ hT, locs, ⟨⟨_, rfl⟩, hW, hframe⟩, hS.2.2⟩
  have hn : narrow .boolean (.int v) = .int u := by rw [← hv]; rfl
  jvm_step X.here [X.here.top, hexec, hb, d, hmeth', hr, hn]
  (try refine ⟨rfl, ?_⟩); (try refine ⟨rfl, ?_⟩)
  first | (intro acts; rw [hret _ acts rfl rfl rfl]) | rw [hret _ _ rfl rfl rfl]
  exact Steps.refl _
theorem xr_lret {v : Int64} (d : decode M.1 pc = .ok (.lreturn, 1)) (hr : M.2.2.2.2.2.1 = some .long) : xV w K M (xQ w K (some (.long v), x)) x pc loc [.long v] := by
  intro ok H locs cells slots ls hR hS hc hs hl
  refine W.widen hc hs ?_
  exact W.lret ok.1 ok.2.1 (ok.2.2.2.2.2.2.2.2.1.trans hr) (fun t ht _ => x_end hR hS t ht) hS.2.2 d (hlocks := ok.2.2.2.2.2.1)
theorem xr_vret (d : decode M.1 pc = .ok (.return_, 1)) (hr : M.2.2.2.2.2.1 = none) : xV w K M (xQ w K (none, x)) x pc loc [] := by
  intro ok H locs cells slots ls hR hS hc hs hl
  refine W.widen hc hs ?_
  exact W.vret ok.1 ok.2.1 (ok.2.2.2.2.2.2.2.2.1.trans hr) (fun t ht _ => x_end hR hS t ht) hS.2.2 d (hlocks := ok.2.2.2.2.2.1)
/-- what a call asks of its callee, whatever the caller: own class of the caller, place in its pool, class, method, code -/
theorem x_blind {as : List Value} (h : xKp w.2.2.1) : FrameBlind (va_Pc as (fun U => w.2.2.1 U ∧ w.1 x U.heap)) := by
  intro a U g mk q
  obtain ⟨q0, q1, q2⟩ := q
  exact ⟨q0, h.2 U _ rfl q1, q2⟩
theorem x_go {v : Option Value} {x1 : S} {loc : List (Nat × Value)} {rest st : List Value} {H : Heap} {locs : List Loc} {cells slots : Nat} {ls : Array Slot} {a : Array Value} (ok : xOK w K M) (hS : va_S w.2.1 (xKs K).heap H locs) (hc : cells ≤ (xKR K).cells) (hs : slots ≤ (xKR K).slots) (hl : lv_has ls M.2.1 loc)
    (hr : va_Run K.1 K.2.1 K.2.2.1 (xKR K) (xKs K) (xKm K) K.2.2.2.2.2.2.1 K.2.2.2.2.2.2.2.1 K.2.2.2.2.2.2.2.2.1 K.2.2.2.2.2.2.2.2.2 H locs cells slots 0 0 (F0 (xKm K) pc ls st) rest (xC w (v, x1) a) w.2.1)
    (k : xV w K M Q x1 (pc + 3) loc (v.toList ++ rest)) : xU K H locs cells slots Q (F0 (xKm K) pc ls st) := by
  intro T hT X
  obtain ⟨v', st₀, t, T', L, h0, X', hL, e1, e2, ⟨hv, hR1, hz, hk⟩, go⟩ := hr T hT X
  cases hv
  rw [h0] at hz hk
  obtain ⟨t2, a1, b1⟩ := k ok T'.heap (locs ++ L) cells slots ls (by rw [e1]; exact hR1)
    ⟨Nat.le_trans hS.1 (by rw [e1]; exact hz), fun q h1 h2 => by rw [e1, hk q (Nat.lt_of_lt_of_le h1 hS.1) h2]; exact hS.2.1 q h1 h2, fun q hq => by
      rcases List.mem_append.mp hq with h | h
      · exact hS.2.2 q h
      · exact hL q h⟩ hc hs hl T' rfl X'
  exact ⟨t2, go t2 a1, b1⟩
theorem xr_callV {x1 : S} {v : Option Value} {y : MethodName} {C own : String} {index n nL fr lo : Nat} {bytes : ByteArray} {ret : Option FieldType} {b : Nat} {As rest : List Value}
    (hM : xMet w K.2.1 y (ws_ y bytes nL ret) fr lo 0 0 (.ref b :: As) x (v, x1)) (hT : GoodIn lw_all (wsV own index C y (ws_ y bytes nL ret)))
    (hd : y.cls = C ∧ y.cls ≠ "java/lang/invoke/MethodHandle" ∧ y.cls ≠ "java/lang/invoke/VarHandle" ∧ (parseMethodDescriptor y.desc).map (fun d => d.parameters.length) = some n)
    (ho : M.2.2.1 = own) (hfr : fr + 1 ≤ M.2.2.2.1) (hlo : 8 + (nL + 11) + lo ≤ M.2.2.2.2.1) (hn : As.length = n)
    (hrec : ∀ H : Heap, w.1 x H → w.2.2.1 (xKs K) → ∃ cellB : Cell, H[b]? = some cellB ∧ cellB.vm.isStatics = false ∧ (xKs K).vm.findClass C = some cellB.cls)
    (hst : st = As.reverse ++ .ref b :: rest) (hcat : (rest.map fun v => v.category).sum ≤ 8) (d : decode M.1 pc = .ok (.invokevirtual index, 3))
    (k : xV w K M Q x1 (pc + 3) loc (v.toList ++ rest)) : xV w K M Q x pc loc st := by
  intro ok H locs cells slots ls hR hS hc hs hl
  subst ho
  refine x_go ok hS hc hs hl (va_runV (As := As) (rest := rest) ⟨ok.1, ok.2.1, ok.2.2.1, ok.2.2.2.1, ok.2.2.2.2.1⟩ hM (cwV n ok.2.2.2.2.1 hT rfl rfl rfl hd ⟨Nat.le_trans hfr ok.2.2.2.2.2.2.1, Nat.le_trans hlo ok.2.2.2.2.2.2.2.1⟩)
    ⟨x_blind ok.2.2.2.2.2.2.2.2.2.2.1, hrec H hR ok.2.2.2.2.2.2.2.2.2.1, fun U hU hW => ⟨rfl, ok.2.2.2.2.2.2.2.2.2.2.1.1 _ _ hW ok.2.2.2.2.2.2.2.2.2.1, by rw [hU]; exact hR⟩⟩ rfl hn hl.1 hst (lv_room hcat) d ⟨hc, hs⟩) k
theorem xr_callS {x1 : S} {v : Option Value} {y : MethodName} {own : String} {index n nL fr lo : Nat} {bytes : ByteArray} {ret : Option FieldType} {As rest : List Value}
    (hM : xMet w K.2.1 y (ws_ y bytes nL ret) fr lo 0 0 As x (v, x1)) (hT : GoodIn lw_all (va_wsS own index y (ws_ y bytes nL ret)))
    (hd : y.cls ≠ "java/lang/invoke/MethodHandle" ∧ y.cls ≠ "java/lang/invoke/VarHandle" ∧ (parseMethodDescriptor y.desc).map (fun d => d.parameters.length) = some n)
    (ho : M.2.2.1 = own) (hfr : fr + 1 ≤ M.2.2.2.1) (hlo : 8 + (nL + 11) + lo ≤ M.2.2.2.2.1) (hn : As.length = n)
    (hst : st = As.reverse ++ rest) (hcat : (rest.map fun v => v.category).sum ≤ 8) (d : decode M.1 pc = .ok (.invokestatic index, 3))
    (k : xV w K M Q x1 (pc + 3) loc (v.toList ++ rest)) : xV w K M Q x pc loc st := by
  intro ok H locs cells slots ls hR hS hc hs hl
  subst ho
  refine x_go ok hS hc hs hl (va_runS (As := As) (rest := rest) ⟨ok.1, ok.2.1, ok.2.2.1, ok.2.2.2.1, ok.2.2.2.2.1⟩ hM (va_cwS n ok.2.2.2.2.1 hT rfl rfl rfl hd ⟨Nat.le_trans hfr ok.2.2.2.2.2.2.1, Nat.le_trans hlo ok.2.2.2.2.2.2.2.1⟩)
    ⟨x_blind ok.2.2.2.2.2.2.2.2.2.2.1, fun U hU hW => ⟨rfl, ok.2.2.2.2.2.2.2.2.2.2.1.1 _ _ hW ok.2.2.2.2.2.2.2.2.2.1, by rw [hU]; exact hR⟩⟩ rfl hn hl.1 hst (lv_room hcat) d ⟨hc, hs⟩) k
end XR
/-! loops: one combinator with fuel -/
def itr {α β : Type} (B : α → Option (α ⊕ β)) : Nat → α → Option β
  | 0, _ => none
  | n + 1, a => match B a with
    | none => none
    | some (.inl a') => itr B n a'
    | some (.inr b) => some b
theorem itr_rule {α β : Type} {B : α → Option (α ⊕ β)} {P : α → Prop} {b : β} (h : ∀ a r, B a = some r → (∀ a', r = .inl a' → P a') → (∀ b', r = .inr b' → b' = b) → P a) : ∀ n a, itr B n a = some b → P a := by
  intro n
  induction n with
  | zero => intro a e; cases e
  | succ n ih =>
    intro a e
    unfold itr at e
    cases hB : B a with
    | none => rw [hB] at e; cases e
    | some r =>
      rw [hB] at e
      refine h a r hB (fun a' ha => ?_) (fun b' hb => ?_)
      · subst ha; exact ih a' e
      · subst hb; exact Option.some.inj e
theorem xo_bind {α β : Type} {o : Option α} {f : α → Option β} {r : β} (h : o.bind f = some r) : ∃ a, o = some a ∧ f a = some r := by
  cases o with
  | none => cases h
  | some a => exact ⟨a, rfl, h⟩
theorem xo_if {c : Prop} [Decidable c] {α : Type} {a : Option α} {r : α} (h : (if c then a else none) = some r) : c ∧ a = some r := by
  by_cases hc : c
  · rw [if_pos hc] at h; exact ⟨hc, h⟩
  · rw [if_neg hc] at h; cases h
