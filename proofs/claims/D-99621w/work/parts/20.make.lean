/-! rows of constructors -/
set_option maxRecDepth 100000
theorem xr_objInit {S : Type} {w : xW S} {K : xK} {M : xM} {Q : State → Prop} {x : S} {pc : Nat} {loc : List (Nat × Value)} {st : List Value} {own : String} {index a : Nat} (ql : Cond.methodLink own index Lib.objectInit ∈ lw_all) (ho : M.2.2.1 = own) (hfr : 1 ≤ M.2.2.2.1) (hlo : 20 ≤ M.2.2.2.2.1) (hcat : (st.map fun v => v.category).sum ≤ 8) (d : decode M.1 pc = .ok (.invokespecial index, 3)) (k : xV w K M Q x (pc + 3) loc st) : xV w K M Q x pc loc (.ref a :: st) := by
  intro ok H locs cells slots ls hR hS hc hs hl
  subst ho
  have h1 : 1 ≤ (xKR K).frames := Nat.le_trans hfr ok.2.2.2.2.2.2.1
  have h2 : 20 ≤ (xKR K).locals := Nat.le_trans hlo ok.2.2.2.2.2.2.2.1
  have h3 : 2 * (F0 (xKm K) pc ls (.ref a :: st)).monitorRoom + (st.map fun v => v.category).sum ≤ 8 := lv_room hcat
  exact W.objInit ok.1 ok.2.1 ok.2.2.2.1 (ok.2.2.2.2.1 _ ql) (ok.2.2.2.2.1 _ q218) (ok.2.2.2.2.1 _ q219) rfl (hl.1.trans ok.2.2.1.symm) rfl d h1 (by omega) (k ok H locs cells slots ls hR hS hc hs hl)
/-- a truth -/
def xbl (u : Int32) : Bool := u == 0 || u == 1
theorem xbl_n {u : Int32} (h : xbl u = true) : narrow .boolean (.int u) = .int u := by
  unfold xbl at h
  simp only [Bool.or_eq_true, beq_iff_eq] at h
  rcases h with h | h <;> subst h <;> rfl
theorem xbl_f {u : Int32} (h : xbl u = true) : fits .boolean (.int u) = true := by
  unfold xbl at h
  simp only [Bool.or_eq_true, beq_iff_eq] at h
  rcases h with h | h <;> subst h <;> decide +kernel
theorem gT_nG {g : CG} {t len sl : Nat} : gT (nG g t len sl) (gz g) = t := by simp [gT, nG]
theorem gT_mG {g : CG} {oc N M : Nat} : gT (mG g oc N M) (gz g) = oc := by simp [gT, mG]
/-- making as a function: the address, the world behind it -/
def aNew (t : Nat) (τ : CS) : Option (Nat × CS) := if rmG τ.1 (kN t) = true then some (gz τ.1, (nG τ.1 t 0 (kN t), zC τ.2 (gz τ.1))) else none
def aArr (t : Nat) (n : Int32) (τ : CS) : Option (Nat × CS) := if xnew τ.1 n = true then some (gz τ.1, (nG τ.1 t n.toNatClampNeg n.toNatClampNeg, zC τ.2 (gz τ.1))) else none
def aMul (oc : Nat) (n k : Int32) (τ : CS) : Option (Nat × CS) := if xmul τ.1 n k = true then some (gz τ.1, (mG τ.1 oc n.toNatClampNeg k.toNatClampNeg, mC τ.2 (gz τ.1) n.toNatClampNeg)) else none
theorem aNew_T {t r : Nat} {τ τ1 : CS} (h : aNew t τ = some (r, τ1)) : gT τ1.1 r = t := by
  obtain ⟨-, h⟩ := xo_if h
  cases h
  exact gT_nG
theorem aArr_T {t r : Nat} {n : Int32} {τ τ1 : CS} (h : aArr t n τ = some (r, τ1)) : gT τ1.1 r = t := by
  obtain ⟨-, h⟩ := xo_if h
  cases h
  exact gT_nG
theorem aMul_T {oc r : Nat} {n k : Int32} {τ τ1 : CS} (h : aMul oc n k τ = some (r, τ1)) : gT τ1.1 r = oc := by
  obtain ⟨-, h⟩ := xo_if h
  cases h
  exact gT_mG
section YM
variable {D : CD} {P : CP} {K : xK} {M : xM} {Q : State → Prop} {τ τ1 : CS} {pc r : Nat} {loc : List (Nat × Value)} {st : List Value}
theorem yc_aNew {own : String} {index : Nat} (t : Nat) (h0 : 0 < t) (h1 : t < 22) (ql : Cond.classLink own index (kC t) ∈ lw_all) (qi : Cond.instantiable (kC t) (kN t) ∈ lw_all) (qn : Cond.initialized (kC t) ∈ lw_all) (hf : aNew t τ = some (r, τ1)) (ho : M.2.2.1 = own) (d : decode M.1 pc = .ok (.new index, 3))
    (kk : xV (wC D P) K M Q τ1 (pc + 3) loc (.ref r :: st)) : xV (wC D P) K M Q τ pc loc st := by
  obtain ⟨h, e⟩ := xo_if hf
  cases e
  exact yc_new (g := τ.1) (c := τ.2) t h0 h1 ql qi qn h ho d kk
theorem yc_aArr {atype : ArrayType} {n : Int32} (t : Nat) (h0 : 100 ≤ t) (h1 : t < 111) (hty : newarray.typeOf atype = aty t) (ha : aknd t = 0 ∨ aknd t = 1) (hd : defaultValue (aty t) = if aknd t = 0 then .int 0 else if aknd t = 1 then .long 0 else .null) (hcb : componentBytes (aty t) ≤ 8) (q : Cond.arrayClass (aty t) ∈ lw_all) (hf : aArr t n τ = some (r, τ1)) (d : decode M.1 pc = .ok (.newarray atype, 2))
    (kk : xV (wC D P) K M Q τ1 (pc + 2) loc (.ref r :: st)) : xV (wC D P) K M Q τ pc loc (.int n :: st) := by
  obtain ⟨h, e⟩ := xo_if hf
  cases e
  exact yc_newa (g := τ.1) (c := τ.2) t h0 h1 hty ha hd hcb q h d kk
theorem yc_aArrO {own C : String} {index : Nat} {n : Int32} (t : Nat) (h0 : 100 ≤ t) (h1 : t < 111) (hty : aty t = .object C) (ha : aknd t = 2) (ql : Cond.classLink own index C ∈ lw_all) (qo : (.object C : FieldType) ∈ aoL) (hf : aArr t n τ = some (r, τ1)) (ho : M.2.2.1 = own) (d : decode M.1 pc = .ok (.anewarray index, 3))
    (kk : xV (wC D P) K M Q τ1 (pc + 3) loc (.ref r :: st)) : xV (wC D P) K M Q τ pc loc (.int n :: st) := by
  obtain ⟨h, e⟩ := xo_if hf
  cases e
  exact yc_anew (g := τ.1) (c := τ.2) t h0 h1 hty ha ql qo h ho d kk
theorem yc_aMul {own : String} {index : Nat} {n k : Int32} (oc : Nat) (hoc : oc = 105 ∨ oc = 107) (ql : Cond.classLink own index "[[I" ∈ lw_all) (qa : Cond.arrayClass .int ∈ lw_all) (hf : aMul oc n k τ = some (r, τ1)) (ho : M.2.2.1 = own) (d : decode M.1 pc = .ok (.multianewarray index 2, 4))
    (kk : xV (wC D P) K M Q τ1 (pc + 4) loc (.ref r :: st)) : xV (wC D P) K M Q τ pc loc (.int k :: .int n :: st) := by
  obtain ⟨h, e⟩ := xo_if hf
  cases e
  exact yc_multi (g := τ.1) (c := τ.2) oc hoc ql qa h ho d kk
end YM
