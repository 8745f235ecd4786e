set_option maxRecDepth 100000
abbrev mJ16_bitCount : xM := (cJ16_bitCount, 1, RJ16, 0, 0, (some .int), "bitCount")
def f_c_J16_bitCount (g : CG) (x0 : Int32) (τ : CC) : Option (Int32 × CC) :=
  some (((((((((x0 - ((((x0 : Int32).toUInt32 >>> ((1 : Int32).toUInt32 &&& Int32.toUInt32 31)).toInt32) &&& 1431655765)) &&& 858993459) + (((((x0 - ((((x0 : Int32).toUInt32 >>> ((1 : Int32).toUInt32 &&& Int32.toUInt32 31)).toInt32) &&& 1431655765)) : Int32).toUInt32 >>> ((2 : Int32).toUInt32 &&& Int32.toUInt32 31)).toInt32) &&& 858993459)) + ((((((x0 - ((((x0 : Int32).toUInt32 >>> ((1 : Int32).toUInt32 &&& Int32.toUInt32 31)).toInt32) &&& 1431655765)) &&& 858993459) + (((((x0 - ((((x0 : Int32).toUInt32 >>> ((1 : Int32).toUInt32 &&& Int32.toUInt32 31)).toInt32) &&& 1431655765)) : Int32).toUInt32 >>> ((2 : Int32).toUInt32 &&& Int32.toUInt32 31)).toInt32) &&& 858993459)) : Int32).toUInt32 >>> ((4 : Int32).toUInt32 &&& Int32.toUInt32 31)).toInt32)) &&& 252645135) + ((((((((x0 - ((((x0 : Int32).toUInt32 >>> ((1 : Int32).toUInt32 &&& Int32.toUInt32 31)).toInt32) &&& 1431655765)) &&& 858993459) + (((((x0 - ((((x0 : Int32).toUInt32 >>> ((1 : Int32).toUInt32 &&& Int32.toUInt32 31)).toInt32) &&& 1431655765)) : Int32).toUInt32 >>> ((2 : Int32).toUInt32 &&& Int32.toUInt32 31)).toInt32) &&& 858993459)) + ((((((x0 - ((((x0 : Int32).toUInt32 >>> ((1 : Int32).toUInt32 &&& Int32.toUInt32 31)).toInt32) &&& 1431655765)) &&& 858993459) + (((((x0 - ((((x0 : Int32).toUInt32 >>> ((1 : Int32).toUInt32 &&& Int32.toUInt32 31)).toInt32) &&& 1431655765)) : Int32).toUInt32 >>> ((2 : Int32).toUInt32 &&& Int32.toUInt32 31)).toInt32) &&& 858993459)) : Int32).toUInt32 >>> ((4 : Int32).toUInt32 &&& Int32.toUInt32 31)).toInt32)) &&& 252645135) : Int32).toUInt32 >>> ((8 : Int32).toUInt32 &&& Int32.toUInt32 31)).toInt32)) + (((((((((x0 - ((((x0 : Int32).toUInt32 >>> ((1 : Int32).toUInt32 &&& Int32.toUInt32 31)).toInt32) &&& 1431655765)) &&& 858993459) + (((((x0 - ((((x0 : Int32).toUInt32 >>> ((1 : Int32).toUInt32 &&& Int32.toUInt32 31)).toInt32) &&& 1431655765)) : Int32).toUInt32 >>> ((2 : Int32).toUInt32 &&& Int32.toUInt32 31)).toInt32) &&& 858993459)) + ((((((x0 - ((((x0 : Int32).toUInt32 >>> ((1 : Int32).toUInt32 &&& Int32.toUInt32 31)).toInt32) &&& 1431655765)) &&& 858993459) + (((((x0 - ((((x0 : Int32).toUInt32 >>> ((1 : Int32).toUInt32 &&& Int32.toUInt32 31)).toInt32) &&& 1431655765)) : Int32).toUInt32 >>> ((2 : Int32).toUInt32 &&& Int32.toUInt32 31)).toInt32) &&& 858993459)) : Int32).toUInt32 >>> ((4 : Int32).toUInt32 &&& Int32.toUInt32 31)).toInt32)) &&& 252645135) + ((((((((x0 - ((((x0 : Int32).toUInt32 >>> ((1 : Int32).toUInt32 &&& Int32.toUInt32 31)).toInt32) &&& 1431655765)) &&& 858993459) + (((((x0 - ((((x0 : Int32).toUInt32 >>> ((1 : Int32).toUInt32 &&& Int32.toUInt32 31)).toInt32) &&& 1431655765)) : Int32).toUInt32 >>> ((2 : Int32).toUInt32 &&& Int32.toUInt32 31)).toInt32) &&& 858993459)) + ((((((x0 - ((((x0 : Int32).toUInt32 >>> ((1 : Int32).toUInt32 &&& Int32.toUInt32 31)).toInt32) &&& 1431655765)) &&& 858993459) + (((((x0 - ((((x0 : Int32).toUInt32 >>> ((1 : Int32).toUInt32 &&& Int32.toUInt32 31)).toInt32) &&& 1431655765)) : Int32).toUInt32 >>> ((2 : Int32).toUInt32 &&& Int32.toUInt32 31)).toInt32) &&& 858993459)) : Int32).toUInt32 >>> ((4 : Int32).toUInt32 &&& Int32.toUInt32 31)).toInt32)) &&& 252645135) : Int32).toUInt32 >>> ((8 : Int32).toUInt32 &&& Int32.toUInt32 31)).toInt32)) : Int32).toUInt32 >>> ((16 : Int32).toUInt32 &&& Int32.toUInt32 31)).toInt32)) &&& 63, τ))
theorem ok_f_c_J16_bitCount {D : CD} {P : CP} {K : xK} {g : CG} {Z : Option Value × CS} {x0 : Int32} {τ : CC} {o_ : (Int32 × CC)} (hf : f_c_J16_bitCount g x0 τ = some o_) (kr : ∀ r_ : (Int32 × CC), o_ = r_ → Z = (some (.int r_.1), (g, r_.2))) : xV (wC D P) K mJ16_bitCount (xQ (wC D P) K Z) (g, τ) 0 [(0, .int x0)] [] := by
  unfold f_c_J16_bitCount at hf
  refine xr_iload_n (pc := 0) 0 dJ16_bitCount_0 rfl rfl ?_
  refine xr_iload_n (pc := 1) 0 dJ16_bitCount_1 rfl rfl ?_
  refine xr_iconst (pc := 2) dJ16_bitCount_2 xci_1 ?_
  refine xr_iushr (pc := 3) dJ16_bitCount_3 ?_
  refine xr_ldcw (pc := 4) q1552 dJ16_bitCount_4 ?_
  refine xr_iand (pc := 7) dJ16_bitCount_7 ?_
  refine xr_isub (pc := 8) dJ16_bitCount_8 ?_
  refine xr_istore_n (pc := 9) (loc' := [(0, .int (x0 - ((((x0 : Int32).toUInt32 >>> ((1 : Int32).toUInt32 &&& Int32.toUInt32 31)).toInt32) &&& 1431655765)))]) dJ16_bitCount_9 rfl (by decide) rfl ?_
  refine xr_iload_n (pc := 10) 0 dJ16_bitCount_10 rfl rfl ?_
  refine xr_ldcw (pc := 11) q1553 dJ16_bitCount_11 ?_
  refine xr_iand (pc := 14) dJ16_bitCount_14 ?_
  refine xr_iload_n (pc := 15) 0 dJ16_bitCount_15 rfl rfl ?_
  refine xr_iconst (pc := 16) dJ16_bitCount_16 xci_2 ?_
  refine xr_iushr (pc := 17) dJ16_bitCount_17 ?_
  refine xr_ldcw (pc := 18) q1553 dJ16_bitCount_18 ?_
  refine xr_iand (pc := 21) dJ16_bitCount_21 ?_
  refine xr_iadd (pc := 22) dJ16_bitCount_22 ?_
  refine xr_istore_n (pc := 23) (loc' := [(0, .int (((x0 - ((((x0 : Int32).toUInt32 >>> ((1 : Int32).toUInt32 &&& Int32.toUInt32 31)).toInt32) &&& 1431655765)) &&& 858993459) + (((((x0 - ((((x0 : Int32).toUInt32 >>> ((1 : Int32).toUInt32 &&& Int32.toUInt32 31)).toInt32) &&& 1431655765)) : Int32).toUInt32 >>> ((2 : Int32).toUInt32 &&& Int32.toUInt32 31)).toInt32) &&& 858993459)))]) dJ16_bitCount_23 rfl (by decide) rfl ?_
  refine xr_iload_n (pc := 24) 0 dJ16_bitCount_24 rfl rfl ?_
  refine xr_iload_n (pc := 25) 0 dJ16_bitCount_25 rfl rfl ?_
  refine xr_iconst (pc := 26) dJ16_bitCount_26 xci_4 ?_
  refine xr_iushr (pc := 27) dJ16_bitCount_27 ?_
  refine xr_iadd (pc := 28) dJ16_bitCount_28 ?_
  refine xr_ldcw (pc := 29) q1554 dJ16_bitCount_29 ?_
  refine xr_iand (pc := 32) dJ16_bitCount_32 ?_
  refine xr_istore_n (pc := 33) (loc' := [(0, .int (((((x0 - ((((x0 : Int32).toUInt32 >>> ((1 : Int32).toUInt32 &&& Int32.toUInt32 31)).toInt32) &&& 1431655765)) &&& 858993459) + (((((x0 - ((((x0 : Int32).toUInt32 >>> ((1 : Int32).toUInt32 &&& Int32.toUInt32 31)).toInt32) &&& 1431655765)) : Int32).toUInt32 >>> ((2 : Int32).toUInt32 &&& Int32.toUInt32 31)).toInt32) &&& 858993459)) + ((((((x0 - ((((x0 : Int32).toUInt32 >>> ((1 : Int32).toUInt32 &&& Int32.toUInt32 31)).toInt32) &&& 1431655765)) &&& 858993459) + (((((x0 - ((((x0 : Int32).toUInt32 >>> ((1 : Int32).toUInt32 &&& Int32.toUInt32 31)).toInt32) &&& 1431655765)) : Int32).toUInt32 >>> ((2 : Int32).toUInt32 &&& Int32.toUInt32 31)).toInt32) &&& 858993459)) : Int32).toUInt32 >>> ((4 : Int32).toUInt32 &&& Int32.toUInt32 31)).toInt32)) &&& 252645135))]) dJ16_bitCount_33 rfl (by decide) rfl ?_
  refine xr_iload_n (pc := 34) 0 dJ16_bitCount_34 rfl rfl ?_
  refine xr_iload_n (pc := 35) 0 dJ16_bitCount_35 rfl rfl ?_
  refine xr_bipush (pc := 36) dJ16_bitCount_36 xcb_8 ?_
  refine xr_iushr (pc := 38) dJ16_bitCount_38 ?_
  refine xr_iadd (pc := 39) dJ16_bitCount_39 ?_
  refine xr_istore_n (pc := 40) (loc' := [(0, .int ((((((x0 - ((((x0 : Int32).toUInt32 >>> ((1 : Int32).toUInt32 &&& Int32.toUInt32 31)).toInt32) &&& 1431655765)) &&& 858993459) + (((((x0 - ((((x0 : Int32).toUInt32 >>> ((1 : Int32).toUInt32 &&& Int32.toUInt32 31)).toInt32) &&& 1431655765)) : Int32).toUInt32 >>> ((2 : Int32).toUInt32 &&& Int32.toUInt32 31)).toInt32) &&& 858993459)) + ((((((x0 - ((((x0 : Int32).toUInt32 >>> ((1 : Int32).toUInt32 &&& Int32.toUInt32 31)).toInt32) &&& 1431655765)) &&& 858993459) + (((((x0 - ((((x0 : Int32).toUInt32 >>> ((1 : Int32).toUInt32 &&& Int32.toUInt32 31)).toInt32) &&& 1431655765)) : Int32).toUInt32 >>> ((2 : Int32).toUInt32 &&& Int32.toUInt32 31)).toInt32) &&& 858993459)) : Int32).toUInt32 >>> ((4 : Int32).toUInt32 &&& Int32.toUInt32 31)).toInt32)) &&& 252645135) + ((((((((x0 - ((((x0 : Int32).toUInt32 >>> ((1 : Int32).toUInt32 &&& Int32.toUInt32 31)).toInt32) &&& 1431655765)) &&& 858993459) + (((((x0 - ((((x0 : Int32).toUInt32 >>> ((1 : Int32).toUInt32 &&& Int32.toUInt32 31)).toInt32) &&& 1431655765)) : Int32).toUInt32 >>> ((2 : Int32).toUInt32 &&& Int32.toUInt32 31)).toInt32) &&& 858993459)) + ((((((x0 - ((((x0 : Int32).toUInt32 >>> ((1 : Int32).toUInt32 &&& Int32.toUInt32 31)).toInt32) &&& 1431655765)) &&& 858993459) + (((((x0 - ((((x0 : Int32).toUInt32 >>> ((1 : Int32).toUInt32 &&& Int32.toUInt32 31)).toInt32) &&& 1431655765)) : Int32).toUInt32 >>> ((2 : Int32).toUInt32 &&& Int32.toUInt32 31)).toInt32) &&& 858993459)) : Int32).toUInt32 >>> ((4 : Int32).toUInt32 &&& Int32.toUInt32 31)).toInt32)) &&& 252645135) : Int32).toUInt32 >>> ((8 : Int32).toUInt32 &&& Int32.toUInt32 31)).toInt32)))]) dJ16_bitCount_40 rfl (by decide) rfl ?_
  refine xr_iload_n (pc := 41) 0 dJ16_bitCount_41 rfl rfl ?_
  refine xr_iload_n (pc := 42) 0 dJ16_bitCount_42 rfl rfl ?_
  refine xr_bipush (pc := 43) dJ16_bitCount_43 xcb_16 ?_
  refine xr_iushr (pc := 45) dJ16_bitCount_45 ?_
  refine xr_iadd (pc := 46) dJ16_bitCount_46 ?_
  refine xr_istore_n (pc := 47) (loc' := [(0, .int (((((((x0 - ((((x0 : Int32).toUInt32 >>> ((1 : Int32).toUInt32 &&& Int32.toUInt32 31)).toInt32) &&& 1431655765)) &&& 858993459) + (((((x0 - ((((x0 : Int32).toUInt32 >>> ((1 : Int32).toUInt32 &&& Int32.toUInt32 31)).toInt32) &&& 1431655765)) : Int32).toUInt32 >>> ((2 : Int32).toUInt32 &&& Int32.toUInt32 31)).toInt32) &&& 858993459)) + ((((((x0 - ((((x0 : Int32).toUInt32 >>> ((1 : Int32).toUInt32 &&& Int32.toUInt32 31)).toInt32) &&& 1431655765)) &&& 858993459) + (((((x0 - ((((x0 : Int32).toUInt32 >>> ((1 : Int32).toUInt32 &&& Int32.toUInt32 31)).toInt32) &&& 1431655765)) : Int32).toUInt32 >>> ((2 : Int32).toUInt32 &&& Int32.toUInt32 31)).toInt32) &&& 858993459)) : Int32).toUInt32 >>> ((4 : Int32).toUInt32 &&& Int32.toUInt32 31)).toInt32)) &&& 252645135) + ((((((((x0 - ((((x0 : Int32).toUInt32 >>> ((1 : Int32).toUInt32 &&& Int32.toUInt32 31)).toInt32) &&& 1431655765)) &&& 858993459) + (((((x0 - ((((x0 : Int32).toUInt32 >>> ((1 : Int32).toUInt32 &&& Int32.toUInt32 31)).toInt32) &&& 1431655765)) : Int32).toUInt32 >>> ((2 : Int32).toUInt32 &&& Int32.toUInt32 31)).toInt32) &&& 858993459)) + ((((((x0 - ((((x0 : Int32).toUInt32 >>> ((1 : Int32).toUInt32 &&& Int32.toUInt32 31)).toInt32) &&& 1431655765)) &&& 858993459) + (((((x0 - ((((x0 : Int32).toUInt32 >>> ((1 : Int32).toUInt32 &&& Int32.toUInt32 31)).toInt32) &&& 1431655765)) : Int32).toUInt32 >>> ((2 : Int32).toUInt32 &&& Int32.toUInt32 31)).toInt32) &&& 858993459)) : Int32).toUInt32 >>> ((4 : Int32).toUInt32 &&& Int32.toUInt32 31)).toInt32)) &&& 252645135) : Int32).toUInt32 >>> ((8 : Int32).toUInt32 &&& Int32.toUInt32 31)).toInt32)) + (((((((((x0 - ((((x0 : Int32).toUInt32 >>> ((1 : Int32).toUInt32 &&& Int32.toUInt32 31)).toInt32) &&& 1431655765)) &&& 858993459) + (((((x0 - ((((x0 : Int32).toUInt32 >>> ((1 : Int32).toUInt32 &&& Int32.toUInt32 31)).toInt32) &&& 1431655765)) : Int32).toUInt32 >>> ((2 : Int32).toUInt32 &&& Int32.toUInt32 31)).toInt32) &&& 858993459)) + ((((((x0 - ((((x0 : Int32).toUInt32 >>> ((1 : Int32).toUInt32 &&& Int32.toUInt32 31)).toInt32) &&& 1431655765)) &&& 858993459) + (((((x0 - ((((x0 : Int32).toUInt32 >>> ((1 : Int32).toUInt32 &&& Int32.toUInt32 31)).toInt32) &&& 1431655765)) : Int32).toUInt32 >>> ((2 : Int32).toUInt32 &&& Int32.toUInt32 31)).toInt32) &&& 858993459)) : Int32).toUInt32 >>> ((4 : Int32).toUInt32 &&& Int32.toUInt32 31)).toInt32)) &&& 252645135) + ((((((((x0 - ((((x0 : Int32).toUInt32 >>> ((1 : Int32).toUInt32 &&& Int32.toUInt32 31)).toInt32) &&& 1431655765)) &&& 858993459) + (((((x0 - ((((x0 : Int32).toUInt32 >>> ((1 : Int32).toUInt32 &&& Int32.toUInt32 31)).toInt32) &&& 1431655765)) : Int32).toUInt32 >>> ((2 : Int32).toUInt32 &&& Int32.toUInt32 31)).toInt32) &&& 858993459)) + ((((((x0 - ((((x0 : Int32).toUInt32 >>> ((1 : Int32).toUInt32 &&& Int32.toUInt32 31)).toInt32) &&& 1431655765)) &&& 858993459) + (((((x0 - ((((x0 : Int32).toUInt32 >>> ((1 : Int32).toUInt32 &&& Int32.toUInt32 31)).toInt32) &&& 1431655765)) : Int32).toUInt32 >>> ((2 : Int32).toUInt32 &&& Int32.toUInt32 31)).toInt32) &&& 858993459)) : Int32).toUInt32 >>> ((4 : Int32).toUInt32 &&& Int32.toUInt32 31)).toInt32)) &&& 252645135) : Int32).toUInt32 >>> ((8 : Int32).toUInt32 &&& Int32.toUInt32 31)).toInt32)) : Int32).toUInt32 >>> ((16 : Int32).toUInt32 &&& Int32.toUInt32 31)).toInt32)))]) dJ16_bitCount_47 rfl (by decide) rfl ?_
  refine xr_iload_n (pc := 48) 0 dJ16_bitCount_48 rfl rfl ?_
  refine xr_bipush (pc := 49) dJ16_bitCount_49 xcb_63 ?_
  refine xr_iand (pc := 51) dJ16_bitCount_51 ?_
  rw [kr _ (Option.some.inj hf).symm]
  exact xr_iret (pc := 52) dJ16_bitCount_52 rfl
theorem met_f_c_J16_bitCount (l : Launch) {D : CD} {P : CP} {g : CG} {x0 : Int32} {τ : CC} {o_ : (Int32 × CC)} (hf : f_c_J16_bitCount g x0 τ = some o_) : xMet (wC D P) l yJ16_bitCount (ws_ yJ16_bitCount cJ16_bitCount 1 (some .int)) 0 0 (grc g) (grs g) [.int x0] (g, τ) (some (.int o_.1), (g, o_.2)) := 
  xMet_of (by decide) (Nat.le_of_ble_eq_true rfl) KC_moved RPC_of (fun K _ _ _ => ok_f_c_J16_bitCount hf (fun _ h => by rw [h]))
theorem hd_f_c_X0_has : yX0_has.cls ≠ "java/lang/invoke/MethodHandle" ∧ yX0_has.cls ≠ "java/lang/invoke/VarHandle" ∧ (parseMethodDescriptor yX0_has.desc).map (fun d => d.parameters.length) = some 2 := by decide +kernel
theorem call_f_c_X0_has_X0_318 {D : CD} {P : CP} {K : xK} {M : xM} {Q : State → Prop} {g : CG} {c : CC} {x0 : Int32} {x1 : Int32} {pc : Nat} {loc : List (Nat × Value)} {st : List Value} {r : Int32} {c1 : CC} (hf : f_c_X0_has g x0 x1 c = some (r, c1)) (ho : M.2.2.1 = RX0) (hfr : 1 ≤ M.2.2.2.1) (hlo : 21 ≤ M.2.2.2.2.1) (hcat : (st.map fun v => v.category).sum ≤ 8) (d : decode M.1 pc = .ok (.invokestatic 318, 3)) (k : xV (wC D P) K M Q (g, c1) (pc + 3) loc (.int r :: st)) : xV (wC D P) K M Q (g, c) pc loc (.int x1 :: .int x0 :: st) :=
  yc_callS (As := [.int x0, .int x1]) (rest := st) (met_f_c_X0_has K.2.1 hf) (lw_S q1548 q1069 q174 q1070) hd_f_c_X0_has ho hfr hlo rfl rfl hcat d k
theorem hd_f_c_X0_isRest : yX0_isRest.cls ≠ "java/lang/invoke/MethodHandle" ∧ yX0_isRest.cls ≠ "java/lang/invoke/VarHandle" ∧ (parseMethodDescriptor yX0_isRest.desc).map (fun d => d.parameters.length) = some 1 := by decide +kernel
theorem call_f_c_X0_isRest_X0_328 {D : CD} {P : CP} {K : xK} {M : xM} {Q : State → Prop} {g : CG} {c : CC} {x0 : Nat} {x1 : Int32} {pc : Nat} {loc : List (Nat × Value)} {st : List Value} {r : Int32} {c1 : CC} (hf : f_c_X0_isRest g x0 x1 c = some (r, c1)) (hr : gK g x0 = 1) (ho : M.2.2.1 = RX0) (hfr : 3 ≤ M.2.2.2.1) (hlo : 142 ≤ M.2.2.2.2.1) (hcat : (st.map fun v => v.category).sum ≤ 8) (d : decode M.1 pc = .ok (.invokevirtual 328, 3)) (k : xV (wC D P) K M Q (g, c1) (pc + 3) loc (.int r :: st)) : xV (wC D P) K M Q (g, c) pc loc (.int x1 :: .ref x0 :: st) :=
  yc_callV (As := [.int x1]) (rest := st) (met_f_c_X0_isRest K.2.1 hf) (lw_V q1555 q1557 qs53 q174 q1558) ⟨rfl, hd_f_c_X0_isRest⟩ ho hfr hlo rfl hr (by decide) (by decide) rfl rfl hcat d k
theorem hd_f_c_J16_bitCount : yJ16_bitCount.cls ≠ "java/lang/invoke/MethodHandle" ∧ yJ16_bitCount.cls ≠ "java/lang/invoke/VarHandle" ∧ (parseMethodDescriptor yJ16_bitCount.desc).map (fun d => d.parameters.length) = some 1 := by decide +kernel
theorem call_f_c_J16_bitCount_X0_323 {D : CD} {P : CP} {K : xK} {M : xM} {Q : State → Prop} {g : CG} {c : CC} {x0 : Int32} {pc : Nat} {loc : List (Nat × Value)} {st : List Value} {r : Int32} {c1 : CC} (hf : f_c_J16_bitCount g x0 c = some (r, c1)) (ho : M.2.2.1 = RX0) (hfr : 1 ≤ M.2.2.2.1) (hlo : 20 ≤ M.2.2.2.2.1) (hcat : (st.map fun v => v.category).sum ≤ 8) (d : decode M.1 pc = .ok (.invokestatic 323, 3)) (k : xV (wC D P) K M Q (g, c1) (pc + 3) loc (.int r :: st)) : xV (wC D P) K M Q (g, c) pc loc (.int x0 :: st) :=
  yc_callS (As := [.int x0]) (rest := st) (met_f_c_J16_bitCount K.2.1 hf) (lw_S q1549 q1550 q210 q1551) hd_f_c_J16_bitCount ho hfr hlo rfl rfl hcat d k
abbrev mX0_rest : xM := (cX0_rest, 4, RX0, 83, 4980, (some .int), "rest")
def Bc_X0_rest_39 (g : CG) (x0 : Nat) (x1 : Int32) (x2 : Int32) (x3 : Int32) (τ : CC) : Option ((Int32 × CC) ⊕ ((CC))) :=
  if gT g x0 = 1 then
  xbd (f_c_X0_lords g x0 τ) fun r10 τ10 =>
  if r10 ≤ x3 then
  some (.inr τ10)
  else
  (gR g 110 x0).bind fun b11 =>
  if gT g b11 = 6 then
  (gR g 605 b11).bind fun b13 =>
  xbd (f_c_X0_has g x2 x3 τ10) fun r14 τ14 =>
  if gT g b13 = 104 then
  if xin x3 (gN g b13) = true then
  some (.inl (x3 + 1, uA τ14 b13 x3.toNatClampNeg (r14 &&& 1)))
  else none
  else none
  else none
  else none
theorem ok_Bc_X0_rest_39 {D : CD} {P : CP} {K : xK} {g : CG} {Z : Option Value × CS} {x0 : Nat} {x1 : Int32} {x2 : Int32} {x3 : Int32} {τ : CC} {o_ : ((Int32 × CC) ⊕ ((CC)))} (hf : Bc_X0_rest_39 g x0 x1 x2 x3 τ = some o_) (kc : ∀ s_ : Int32 × CC, o_ = .inl s_ → xV (wC D P) K mX0_rest (xQ (wC D P) K Z) (g, s_.2) 39 [(0, .ref x0), (1, .int x1), (2, .int x2), (3, .int s_.1)] []) (ke0 : ∀ e_ : CC, o_ = .inr e_ → xV (wC D P) K mX0_rest (xQ (wC D P) K Z) (g, e_) 67 [(0, .ref x0), (1, .int x1), (2, .int x2)] []) : xV (wC D P) K mX0_rest (xQ (wC D P) K Z) (g, τ) 39 [(0, .ref x0), (1, .int x1), (2, .int x2), (3, .int x3)] [] := by
  unfold Bc_X0_rest_39 at hf
  refine xr_iload_n (pc := 39) 3 dX0_rest_39 rfl rfl ?_
  refine xr_aload_n (pc := 40) 0 dX0_rest_40 rfl rfl ?_
  obtain ⟨ht9, hf⟩ := xo_if hf
  obtain ⟨r10, τ10, hτ10, hf⟩ := xo_bd hf
  refine call_f_c_X0_lords_X0_180 (pc := 41) hτ10 (gKo ht9 (by decide)) rfl (Nat.le_of_ble_eq_true rfl) (Nat.le_of_ble_eq_true rfl) (Nat.le_of_ble_eq_true rfl) dX0_rest_41 ?_
  refine xr_icmp_ge (pc := 44) 67 dX0_rest_44 (by decide) (fun c_ => ?_) (fun c_ => ?_)
  · have hf := xo_pos c_ hf
    refine xV_sub [0, 1, 2] rfl ?_
    exact ke0 _ (Option.some.inj hf).symm
  · have hf := xo_neg c_ hf
    refine xr_aload_n (pc := 47) 0 dX0_rest_47 rfl rfl ?_
    obtain ⟨b11, hb11, hf⟩ := xo_bind hf
    refine yc_getFs (pc := 48) 1 10 110 (gKo ht9 (by decide)) (by decide) (by decide) (by decide) rfl rfl hb11 q496 (ys_eq rfl) rfl dX0_rest_48 ?_
    obtain ⟨ht12, hf⟩ := xo_if hf
    obtain ⟨b13, hb13, hf⟩ := xo_bind hf
    refine yc_getFsN (pc := 51) 6 5 605 (gKo ht12 (by decide)) (by decide) (by decide) (by decide) rfl rfl hb13 q445 (ys_eq rfl) rfl dX0_rest_51 ?_
    refine xr_iload_n (pc := 54) 3 dX0_rest_54 rfl rfl ?_
    refine xr_iload_n (pc := 55) 2 dX0_rest_55 rfl rfl ?_
    refine xr_iload_n (pc := 56) 3 dX0_rest_56 rfl rfl ?_
    obtain ⟨r14, τ14, hτ14, hf⟩ := xo_bd hf
    refine call_f_c_X0_has_X0_318 (pc := 57) hτ14 rfl (Nat.le_of_ble_eq_true rfl) (Nat.le_of_ble_eq_true rfl) (Nat.le_of_ble_eq_true rfl) dX0_rest_57 ?_
    obtain ⟨ht15, hf⟩ := xo_if hf
    obtain ⟨hi_, hf⟩ := xo_if hf
    refine yc_zast (pc := 60) ht15 hi_ dX0_rest_60 ?_
    refine xr_iinc (pc := 61) (loc' := [(3, .int (x3 + 1)), (0, .ref x0), (1, .int x1), (2, .int x2)]) 3 dX0_rest_61 rfl xci_1 (by decide) rfl ?_
    refine xr_goto (pc := 64) 39 dX0_rest_64 (by decide) ?_
    refine xV_sub [1, 2, 3, 0] rfl ?_
    exact kc _ (Option.some.inj hf).symm
def Bc_X0_rest_78 (g : CG) (x0 : Nat) (x1 : Int32) (x2 : Int32) (x3 : Int32) (τ : CC) : Option ((Int32 × CC) ⊕ ((CC))) :=
  if gT g x0 = 1 then
  xbd (f_c_X0_lords g x0 τ) fun r19 τ19 =>
  if r19 ≤ x3 then
  some (.inr τ19)
  else
  (gR g 112 x0).bind fun b20 =>
  if gT g b20 = 105 then
  if xin x2 (gN g b20) = true then
  (gR g 110 x0).bind fun b22 =>
  if gT g b22 = 6 then
  (gR g 609 b22).bind fun b24 =>
  if gT g b24 = 100 then
  if xin x3 (gN g b24) = true then
  if gT g (gA g b20 x2.toNatClampNeg) = 100 then
  if xin x3 (gN g (gA g b20 x2.toNatClampNeg)) = true then
  some (.inl (x3 + 1, uA τ19 (gA g b20 x2.toNatClampNeg) x3.toNatClampNeg (cA τ19 b24 x3.toNatClampNeg)))
  else none
  else none
  else none
  else none
  else none
  else none
  else none
  else none
theorem ok_Bc_X0_rest_78 {D : CD} {P : CP} {K : xK} {g : CG} {Z : Option Value × CS} {x0 : Nat} {x1 : Int32} {x2 : Int32} {x3 : Int32} {τ : CC} {o_ : ((Int32 × CC) ⊕ ((CC)))} (hf : Bc_X0_rest_78 g x0 x1 x2 x3 τ = some o_) (kc : ∀ s_ : Int32 × CC, o_ = .inl s_ → xV (wC D P) K mX0_rest (xQ (wC D P) K Z) (g, s_.2) 78 [(0, .ref x0), (1, .int x1), (2, .int x2), (3, .int s_.1)] []) (ke0 : ∀ e_ : CC, o_ = .inr e_ → xV (wC D P) K mX0_rest (xQ (wC D P) K Z) (g, e_) 109 [(0, .ref x0), (1, .int x1), (2, .int x2)] []) : xV (wC D P) K mX0_rest (xQ (wC D P) K Z) (g, τ) 78 [(0, .ref x0), (1, .int x1), (2, .int x2), (3, .int x3)] [] := by
  unfold Bc_X0_rest_78 at hf
  refine xr_iload_n (pc := 78) 3 dX0_rest_78 rfl rfl ?_
  refine xr_aload_n (pc := 79) 0 dX0_rest_79 rfl rfl ?_
  obtain ⟨ht18, hf⟩ := xo_if hf
  obtain ⟨r19, τ19, hτ19, hf⟩ := xo_bd hf
  refine call_f_c_X0_lords_X0_180 (pc := 80) hτ19 (gKo ht18 (by decide)) rfl (Nat.le_of_ble_eq_true rfl) (Nat.le_of_ble_eq_true rfl) (Nat.le_of_ble_eq_true rfl) dX0_rest_80 ?_
  refine xr_icmp_ge (pc := 83) 109 dX0_rest_83 (by decide) (fun c_ => ?_) (fun c_ => ?_)
  · have hf := xo_pos c_ hf
    refine xV_sub [0, 1, 2] rfl ?_
    exact ke0 _ (Option.some.inj hf).symm
  · have hf := xo_neg c_ hf
    refine xr_aload_n (pc := 86) 0 dX0_rest_86 rfl rfl ?_
    obtain ⟨b20, hb20, hf⟩ := xo_bind hf
    refine yc_getFs (pc := 87) 1 12 112 (gKo ht18 (by decide)) (by decide) (by decide) (by decide) rfl rfl hb20 q498 (ys_eq rfl) rfl dX0_rest_87 ?_
    refine xr_iload_n (pc := 90) 2 dX0_rest_90 rfl rfl ?_
    obtain ⟨ht21, hf⟩ := xo_if hf
    obtain ⟨hi_, hf⟩ := xo_if hf
    refine yc_aaldF (pc := 91) 105 (gKo ht21 (by decide)) (by decide) (by decide) rfl rfl hi_ dX0_rest_91 ?_
    refine xr_iload_n (pc := 92) 3 dX0_rest_92 rfl rfl ?_
    refine xr_aload_n (pc := 93) 0 dX0_rest_93 rfl rfl ?_
    obtain ⟨b22, hb22, hf⟩ := xo_bind hf
    refine yc_getFs (pc := 94) 1 10 110 (gKo ht18 (by decide)) (by decide) (by decide) (by decide) rfl rfl hb22 q496 (ys_eq rfl) rfl dX0_rest_94 ?_
    obtain ⟨ht23, hf⟩ := xo_if hf
    obtain ⟨b24, hb24, hf⟩ := xo_bind hf
    refine yc_getFsN (pc := 97) 6 9 609 (gKo ht23 (by decide)) (by decide) (by decide) (by decide) rfl rfl hb24 q453 (ys_eq rfl) rfl dX0_rest_97 ?_
    refine xr_iload_n (pc := 100) 3 dX0_rest_100 rfl rfl ?_
    obtain ⟨ht25, hf⟩ := xo_if hf
    obtain ⟨hi_, hf⟩ := xo_if hf
    refine yc_iald (pc := 101) (gKo ht25 (by decide)) hi_ dX0_rest_101 ?_
    obtain ⟨ht26, hf⟩ := xo_if hf
    obtain ⟨hi_, hf⟩ := xo_if hf
    refine yc_iast (pc := 102) ht26 hi_ dX0_rest_102 ?_
    refine xr_iinc (pc := 103) (loc' := [(3, .int (x3 + 1)), (0, .ref x0), (1, .int x1), (2, .int x2)]) 3 dX0_rest_103 rfl xci_1 (by decide) rfl ?_
    refine xr_goto (pc := 106) 78 dX0_rest_106 (by decide) ?_
    refine xV_sub [1, 2, 3, 0] rfl ?_
    exact kc _ (Option.some.inj hf).symm
def Bc_X0_rest_15 (g : CG) (x0 : Nat) (x1 : Int32) (x2 : Int32) (τ : CC) : Option ((Int32 × CC) ⊕ ((CC))) :=
  if gT g x0 = 1 then
  xbd (f_c_X0_lords g x0 τ) fun r4 τ4 =>
  if ((1 : Int32) <<< (r4 &&& 31)) ≤ x2 then
  some (.inr τ4)
  else
  (gR g 110 x0).bind fun b5 =>
  (gR g 109 x0).bind fun b6 =>
  if gT g b5 = 6 then
  xbd (f_c_X5_copy g b5 b6 τ4) fun r8 τ8 =>
  (itr (fun s_ : Int32 × CC => Bc_X0_rest_39 g x0 x1 x2 s_.1 s_.2) 4096 (0, τ8)).bind fun b16 =>
  xbd (f_c_X5_seasons g b5 x1 b16) fun r17 τ17 =>
  (itr (fun s_ : Int32 × CC => Bc_X0_rest_78 g x0 x1 x2 s_.1 s_.2) 4096 (0, τ17)).bind fun b27 =>
  some (.inl (x2 + 1, b27))
  else none
  else none
theorem ok_Bc_X0_rest_15 {D : CD} {P : CP} {K : xK} {g : CG} {Z : Option Value × CS} {x0 : Nat} {x1 : Int32} {x2 : Int32} {τ : CC} {o_ : ((Int32 × CC) ⊕ ((CC)))} (hf : Bc_X0_rest_15 g x0 x1 x2 τ = some o_) (kc : ∀ s_ : Int32 × CC, o_ = .inl s_ → xV (wC D P) K mX0_rest (xQ (wC D P) K Z) (g, s_.2) 15 [(0, .ref x0), (1, .int x1), (2, .int s_.1)] []) (ke0 : ∀ e_ : CC, o_ = .inr e_ → xV (wC D P) K mX0_rest (xQ (wC D P) K Z) (g, e_) 115 [(0, .ref x0)] []) : xV (wC D P) K mX0_rest (xQ (wC D P) K Z) (g, τ) 15 [(0, .ref x0), (1, .int x1), (2, .int x2)] [] := by
  unfold Bc_X0_rest_15 at hf
  refine xr_iload_n (pc := 15) 2 dX0_rest_15 rfl rfl ?_
  refine xr_iconst (pc := 16) dX0_rest_16 xci_1 ?_
  refine xr_aload_n (pc := 17) 0 dX0_rest_17 rfl rfl ?_
  obtain ⟨ht3, hf⟩ := xo_if hf
  obtain ⟨r4, τ4, hτ4, hf⟩ := xo_bd hf
  refine call_f_c_X0_lords_X0_180 (pc := 18) hτ4 (gKo ht3 (by decide)) rfl (Nat.le_of_ble_eq_true rfl) (Nat.le_of_ble_eq_true rfl) (Nat.le_of_ble_eq_true rfl) dX0_rest_18 ?_
  refine xr_ishl (pc := 21) dX0_rest_21 ?_
  refine xr_icmp_ge (pc := 22) 115 dX0_rest_22 (by decide) (fun c_ => ?_) (fun c_ => ?_)
  · have hf := xo_pos c_ hf
    refine xV_sub [0] rfl ?_
    exact ke0 _ (Option.some.inj hf).symm
  · have hf := xo_neg c_ hf
    refine xr_aload_n (pc := 25) 0 dX0_rest_25 rfl rfl ?_
    obtain ⟨b5, hb5, hf⟩ := xo_bind hf
    refine yc_getFs (pc := 26) 1 10 110 (gKo ht3 (by decide)) (by decide) (by decide) (by decide) rfl rfl hb5 q496 (ys_eq rfl) rfl dX0_rest_26 ?_
    refine xr_aload_n (pc := 29) 0 dX0_rest_29 rfl rfl ?_
    obtain ⟨b6, hb6, hf⟩ := xo_bind hf
    refine yc_getFs (pc := 30) 1 9 109 (gKo ht3 (by decide)) (by decide) (by decide) (by decide) rfl rfl hb6 q495 (ys_eq rfl) rfl dX0_rest_30 ?_
    obtain ⟨ht7, hf⟩ := xo_if hf
    obtain ⟨r8, τ8, hτ8, hf⟩ := xo_bd hf
    refine call_f_c_X5_copy_X0_292 (pc := 33) hτ8 (gKo ht7 (by decide)) rfl (Nat.le_of_ble_eq_true rfl) (Nat.le_of_ble_eq_true rfl) (Nat.le_of_ble_eq_true rfl) dX0_rest_33 ?_
    refine xr_pop (pc := 36) dX0_rest_36 rfl ?_
    refine xr_iconst (pc := 37) dX0_rest_37 xci_0 ?_
    refine xr_istore_n (pc := 38) (loc' := [(3, .int 0), (0, .ref x0), (1, .int x1), (2, .int x2)]) dX0_rest_38 rfl (by decide) rfl ?_
    refine xV_sub [1, 2, 3, 0] rfl ?_
    obtain ⟨b16, hb16, hf⟩ := xo_bind hf
    refine itr_rule (P := fun s_ : Int32 × CC => xV (wC D P) K mX0_rest (xQ (wC D P) K Z) (g, s_.2) 39 [(0, .ref x0), (1, .int x1), (2, .int x2), (3, .int s_.1)] []) (fun s_ o_ hB_ hc_ he_ => ok_Bc_X0_rest_39 hB_ hc_ (fun e_ h_ => ?_)) 4096 _ hb16
    · have e9_ := he_ _ h_
      rw [e9_]
      refine xr_aload_n (pc := 67) 0 dX0_rest_67 rfl rfl ?_
      refine yc_getFs (pc := 68) 1 10 110 (gKo ht3 (by decide)) (by decide) (by decide) (by decide) rfl rfl hb5 q496 (ys_eq rfl) rfl dX0_rest_68 ?_
      refine xr_iload_n (pc := 71) 1 dX0_rest_71 rfl rfl ?_
      obtain ⟨r17, τ17, hτ17, hf⟩ := xo_bd hf
      refine call_f_c_X5_seasons_X0_296 (pc := 72) hτ17 (gKo ht7 (by decide)) rfl (Nat.le_of_ble_eq_true rfl) (Nat.le_of_ble_eq_true rfl) (Nat.le_of_ble_eq_true rfl) dX0_rest_72 ?_
      refine xr_pop (pc := 75) dX0_rest_75 rfl ?_
      refine xr_iconst (pc := 76) dX0_rest_76 xci_0 ?_
      refine xr_istore_n (pc := 77) (loc' := [(3, .int 0), (0, .ref x0), (1, .int x1), (2, .int x2)]) dX0_rest_77 rfl (by decide) rfl ?_
      refine xV_sub [1, 2, 3, 0] rfl ?_
      obtain ⟨b27, hb27, hf⟩ := xo_bind hf
      refine itr_rule (P := fun s_ : Int32 × CC => xV (wC D P) K mX0_rest (xQ (wC D P) K Z) (g, s_.2) 78 [(0, .ref x0), (1, .int x1), (2, .int x2), (3, .int s_.1)] []) (fun s_ o_ hB_ hc_ he_ => ok_Bc_X0_rest_78 hB_ hc_ (fun e_ h_ => ?_)) 4096 _ hb27
      · have e9_ := he_ _ h_
        rw [e9_]
        refine xr_iinc (pc := 109) (loc' := [(2, .int (x2 + 1)), (0, .ref x0), (1, .int x1)]) 2 dX0_rest_109 rfl xci_1 (by decide) rfl ?_
        refine xr_goto (pc := 112) 15 dX0_rest_112 (by decide) ?_
        refine xV_sub [1, 2, 0] rfl ?_
        exact kc _ (Option.some.inj hf).symm
def Jc_X0_rest_155 (g : CG) (x0 : Nat) (x2 : Int32) (x3 : Int32) (τ : CC) : Option ((Int32 × Int32 × CC) ⊕ ((Int32 × CC))) :=
  some (.inl (x2, x3 + 1, τ))
theorem ok_Jc_X0_rest_155 {D : CD} {P : CP} {K : xK} {g : CG} {Z : Option Value × CS} {x0 : Nat} {x2 : Int32} {x3 : Int32} {τ : CC} {o_ : ((Int32 × Int32 × CC) ⊕ ((Int32 × CC)))} (hf : Jc_X0_rest_155 g x0 x2 x3 τ = some o_) (kc : ∀ s_ : Int32 × Int32 × CC, o_ = .inl s_ → xV (wC D P) K mX0_rest (xQ (wC D P) K Z) (g, s_.2.2) 119 [(0, .ref x0), (2, .int s_.1), (3, .int s_.2.1)] []) (ke0 : ∀ e_ : Int32 × CC, o_ = .inr e_ → xV (wC D P) K mX0_rest (xQ (wC D P) K Z) (g, e_.2) 161 [(2, .int e_.1)] []) : xV (wC D P) K mX0_rest (xQ (wC D P) K Z) (g, τ) 155 [(0, .ref x0), (2, .int x2), (3, .int x3)] [] := by
  unfold Jc_X0_rest_155 at hf
  refine xr_iinc (pc := 155) (loc' := [(3, .int (x3 + 1)), (0, .ref x0), (2, .int x2)]) 2 dX0_rest_155 rfl xci_1 (by decide) rfl ?_
  refine xr_goto (pc := 158) 119 dX0_rest_158 (by decide) ?_
  refine xV_sub [1, 2, 0] rfl ?_
  exact kc _ (Option.some.inj hf).symm
def Jc_X0_rest_145 (g : CG) (x0 : Nat) (x2 : Int32) (x3 : Int32) (τ : CC) : Option ((Int32 × Int32 × CC) ⊕ ((Int32 × CC))) :=
  if gT g x0 = 1 then
  xbd (f_c_X0_isRest g x0 x3 τ) fun r32 τ32 =>
  if r32 = 0 then
  Jc_X0_rest_155 g x0 x2 x3 τ32
  else
  Jc_X0_rest_155 g x0 x3 x3 τ32
  else none
theorem ok_Jc_X0_rest_145 {D : CD} {P : CP} {K : xK} {g : CG} {Z : Option Value × CS} {x0 : Nat} {x2 : Int32} {x3 : Int32} {τ : CC} {o_ : ((Int32 × Int32 × CC) ⊕ ((Int32 × CC)))} (hf : Jc_X0_rest_145 g x0 x2 x3 τ = some o_) (kc : ∀ s_ : Int32 × Int32 × CC, o_ = .inl s_ → xV (wC D P) K mX0_rest (xQ (wC D P) K Z) (g, s_.2.2) 119 [(0, .ref x0), (2, .int s_.1), (3, .int s_.2.1)] []) (ke0 : ∀ e_ : Int32 × CC, o_ = .inr e_ → xV (wC D P) K mX0_rest (xQ (wC D P) K Z) (g, e_.2) 161 [(2, .int e_.1)] []) : xV (wC D P) K mX0_rest (xQ (wC D P) K Z) (g, τ) 145 [(0, .ref x0), (2, .int x2), (3, .int x3)] [] := by
  unfold Jc_X0_rest_145 at hf
  refine xr_aload_n (pc := 145) 0 dX0_rest_145 rfl rfl ?_
  refine xr_iload_n (pc := 146) 2 dX0_rest_146 rfl rfl ?_
  obtain ⟨ht31, hf⟩ := xo_if hf
  obtain ⟨r32, τ32, hτ32, hf⟩ := xo_bd hf
  refine call_f_c_X0_isRest_X0_328 (pc := 147) hτ32 (gKo ht31 (by decide)) rfl (Nat.le_of_ble_eq_true rfl) (Nat.le_of_ble_eq_true rfl) (Nat.le_of_ble_eq_true rfl) dX0_rest_147 ?_
  refine xr_if_eq (pc := 150) 155 dX0_rest_150 (by decide) (fun c_ => ?_) (fun c_ => ?_)
  · have hf := xo_pos c_ hf
    exact ok_Jc_X0_rest_155 hf kc ke0
  · have hf := xo_neg c_ hf
    refine xr_iload_n (pc := 153) 2 dX0_rest_153 rfl rfl ?_
    refine xr_istore_n (pc := 154) (loc' := [(2, .int x3), (0, .ref x0), (3, .int x3)]) dX0_rest_154 rfl (by decide) rfl ?_
    refine xV_sub [1, 0, 2] rfl ?_
    exact ok_Jc_X0_rest_155 hf kc ke0
def Bc_X0_rest_119 (g : CG) (x0 : Nat) (x2 : Int32) (x3 : Int32) (τ : CC) : Option ((Int32 × Int32 × CC) ⊕ ((Int32 × CC))) :=
  if gT g x0 = 1 then
  xbd (f_c_X0_lords g x0 τ) fun r30 τ30 =>
  if ((1 : Int32) <<< (r30 &&& 31)) ≤ x3 then
  some (.inr (x2, τ30))
  else
  if x2 = (-1) then
  Jc_X0_rest_145 g x0 x2 x3 τ30
  else
  xbd (f_c_J16_bitCount g x3 τ30) fun r33 τ33 =>
  xbd (f_c_J16_bitCount g x2 τ33) fun r34 τ34 =>
  if r34 ≤ r33 then
  Jc_X0_rest_155 g x0 x2 x3 τ34
  else
  Jc_X0_rest_145 g x0 x2 x3 τ34
  else none
theorem ok_Bc_X0_rest_119 {D : CD} {P : CP} {K : xK} {g : CG} {Z : Option Value × CS} {x0 : Nat} {x2 : Int32} {x3 : Int32} {τ : CC} {o_ : ((Int32 × Int32 × CC) ⊕ ((Int32 × CC)))} (hf : Bc_X0_rest_119 g x0 x2 x3 τ = some o_) (kc : ∀ s_ : Int32 × Int32 × CC, o_ = .inl s_ → xV (wC D P) K mX0_rest (xQ (wC D P) K Z) (g, s_.2.2) 119 [(0, .ref x0), (2, .int s_.1), (3, .int s_.2.1)] []) (ke0 : ∀ e_ : Int32 × CC, o_ = .inr e_ → xV (wC D P) K mX0_rest (xQ (wC D P) K Z) (g, e_.2) 161 [(2, .int e_.1)] []) : xV (wC D P) K mX0_rest (xQ (wC D P) K Z) (g, τ) 119 [(0, .ref x0), (2, .int x2), (3, .int x3)] [] := by
  unfold Bc_X0_rest_119 at hf
  refine xr_iload_n (pc := 119) 2 dX0_rest_119 rfl rfl ?_
  refine xr_iconst (pc := 120) dX0_rest_120 xci_1 ?_
  refine xr_aload_n (pc := 121) 0 dX0_rest_121 rfl rfl ?_
  obtain ⟨ht29, hf⟩ := xo_if hf
  obtain ⟨r30, τ30, hτ30, hf⟩ := xo_bd hf
  refine call_f_c_X0_lords_X0_180 (pc := 122) hτ30 (gKo ht29 (by decide)) rfl (Nat.le_of_ble_eq_true rfl) (Nat.le_of_ble_eq_true rfl) (Nat.le_of_ble_eq_true rfl) dX0_rest_122 ?_
  refine xr_ishl (pc := 125) dX0_rest_125 ?_
  refine xr_icmp_ge (pc := 126) 161 dX0_rest_126 (by decide) (fun c_ => ?_) (fun c_ => ?_)
  · have hf := xo_pos c_ hf
    refine xV_sub [1] rfl ?_
    exact ke0 _ (Option.some.inj hf).symm
  · have hf := xo_neg c_ hf
    refine xr_iload_n (pc := 129) 1 dX0_rest_129 rfl rfl ?_
    refine xr_iconst (pc := 130) dX0_rest_130 xci_m1 ?_
    refine xr_icmp_eq (pc := 131) 145 dX0_rest_131 (by decide) (fun c_ => ?_) (fun c_ => ?_)
    · have hf := xo_pos c_ hf
      exact ok_Jc_X0_rest_145 hf kc ke0
    · have hf := xo_neg c_ hf
      refine xr_iload_n (pc := 134) 2 dX0_rest_134 rfl rfl ?_
      obtain ⟨r33, τ33, hτ33, hf⟩ := xo_bd hf
      refine call_f_c_J16_bitCount_X0_323 (pc := 135) hτ33 rfl (Nat.le_of_ble_eq_true rfl) (Nat.le_of_ble_eq_true rfl) (Nat.le_of_ble_eq_true rfl) dX0_rest_135 ?_
      refine xr_iload_n (pc := 138) 1 dX0_rest_138 rfl rfl ?_
      obtain ⟨r34, τ34, hτ34, hf⟩ := xo_bd hf
      refine call_f_c_J16_bitCount_X0_323 (pc := 139) hτ34 rfl (Nat.le_of_ble_eq_true rfl) (Nat.le_of_ble_eq_true rfl) (Nat.le_of_ble_eq_true rfl) dX0_rest_139 ?_
      refine xr_icmp_ge (pc := 142) 155 dX0_rest_142 (by decide) (fun c_ => ?_) (fun c_ => ?_)
      · have hf := xo_pos c_ hf
        exact ok_Jc_X0_rest_155 hf kc ke0
      · have hf := xo_neg c_ hf
        exact ok_Jc_X0_rest_145 hf kc ke0
def f_c_X0_rest (g : CG) (x0 : Nat) (x1 : Int32) (τ : CC) : Option (Int32 × CC) :=
  if gT g x0 = 1 then
  xbd (f_c_X0_isAhead g x0 x1 1 30 τ) fun r2 τ2 =>
  if r2 = 0 then
  some (((-1), τ2))
  else
  (itr (fun s_ : Int32 × CC => Bc_X0_rest_15 g x0 x1 s_.1 s_.2) 4096 (0, τ2)).bind fun b28 =>
  (itr (fun s_ : Int32 × Int32 × CC => Bc_X0_rest_119 g x0 s_.1 s_.2.1 s_.2.2) 4096 ((-1), 0, b28)).bind fun b35 =>
  some ((b35.1, b35.2))
  else none
theorem ok_f_c_X0_rest {D : CD} {P : CP} {K : xK} {g : CG} {Z : Option Value × CS} {x0 : Nat} {x1 : Int32} {τ : CC} {o_ : (Int32 × CC)} (hf : f_c_X0_rest g x0 x1 τ = some o_) (kr : ∀ r_ : (Int32 × CC), o_ = r_ → Z = (some (.int r_.1), (g, r_.2))) : xV (wC D P) K mX0_rest (xQ (wC D P) K Z) (g, τ) 0 [(0, .ref x0), (1, .int x1)] [] := by
  unfold f_c_X0_rest at hf
  refine xr_aload_n (pc := 0) 0 dX0_rest_0 rfl rfl ?_
  refine xr_iload_n (pc := 1) 1 dX0_rest_1 rfl rfl ?_
  refine xr_iconst (pc := 2) dX0_rest_2 xci_1 ?_
  refine xr_bipush (pc := 3) dX0_rest_3 xcb_30 ?_
  obtain ⟨ht1, hf⟩ := xo_if hf
  obtain ⟨r2, τ2, hτ2, hf⟩ := xo_bd hf
  refine call_f_c_X0_isAhead_X0_289 (pc := 5) hτ2 (gKo ht1 (by decide)) rfl (Nat.le_of_ble_eq_true rfl) (Nat.le_of_ble_eq_true rfl) (Nat.le_of_ble_eq_true rfl) dX0_rest_5 ?_
  refine xr_if_ne (pc := 8) 13 dX0_rest_8 (by decide) (fun c_ => ?_) (fun c_ => ?_)
  · have hf := xo_pos c_ hf
    refine xr_iconst (pc := 11) dX0_rest_11 xci_m1 ?_
    rw [kr _ (Option.some.inj hf).symm]
    exact xr_iret (pc := 12) dX0_rest_12 rfl
  · have hf := xo_neg c_ hf
    refine xr_iconst (pc := 13) dX0_rest_13 xci_0 ?_
    refine xr_istore_n (pc := 14) (loc' := [(2, .int 0), (0, .ref x0), (1, .int x1)]) dX0_rest_14 rfl (by decide) rfl ?_
    refine xV_sub [1, 2, 0] rfl ?_
    obtain ⟨b28, hb28, hf⟩ := xo_bind hf
    refine itr_rule (P := fun s_ : Int32 × CC => xV (wC D P) K mX0_rest (xQ (wC D P) K Z) (g, s_.2) 15 [(0, .ref x0), (1, .int x1), (2, .int s_.1)] []) (fun s_ o_ hB_ hc_ he_ => ok_Bc_X0_rest_15 hB_ hc_ (fun e_ h_ => ?_)) 4096 _ hb28
    · have e9_ := he_ _ h_
      rw [e9_]
      refine xr_iconst (pc := 115) dX0_rest_115 xci_m1 ?_
      refine xr_istore_n (pc := 116) (loc' := [(2, .int (-1)), (0, .ref x0)]) dX0_rest_116 rfl (by decide) rfl ?_
      refine xr_iconst (pc := 117) dX0_rest_117 xci_0 ?_
      refine xr_istore_n (pc := 118) (loc' := [(3, .int 0), (2, .int (-1)), (0, .ref x0)]) dX0_rest_118 rfl (by decide) rfl ?_
      refine xV_sub [2, 1, 0] rfl ?_
      obtain ⟨b35, hb35, hf⟩ := xo_bind hf
      refine itr_rule (P := fun s_ : Int32 × Int32 × CC => xV (wC D P) K mX0_rest (xQ (wC D P) K Z) (g, s_.2.2) 119 [(0, .ref x0), (2, .int s_.1), (3, .int s_.2.1)] []) (fun s_ o_ hB_ hc_ he_ => ok_Bc_X0_rest_119 hB_ hc_ (fun e_ h_ => ?_)) 4096 _ hb35
      · have e9_ := he_ _ h_
        rw [e9_]
        refine xr_iload_n (pc := 161) 0 dX0_rest_161 rfl rfl ?_
        rw [kr _ (Option.some.inj hf).symm]
        exact xr_iret (pc := 162) dX0_rest_162 rfl
theorem met_f_c_X0_rest (l : Launch) {D : CD} {P : CP} {g : CG} {x0 : Nat} {x1 : Int32} {τ : CC} {o_ : (Int32 × CC)} (hf : f_c_X0_rest g x0 x1 τ = some o_) : xMet (wC D P) l yX0_rest (ws_ yX0_rest cX0_rest 4 (some .int)) 83 4980 (grc g) (grs g) [.ref x0, .int x1] (g, τ) (some (.int o_.1), (g, o_.2)) := 
  xMet_of (by decide) (Nat.le_of_ble_eq_true rfl) KC_moved RPC_of (fun K _ _ _ => ok_f_c_X0_rest hf (fun _ h => by rw [h]))
abbrev mX5_barge : xM := (cX5_barge, 3, RX5, 1, 60, (some .int), "barge")
def Bc_X5_barge_10 (g : CG) (x0 : Nat) (x1 : Int32) (x2 : Int32) (τ : CC) : Option ((Int32 × Int32 × CC) ⊕ ((Int32 × CC))) :=
  if gT g x0 = 6 then
  (gR g 610 x0).bind fun b6 =>
  if gT g b6 = 1 then
  xbd (f_c_X0_columns g b6 τ) fun r8 τ8 =>
  if r8 ≤ x2 then
  some (.inr (x1, τ8))
  else
  (gR g 603 x0).bind fun b9 =>
  if gT g b9 = 100 then
  if xin x2 (gN g b9) = true then
  if xin (x2 - 1) (gN g b9) = true then
  xbd (f_c_J12_abs g ((cA τ8 b9 x2.toNatClampNeg) - (cA τ8 b9 (x2 - 1).toNatClampNeg)) τ8) fun r11 τ11 =>
  some (.inl (x1 + r11, x2 + 1, τ11))
  else none
  else none
  else none
  else none
  else none
theorem ok_Bc_X5_barge_10 {D : CD} {P : CP} {K : xK} {g : CG} {Z : Option Value × CS} {x0 : Nat} {x1 : Int32} {x2 : Int32} {τ : CC} {o_ : ((Int32 × Int32 × CC) ⊕ ((Int32 × CC)))} (hf : Bc_X5_barge_10 g x0 x1 x2 τ = some o_) (kc : ∀ s_ : Int32 × Int32 × CC, o_ = .inl s_ → xV (wC D P) K mX5_barge (xQ (wC D P) K Z) (g, s_.2.2) 10 [(0, .ref x0), (1, .int s_.1), (2, .int s_.2.1)] []) (ke0 : ∀ e_ : Int32 × CC, o_ = .inr e_ → xV (wC D P) K mX5_barge (xQ (wC D P) K Z) (g, e_.2) 48 [(1, .int e_.1)] []) : xV (wC D P) K mX5_barge (xQ (wC D P) K Z) (g, τ) 10 [(0, .ref x0), (1, .int x1), (2, .int x2)] [] := by
  unfold Bc_X5_barge_10 at hf
  refine xr_iload_n (pc := 10) 2 dX5_barge_10 rfl rfl ?_
  refine xr_aload_n (pc := 11) 0 dX5_barge_11 rfl rfl ?_
  obtain ⟨ht5, hf⟩ := xo_if hf
  obtain ⟨b6, hb6, hf⟩ := xo_bind hf
  refine yc_getFs (pc := 12) 6 10 610 (gKo ht5 (by decide)) (by decide) (by decide) (by decide) rfl rfl hb6 q454 (ys_eq rfl) rfl dX5_barge_12 ?_
  obtain ⟨ht7, hf⟩ := xo_if hf
  obtain ⟨r8, τ8, hτ8, hf⟩ := xo_bd hf
  refine call_f_c_X0_columns_X5_78 (pc := 15) hτ8 (gKo ht7 (by decide)) rfl (Nat.le_of_ble_eq_true rfl) (Nat.le_of_ble_eq_true rfl) (Nat.le_of_ble_eq_true rfl) dX5_barge_15 ?_
  refine xr_icmp_ge (pc := 18) 48 dX5_barge_18 (by decide) (fun c_ => ?_) (fun c_ => ?_)
  · have hf := xo_pos c_ hf
    refine xV_sub [1] rfl ?_
    exact ke0 _ (Option.some.inj hf).symm
  · have hf := xo_neg c_ hf
    refine xr_iload_n (pc := 21) 1 dX5_barge_21 rfl rfl ?_
    refine xr_aload_n (pc := 22) 0 dX5_barge_22 rfl rfl ?_
    obtain ⟨b9, hb9, hf⟩ := xo_bind hf
    refine yc_getFs (pc := 23) 6 3 603 (gKo ht5 (by decide)) (by decide) (by decide) (by decide) rfl rfl hb9 q440 (ys_eq rfl) rfl dX5_barge_23 ?_
    refine xr_iload_n (pc := 26) 2 dX5_barge_26 rfl rfl ?_
    obtain ⟨ht10, hf⟩ := xo_if hf
    obtain ⟨hi_, hf⟩ := xo_if hf
    refine yc_iald (pc := 27) (gKo ht10 (by decide)) hi_ dX5_barge_27 ?_
    refine xr_aload_n (pc := 28) 0 dX5_barge_28 rfl rfl ?_
    refine yc_getFs (pc := 29) 6 3 603 (gKo ht5 (by decide)) (by decide) (by decide) (by decide) rfl rfl hb9 q440 (ys_eq rfl) rfl dX5_barge_29 ?_
    refine xr_iload_n (pc := 32) 2 dX5_barge_32 rfl rfl ?_
    refine xr_iconst (pc := 33) dX5_barge_33 xci_1 ?_
    refine xr_isub (pc := 34) dX5_barge_34 ?_
    obtain ⟨hi_, hf⟩ := xo_if hf
    refine yc_iald (pc := 35) (gKo ht10 (by decide)) hi_ dX5_barge_35 ?_
    refine xr_isub (pc := 36) dX5_barge_36 ?_
    obtain ⟨r11, τ11, hτ11, hf⟩ := xo_bd hf
    refine call_f_c_J12_abs_X5_153 (pc := 37) hτ11 rfl (Nat.le_of_ble_eq_true rfl) (Nat.le_of_ble_eq_true rfl) (Nat.le_of_ble_eq_true rfl) dX5_barge_37 ?_
    refine xr_iadd (pc := 40) dX5_barge_40 ?_
    refine xr_istore_n (pc := 41) (loc' := [(1, .int (x1 + r11)), (0, .ref x0), (2, .int x2)]) dX5_barge_41 rfl (by decide) rfl ?_
    refine xr_iinc (pc := 42) (loc' := [(2, .int (x2 + 1)), (1, .int (x1 + r11)), (0, .ref x0)]) 2 dX5_barge_42 rfl xci_1 (by decide) rfl ?_
    refine xr_goto (pc := 45) 10 dX5_barge_45 (by decide) ?_
    refine xV_sub [2, 1, 0] rfl ?_
    exact kc _ (Option.some.inj hf).symm
def f_c_X5_barge (g : CG) (x0 : Nat) (τ : CC) : Option (Int32 × CC) :=
  if gT g x0 = 6 then
  (gR g 610 x0).bind fun b2 =>
  if gT g b2 = 1 then
  xbd (f_c_X0_columns g b2 τ) fun r4 τ4 =>
  (itr (fun s_ : Int32 × Int32 × CC => Bc_X5_barge_10 g x0 s_.1 s_.2.1 s_.2.2) 4096 (r4, 1, τ4)).bind fun b12 =>
  some ((b12.1, b12.2))
  else none
  else none
theorem ok_f_c_X5_barge {D : CD} {P : CP} {K : xK} {g : CG} {Z : Option Value × CS} {x0 : Nat} {τ : CC} {o_ : (Int32 × CC)} (hf : f_c_X5_barge g x0 τ = some o_) (kr : ∀ r_ : (Int32 × CC), o_ = r_ → Z = (some (.int r_.1), (g, r_.2))) : xV (wC D P) K mX5_barge (xQ (wC D P) K Z) (g, τ) 0 [(0, .ref x0)] [] := by
  unfold f_c_X5_barge at hf
  refine xr_aload_n (pc := 0) 0 dX5_barge_0 rfl rfl ?_
  obtain ⟨ht1, hf⟩ := xo_if hf
  obtain ⟨b2, hb2, hf⟩ := xo_bind hf
  refine yc_getFs (pc := 1) 6 10 610 (gKo ht1 (by decide)) (by decide) (by decide) (by decide) rfl rfl hb2 q454 (ys_eq rfl) rfl dX5_barge_1 ?_
  obtain ⟨ht3, hf⟩ := xo_if hf
  obtain ⟨r4, τ4, hτ4, hf⟩ := xo_bd hf
  refine call_f_c_X0_columns_X5_78 (pc := 4) hτ4 (gKo ht3 (by decide)) rfl (Nat.le_of_ble_eq_true rfl) (Nat.le_of_ble_eq_true rfl) (Nat.le_of_ble_eq_true rfl) dX5_barge_4 ?_
  refine xr_istore_n (pc := 7) (loc' := [(1, .int r4), (0, .ref x0)]) dX5_barge_7 rfl (by decide) rfl ?_
  refine xr_iconst (pc := 8) dX5_barge_8 xci_1 ?_
  refine xr_istore_n (pc := 9) (loc' := [(2, .int 1), (1, .int r4), (0, .ref x0)]) dX5_barge_9 rfl (by decide) rfl ?_
  refine xV_sub [2, 1, 0] rfl ?_
  obtain ⟨b12, hb12, hf⟩ := xo_bind hf
  refine itr_rule (P := fun s_ : Int32 × Int32 × CC => xV (wC D P) K mX5_barge (xQ (wC D P) K Z) (g, s_.2.2) 10 [(0, .ref x0), (1, .int s_.1), (2, .int s_.2.1)] []) (fun s_ o_ hB_ hc_ he_ => ok_Bc_X5_barge_10 hB_ hc_ (fun e_ h_ => ?_)) 4096 _ hb12
  · have e9_ := he_ _ h_
    rw [e9_]
    refine xr_iload_n (pc := 48) 0 dX5_barge_48 rfl rfl ?_
    rw [kr _ (Option.some.inj hf).symm]
    exact xr_iret (pc := 49) dX5_barge_49 rfl
theorem met_f_c_X5_barge (l : Launch) {D : CD} {P : CP} {g : CG} {x0 : Nat} {τ : CC} {o_ : (Int32 × CC)} (hf : f_c_X5_barge g x0 τ = some o_) : xMet (wC D P) l yX5_barge (ws_ yX5_barge cX5_barge 3 (some .int)) 1 60 (grc g) (grs g) [.ref x0] (g, τ) (some (.int o_.1), (g, o_.2)) := 
  xMet_of (by decide) (Nat.le_of_ble_eq_true rfl) KC_moved RPC_of (fun K _ _ _ => ok_f_c_X5_barge hf (fun _ h => by rw [h]))
theorem hd_f_c_X5_barge : yX5_barge.cls ≠ "java/lang/invoke/MethodHandle" ∧ yX5_barge.cls ≠ "java/lang/invoke/VarHandle" ∧ (parseMethodDescriptor yX5_barge.desc).map (fun d => d.parameters.length) = some 0 := by decide +kernel
theorem call_f_c_X5_barge_X0_331 {D : CD} {P : CP} {K : xK} {M : xM} {Q : State → Prop} {g : CG} {c : CC} {x0 : Nat} {pc : Nat} {loc : List (Nat × Value)} {st : List Value} {r : Int32} {c1 : CC} (hf : f_c_X5_barge g x0 c = some (r, c1)) (hr : gK g x0 = 6) (ho : M.2.2.1 = RX0) (hfr : 2 ≤ M.2.2.2.1) (hlo : 82 ≤ M.2.2.2.2.1) (hcat : (st.map fun v => v.category).sum ≤ 8) (d : decode M.1 pc = .ok (.invokevirtual 331, 3)) (k : xV (wC D P) K M Q (g, c1) (pc + 3) loc (.int r :: st)) : xV (wC D P) K M Q (g, c) pc loc (.ref x0 :: st) :=
  yc_callV (As := []) (rest := st) (met_f_c_X5_barge K.2.1 hf) (lw_V q1563 q1564 q1565 q185 q1566) ⟨rfl, hd_f_c_X5_barge⟩ ho hfr hlo rfl hr (by decide) (by decide) rfl rfl hcat d k
abbrev mX0_barge : xM := (cX0_barge, 1, RX0, 2, 120, (some .int), "barge")
def f_c_X0_barge (g : CG) (x0 : Nat) (τ : CC) : Option (Int32 × CC) :=
  if gT g x0 = 1 then
  xbd (f_c_X0_isValley g x0 τ) fun r2 τ2 =>
  if r2 = 0 then
  some (((-1), τ2))
  else
  (gR g 109 x0).bind fun b3 =>
  if gT g b3 = 6 then
  xbd (f_c_X5_barge g b3 τ2) fun r5 τ5 =>
  some ((r5, τ5))
  else none
  else none
theorem ok_f_c_X0_barge {D : CD} {P : CP} {K : xK} {g : CG} {Z : Option Value × CS} {x0 : Nat} {τ : CC} {o_ : (Int32 × CC)} (hf : f_c_X0_barge g x0 τ = some o_) (kr : ∀ r_ : (Int32 × CC), o_ = r_ → Z = (some (.int r_.1), (g, r_.2))) : xV (wC D P) K mX0_barge (xQ (wC D P) K Z) (g, τ) 0 [(0, .ref x0)] [] := by
  unfold f_c_X0_barge at hf
  refine xr_aload_n (pc := 0) 0 dX0_barge_0 rfl rfl ?_
  obtain ⟨ht1, hf⟩ := xo_if hf
  obtain ⟨r2, τ2, hτ2, hf⟩ := xo_bd hf
  refine call_f_c_X0_isValley_X0_285 (pc := 1) hτ2 (gKo ht1 (by decide)) rfl (Nat.le_of_ble_eq_true rfl) (Nat.le_of_ble_eq_true rfl) (Nat.le_of_ble_eq_true rfl) dX0_barge_1 ?_
  refine xr_if_eq (pc := 4) 17 dX0_barge_4 (by decide) (fun c_ => ?_) (fun c_ => ?_)
  · have hf := xo_pos c_ hf
    refine xr_iconst (pc := 17) dX0_barge_17 xci_m1 ?_
    rw [kr _ (Option.some.inj hf).symm]
    exact xr_iret (pc := 18) dX0_barge_18 rfl
  · have hf := xo_neg c_ hf
    refine xr_aload_n (pc := 7) 0 dX0_barge_7 rfl rfl ?_
    obtain ⟨b3, hb3, hf⟩ := xo_bind hf
    refine yc_getFs (pc := 8) 1 9 109 (gKo ht1 (by decide)) (by decide) (by decide) (by decide) rfl rfl hb3 q495 (ys_eq rfl) rfl dX0_barge_8 ?_
    obtain ⟨ht4, hf⟩ := xo_if hf
    obtain ⟨r5, τ5, hτ5, hf⟩ := xo_bd hf
    refine call_f_c_X5_barge_X0_331 (pc := 11) hτ5 (gKo ht4 (by decide)) rfl (Nat.le_of_ble_eq_true rfl) (Nat.le_of_ble_eq_true rfl) (Nat.le_of_ble_eq_true rfl) dX0_barge_11 ?_
    refine xr_goto (pc := 14) 18 dX0_barge_14 (by decide) ?_
    rw [kr _ (Option.some.inj hf).symm]
    exact xr_iret (pc := 18) dX0_barge_18 rfl
theorem met_f_c_X0_barge (l : Launch) {D : CD} {P : CP} {g : CG} {x0 : Nat} {τ : CC} {o_ : (Int32 × CC)} (hf : f_c_X0_barge g x0 τ = some o_) : xMet (wC D P) l yX0_barge (ws_ yX0_barge cX0_barge 1 (some .int)) 2 120 (grc g) (grs g) [.ref x0] (g, τ) (some (.int o_.1), (g, o_.2)) := 
  xMet_of (by decide) (Nat.le_of_ble_eq_true rfl) KC_moved RPC_of (fun K _ _ _ => ok_f_c_X0_barge hf (fun _ h => by rw [h]))
abbrev mX5_half : xM := (cX5_half, 2, RX5, 2, 120, (some .int), "half")
def f_c_X5_half (g : CG) (x0 : Nat) (x1 : Int32) (τ : CC) : Option (Int32 × CC) :=
  if gT g x0 = 6 then
  xbd (f_c_X5_before g x0 x1 τ) fun r2 τ2 =>
  xbd (f_c_X5_behind g x0 x1 τ2) fun r3 τ3 =>
  some (((r2 + r3) / 2, τ3))
  else none
theorem ok_f_c_X5_half {D : CD} {P : CP} {K : xK} {g : CG} {Z : Option Value × CS} {x0 : Nat} {x1 : Int32} {τ : CC} {o_ : (Int32 × CC)} (hf : f_c_X5_half g x0 x1 τ = some o_) (kr : ∀ r_ : (Int32 × CC), o_ = r_ → Z = (some (.int r_.1), (g, r_.2))) : xV (wC D P) K mX5_half (xQ (wC D P) K Z) (g, τ) 0 [(0, .ref x0), (1, .int x1)] [] := by
  unfold f_c_X5_half at hf
  refine xr_aload_n (pc := 0) 0 dX5_half_0 rfl rfl ?_
  refine xr_iload_n (pc := 1) 1 dX5_half_1 rfl rfl ?_
  obtain ⟨ht1, hf⟩ := xo_if hf
  obtain ⟨r2, τ2, hτ2, hf⟩ := xo_bd hf
  refine call_f_c_X5_before_X5_84 (pc := 2) hτ2 (gKo ht1 (by decide)) rfl (Nat.le_of_ble_eq_true rfl) (Nat.le_of_ble_eq_true rfl) (Nat.le_of_ble_eq_true rfl) dX5_half_2 ?_
  refine xr_aload_n (pc := 5) 0 dX5_half_5 rfl rfl ?_
  refine xr_iload_n (pc := 6) 1 dX5_half_6 rfl rfl ?_
  obtain ⟨r3, τ3, hτ3, hf⟩ := xo_bd hf
  refine call_f_c_X5_behind_X5_88 (pc := 7) hτ3 (gKo ht1 (by decide)) rfl (Nat.le_of_ble_eq_true rfl) (Nat.le_of_ble_eq_true rfl) (Nat.le_of_ble_eq_true rfl) dX5_half_7 ?_
  refine xr_iadd (pc := 10) dX5_half_10 ?_
  refine xr_iconst (pc := 11) dX5_half_11 xci_2 ?_
  refine xr_idiv (pc := 12) dX5_half_12 (by decide) ?_
  rw [kr _ (Option.some.inj hf).symm]
  exact xr_iret (pc := 13) dX5_half_13 rfl
theorem met_f_c_X5_half (l : Launch) {D : CD} {P : CP} {g : CG} {x0 : Nat} {x1 : Int32} {τ : CC} {o_ : (Int32 × CC)} (hf : f_c_X5_half g x0 x1 τ = some o_) : xMet (wC D P) l yX5_half (ws_ yX5_half cX5_half 2 (some .int)) 2 120 (grc g) (grs g) [.ref x0, .int x1] (g, τ) (some (.int o_.1), (g, o_.2)) := 
  xMet_of (by decide) (Nat.le_of_ble_eq_true rfl) KC_moved RPC_of (fun K _ _ _ => ok_f_c_X5_half hf (fun _ h => by rw [h]))
theorem hd_f_c_X5_half : yX5_half.cls ≠ "java/lang/invoke/MethodHandle" ∧ yX5_half.cls ≠ "java/lang/invoke/VarHandle" ∧ (parseMethodDescriptor yX5_half.desc).map (fun d => d.parameters.length) = some 1 := by decide +kernel
theorem call_f_c_X5_half_X0_334 {D : CD} {P : CP} {K : xK} {M : xM} {Q : State → Prop} {g : CG} {c : CC} {x0 : Nat} {x1 : Int32} {pc : Nat} {loc : List (Nat × Value)} {st : List Value} {r : Int32} {c1 : CC} (hf : f_c_X5_half g x0 x1 c = some (r, c1)) (hr : gK g x0 = 6) (ho : M.2.2.1 = RX0) (hfr : 3 ≤ M.2.2.2.1) (hlo : 141 ≤ M.2.2.2.2.1) (hcat : (st.map fun v => v.category).sum ≤ 8) (d : decode M.1 pc = .ok (.invokevirtual 334, 3)) (k : xV (wC D P) K M Q (g, c1) (pc + 3) loc (.int r :: st)) : xV (wC D P) K M Q (g, c) pc loc (.int x1 :: .ref x0 :: st) :=
  yc_callV (As := [.int x1]) (rest := st) (met_f_c_X5_half K.2.1 hf) (lw_V q1571 q1572 q1573 q185 q1574) ⟨rfl, hd_f_c_X5_half⟩ ho hfr hlo rfl hr (by decide) (by decide) rfl rfl hcat d k
abbrev mX0_cuts : xM := (cX0_cuts, 4, RX0, 3, 180, (some .int), "cuts")
def Jc_X0_cuts_79 (g : CG) (x0 : Nat) (x1 : Int32) (x2 : Int32) (x3 : Int32) (τ : CC) : Option ((Int32 × Int32 × Int32 × CC) ⊕ ((Int32 × CC))) :=
  some (.inl (x1, x2, x3 + 1, τ))
theorem ok_Jc_X0_cuts_79 {D : CD} {P : CP} {K : xK} {g : CG} {Z : Option Value × CS} {x0 : Nat} {x1 : Int32} {x2 : Int32} {x3 : Int32} {τ : CC} {o_ : ((Int32 × Int32 × Int32 × CC) ⊕ ((Int32 × CC)))} (hf : Jc_X0_cuts_79 g x0 x1 x2 x3 τ = some o_) (kc : ∀ s_ : Int32 × Int32 × Int32 × CC, o_ = .inl s_ → xV (wC D P) K mX0_cuts (xQ (wC D P) K Z) (g, s_.2.2.2) 21 [(0, .ref x0), (1, .int s_.1), (2, .int s_.2.1), (3, .int s_.2.2.1)] []) (ke0 : ∀ e_ : Int32 × CC, o_ = .inr e_ → xV (wC D P) K mX0_cuts (xQ (wC D P) K Z) (g, e_.2) 85 [(1, .int e_.1)] []) : xV (wC D P) K mX0_cuts (xQ (wC D P) K Z) (g, τ) 79 [(0, .ref x0), (1, .int x1), (2, .int x2), (3, .int x3)] [] := by
  unfold Jc_X0_cuts_79 at hf
  refine xr_iinc (pc := 79) (loc' := [(3, .int (x3 + 1)), (0, .ref x0), (1, .int x1), (2, .int x2)]) 3 dX0_cuts_79 rfl xci_1 (by decide) rfl ?_
  refine xr_goto (pc := 82) 21 dX0_cuts_82 (by decide) ?_
  refine xV_sub [1, 2, 3, 0] rfl ?_
  exact kc _ (Option.some.inj hf).symm
def Bc_X0_cuts_21 (g : CG) (x0 : Nat) (x1 : Int32) (x2 : Int32) (x3 : Int32) (τ : CC) : Option ((Int32 × Int32 × Int32 × CC) ⊕ ((Int32 × CC))) :=
  if gT g x0 = 1 then
  xbd (f_c_X0_columns g x0 τ) fun r7 τ7 =>
  if (r7 - 1) ≤ x3 then
  some (.inr (x1, τ7))
  else
  (gR g 110 x0).bind fun b8 =>
  (gR g 109 x0).bind fun b9 =>
  if gT g b8 = 6 then
  xbd (f_c_X5_copy g b8 b9 τ7) fun r11 τ11 =>
  if gT g r11 = 6 then
  (gR g 603 r11).bind fun b13 =>
  if gT g b9 = 6 then
  xbd (f_c_X5_half g b9 x3 τ11) fun r15 τ15 =>
  if gT g b13 = 100 then
  if xin x3 (gN g b13) = true then
  xbd (f_c_X5_barge g b8 (uA τ15 b13 x3.toNatClampNeg r15)) fun r17 τ17 =>
  if r17 < x2 then
  xbd (f_c_X5_barge g b8 τ17) fun r18 τ18 =>
  Jc_X0_cuts_79 g x0 x3 r18 x3 τ18
  else
  Jc_X0_cuts_79 g x0 x1 x2 x3 τ17
  else none
  else none
  else none
  else none
  else none
  else none
theorem ok_Bc_X0_cuts_21 {D : CD} {P : CP} {K : xK} {g : CG} {Z : Option Value × CS} {x0 : Nat} {x1 : Int32} {x2 : Int32} {x3 : Int32} {τ : CC} {o_ : ((Int32 × Int32 × Int32 × CC) ⊕ ((Int32 × CC)))} (hf : Bc_X0_cuts_21 g x0 x1 x2 x3 τ = some o_) (kc : ∀ s_ : Int32 × Int32 × Int32 × CC, o_ = .inl s_ → xV (wC D P) K mX0_cuts (xQ (wC D P) K Z) (g, s_.2.2.2) 21 [(0, .ref x0), (1, .int s_.1), (2, .int s_.2.1), (3, .int s_.2.2.1)] []) (ke0 : ∀ e_ : Int32 × CC, o_ = .inr e_ → xV (wC D P) K mX0_cuts (xQ (wC D P) K Z) (g, e_.2) 85 [(1, .int e_.1)] []) : xV (wC D P) K mX0_cuts (xQ (wC D P) K Z) (g, τ) 21 [(0, .ref x0), (1, .int x1), (2, .int x2), (3, .int x3)] [] := by
  unfold Bc_X0_cuts_21 at hf
  refine xr_iload_n (pc := 21) 3 dX0_cuts_21 rfl rfl ?_
  refine xr_aload_n (pc := 22) 0 dX0_cuts_22 rfl rfl ?_
  obtain ⟨ht6, hf⟩ := xo_if hf
  obtain ⟨r7, τ7, hτ7, hf⟩ := xo_bd hf
  refine call_f_c_X0_columns_X0_169 (pc := 23) hτ7 (gKo ht6 (by decide)) rfl (Nat.le_of_ble_eq_true rfl) (Nat.le_of_ble_eq_true rfl) (Nat.le_of_ble_eq_true rfl) dX0_cuts_23 ?_
  refine xr_iconst (pc := 26) dX0_cuts_26 xci_1 ?_
  refine xr_isub (pc := 27) dX0_cuts_27 ?_
  refine xr_icmp_ge (pc := 28) 85 dX0_cuts_28 (by decide) (fun c_ => ?_) (fun c_ => ?_)
  · have hf := xo_pos c_ hf
    refine xV_sub [1] rfl ?_
    exact ke0 _ (Option.some.inj hf).symm
  · have hf := xo_neg c_ hf
    refine xr_aload_n (pc := 31) 0 dX0_cuts_31 rfl rfl ?_
    obtain ⟨b8, hb8, hf⟩ := xo_bind hf
    refine yc_getFs (pc := 32) 1 10 110 (gKo ht6 (by decide)) (by decide) (by decide) (by decide) rfl rfl hb8 q496 (ys_eq rfl) rfl dX0_cuts_32 ?_
    refine xr_aload_n (pc := 35) 0 dX0_cuts_35 rfl rfl ?_
    obtain ⟨b9, hb9, hf⟩ := xo_bind hf
    refine yc_getFs (pc := 36) 1 9 109 (gKo ht6 (by decide)) (by decide) (by decide) (by decide) rfl rfl hb9 q495 (ys_eq rfl) rfl dX0_cuts_36 ?_
    obtain ⟨ht10, hf⟩ := xo_if hf
    obtain ⟨r11, τ11, hτ11, hf⟩ := xo_bd hf
    refine call_f_c_X5_copy_X0_292 (pc := 39) hτ11 (gKo ht10 (by decide)) rfl (Nat.le_of_ble_eq_true rfl) (Nat.le_of_ble_eq_true rfl) (Nat.le_of_ble_eq_true rfl) dX0_cuts_39 ?_
    obtain ⟨ht12, hf⟩ := xo_if hf
    obtain ⟨b13, hb13, hf⟩ := xo_bind hf
    refine yc_getFsN (pc := 42) 6 3 603 (gKo ht12 (by decide)) (by decide) (by decide) (by decide) rfl rfl hb13 q441 (ys_eq rfl) rfl dX0_cuts_42 ?_
    refine xr_iload_n (pc := 45) 3 dX0_cuts_45 rfl rfl ?_
    refine xr_aload_n (pc := 46) 0 dX0_cuts_46 rfl rfl ?_
    refine yc_getFs (pc := 47) 1 9 109 (gKo ht6 (by decide)) (by decide) (by decide) (by decide) rfl rfl hb9 q495 (ys_eq rfl) rfl dX0_cuts_47 ?_
    refine xr_iload_n (pc := 50) 3 dX0_cuts_50 rfl rfl ?_
    obtain ⟨ht14, hf⟩ := xo_if hf
    obtain ⟨r15, τ15, hτ15, hf⟩ := xo_bd hf
    refine call_f_c_X5_half_X0_334 (pc := 51) hτ15 (gKo ht14 (by decide)) rfl (Nat.le_of_ble_eq_true rfl) (Nat.le_of_ble_eq_true rfl) (Nat.le_of_ble_eq_true rfl) dX0_cuts_51 ?_
    obtain ⟨ht16, hf⟩ := xo_if hf
    obtain ⟨hi_, hf⟩ := xo_if hf
    refine yc_iast (pc := 54) ht16 hi_ dX0_cuts_54 ?_
    refine xr_aload_n (pc := 55) 0 dX0_cuts_55 rfl rfl ?_
    refine yc_getFs (pc := 56) 1 10 110 (gKo ht6 (by decide)) (by decide) (by decide) (by decide) rfl rfl hb8 q496 (ys_eq rfl) rfl dX0_cuts_56 ?_
    obtain ⟨r17, τ17, hτ17, hf⟩ := xo_bd hf
    refine call_f_c_X5_barge_X0_331 (pc := 59) hτ17 (gKo ht10 (by decide)) rfl (Nat.le_of_ble_eq_true rfl) (Nat.le_of_ble_eq_true rfl) (Nat.le_of_ble_eq_true rfl) dX0_cuts_59 ?_
    refine xr_iload_n (pc := 62) 2 dX0_cuts_62 rfl rfl ?_
    refine xr_icmp_lt (pc := 63) 69 dX0_cuts_63 (by decide) (fun c_ => ?_) (fun c_ => ?_)
    · have hf := xo_pos c_ hf
      refine xr_aload_n (pc := 69) 0 dX0_cuts_69 rfl rfl ?_
      refine yc_getFs (pc := 70) 1 10 110 (gKo ht6 (by decide)) (by decide) (by decide) (by decide) rfl rfl hb8 q496 (ys_eq rfl) rfl dX0_cuts_70 ?_
      obtain ⟨r18, τ18, hτ18, hf⟩ := xo_bd hf
      refine call_f_c_X5_barge_X0_331 (pc := 73) hτ18 (gKo ht10 (by decide)) rfl (Nat.le_of_ble_eq_true rfl) (Nat.le_of_ble_eq_true rfl) (Nat.le_of_ble_eq_true rfl) dX0_cuts_73 ?_
      refine xr_istore_n (pc := 76) (loc' := [(2, .int r18), (0, .ref x0), (1, .int x1), (3, .int x3)]) dX0_cuts_76 rfl (by decide) rfl ?_
      refine xr_iload_n (pc := 77) 3 dX0_cuts_77 rfl rfl ?_
      refine xr_istore_n (pc := 78) (loc' := [(1, .int x3), (2, .int r18), (0, .ref x0), (3, .int x3)]) dX0_cuts_78 rfl (by decide) rfl ?_
      refine xV_sub [2, 0, 1, 3] rfl ?_
      exact ok_Jc_X0_cuts_79 hf kc ke0
    · have hf := xo_neg c_ hf
      refine xr_goto (pc := 66) 79 dX0_cuts_66 (by decide) ?_
      exact ok_Jc_X0_cuts_79 hf kc ke0
def f_c_X0_cuts (g : CG) (x0 : Nat) (τ : CC) : Option (Int32 × CC) :=
  if gT g x0 = 1 then
  xbd (f_c_X0_isValley g x0 τ) fun r2 τ2 =>
  if r2 = 0 then
  some (((-1), τ2))
  else
  (gR g 109 x0).bind fun b3 =>
  if gT g b3 = 6 then
  xbd (f_c_X5_barge g b3 τ2) fun r5 τ5 =>
  (itr (fun s_ : Int32 × Int32 × Int32 × CC => Bc_X0_cuts_21 g x0 s_.1 s_.2.1 s_.2.2.1 s_.2.2.2) 4096 ((-1), r5, 1, τ5)).bind fun b19 =>
  some ((b19.1, b19.2))
  else none
  else none
theorem ok_f_c_X0_cuts {D : CD} {P : CP} {K : xK} {g : CG} {Z : Option Value × CS} {x0 : Nat} {τ : CC} {o_ : (Int32 × CC)} (hf : f_c_X0_cuts g x0 τ = some o_) (kr : ∀ r_ : (Int32 × CC), o_ = r_ → Z = (some (.int r_.1), (g, r_.2))) : xV (wC D P) K mX0_cuts (xQ (wC D P) K Z) (g, τ) 0 [(0, .ref x0)] [] := by
  unfold f_c_X0_cuts at hf
  refine xr_aload_n (pc := 0) 0 dX0_cuts_0 rfl rfl ?_
  obtain ⟨ht1, hf⟩ := xo_if hf
  obtain ⟨r2, τ2, hτ2, hf⟩ := xo_bd hf
  refine call_f_c_X0_isValley_X0_285 (pc := 1) hτ2 (gKo ht1 (by decide)) rfl (Nat.le_of_ble_eq_true rfl) (Nat.le_of_ble_eq_true rfl) (Nat.le_of_ble_eq_true rfl) dX0_cuts_1 ?_
  refine xr_if_ne (pc := 4) 9 dX0_cuts_4 (by decide) (fun c_ => ?_) (fun c_ => ?_)
  · have hf := xo_pos c_ hf
    refine xr_iconst (pc := 7) dX0_cuts_7 xci_m1 ?_
    rw [kr _ (Option.some.inj hf).symm]
    exact xr_iret (pc := 8) dX0_cuts_8 rfl
  · have hf := xo_neg c_ hf
    refine xr_iconst (pc := 9) dX0_cuts_9 xci_m1 ?_
    refine xr_istore_n (pc := 10) (loc' := [(1, .int (-1)), (0, .ref x0)]) dX0_cuts_10 rfl (by decide) rfl ?_
    refine xr_aload_n (pc := 11) 1 dX0_cuts_11 rfl rfl ?_
    obtain ⟨b3, hb3, hf⟩ := xo_bind hf
    refine yc_getFs (pc := 12) 1 9 109 (gKo ht1 (by decide)) (by decide) (by decide) (by decide) rfl rfl hb3 q495 (ys_eq rfl) rfl dX0_cuts_12 ?_
    obtain ⟨ht4, hf⟩ := xo_if hf
    obtain ⟨r5, τ5, hτ5, hf⟩ := xo_bd hf
    refine call_f_c_X5_barge_X0_331 (pc := 15) hτ5 (gKo ht4 (by decide)) rfl (Nat.le_of_ble_eq_true rfl) (Nat.le_of_ble_eq_true rfl) (Nat.le_of_ble_eq_true rfl) dX0_cuts_15 ?_
    refine xr_istore_n (pc := 18) (loc' := [(2, .int r5), (1, .int (-1)), (0, .ref x0)]) dX0_cuts_18 rfl (by decide) rfl ?_
    refine xr_iconst (pc := 19) dX0_cuts_19 xci_1 ?_
    refine xr_istore_n (pc := 20) (loc' := [(3, .int 1), (2, .int r5), (1, .int (-1)), (0, .ref x0)]) dX0_cuts_20 rfl (by decide) rfl ?_
    refine xV_sub [3, 2, 1, 0] rfl ?_
    obtain ⟨b19, hb19, hf⟩ := xo_bind hf
    refine itr_rule (P := fun s_ : Int32 × Int32 × Int32 × CC => xV (wC D P) K mX0_cuts (xQ (wC D P) K Z) (g, s_.2.2.2) 21 [(0, .ref x0), (1, .int s_.1), (2, .int s_.2.1), (3, .int s_.2.2.1)] []) (fun s_ o_ hB_ hc_ he_ => ok_Bc_X0_cuts_21 hB_ hc_ (fun e_ h_ => ?_)) 4096 _ hb19
    · have e9_ := he_ _ h_
      rw [e9_]
      refine xr_iload_n (pc := 85) 0 dX0_cuts_85 rfl rfl ?_
      rw [kr _ (Option.some.inj hf).symm]
      exact xr_iret (pc := 86) dX0_cuts_86 rfl
theorem met_f_c_X0_cuts (l : Launch) {D : CD} {P : CP} {g : CG} {x0 : Nat} {τ : CC} {o_ : (Int32 × CC)} (hf : f_c_X0_cuts g x0 τ = some o_) : xMet (wC D P) l yX0_cuts (ws_ yX0_cuts cX0_cuts 4 (some .int)) 3 180 (grc g) (grs g) [.ref x0] (g, τ) (some (.int o_.1), (g, o_.2)) := 
  xMet_of (by decide) (Nat.le_of_ble_eq_true rfl) KC_moved RPC_of (fun K _ _ _ => ok_f_c_X0_cuts hf (fun _ h => by rw [h]))
abbrev mX0_areNear : xM := (cX0_areNear, 3, RX0, 1, 60, (some .boolean), "areNear")
def f_c_X0_areNear (g : CG) (x0 : Nat) (x1 : Int32) (x2 : Int32) (τ : CC) : Option (Int32 × CC) :=
  xbd (f_c_J12_abs g (x1 - x2) τ) fun r1 τ1 =>
  if gT g x0 = 1 then
  (cR τ1 100 x0).bind fun b3 =>
  if gT g b3 = 2 then
  if (cI τ1 203 b3) < r1 then
  some ((0, τ1))
  else
  some ((1, τ1))
  else none
  else none
theorem ok_f_c_X0_areNear {D : CD} {P : CP} {K : xK} {g : CG} {Z : Option Value × CS} {x0 : Nat} {x1 : Int32} {x2 : Int32} {τ : CC} {o_ : (Int32 × CC)} (hf : f_c_X0_areNear g x0 x1 x2 τ = some o_) (kr : ∀ r_ : (Int32 × CC), o_ = r_ → Z = (some (.int r_.1), (g, r_.2))) : xV (wC D P) K mX0_areNear (xQ (wC D P) K Z) (g, τ) 0 [(0, .ref x0), (1, .int x1), (2, .int x2)] [] := by
  unfold f_c_X0_areNear at hf
  refine xr_iload_n (pc := 0) 1 dX0_areNear_0 rfl rfl ?_
  refine xr_iload_n (pc := 1) 2 dX0_areNear_1 rfl rfl ?_
  refine xr_isub (pc := 2) dX0_areNear_2 ?_
  obtain ⟨r1, τ1, hτ1, hf⟩ := xo_bd hf
  refine call_f_c_J12_abs_X0_188 (pc := 3) hτ1 rfl (Nat.le_of_ble_eq_true rfl) (Nat.le_of_ble_eq_true rfl) (Nat.le_of_ble_eq_true rfl) dX0_areNear_3 ?_
  refine xr_aload_n (pc := 6) 0 dX0_areNear_6 rfl rfl ?_
  obtain ⟨ht2, hf⟩ := xo_if hf
  obtain ⟨b3, hb3, hf⟩ := xo_bind hf
  refine yc_getRs (pc := 7) 1 0 100 (gKo ht2 (by decide)) (by decide) (by decide) (by decide) rfl rfl hb3 q484 (ys_eq rfl) rfl dX0_areNear_7 ?_
  obtain ⟨ht4, hf⟩ := xo_if hf
  refine yc_getIN (pc := 10) 2 3 203 (gKo ht4 (by decide)) (by decide) (by decide) (by decide) rfl rfl q266 (ys_eq rfl) rfl dX0_areNear_10 ?_
  refine xr_icmp_gt (pc := 13) 20 dX0_areNear_13 (by decide) (fun c_ => ?_) (fun c_ => ?_)
  · have hf := xo_pos c_ hf
    refine xr_iconst (pc := 20) dX0_areNear_20 xci_0 ?_
    rw [kr _ (Option.some.inj hf).symm]
    exact xr_zret (pc := 21) dX0_areNear_21 rfl xz_0
  · have hf := xo_neg c_ hf
    refine xr_iconst (pc := 16) dX0_areNear_16 xci_1 ?_
    refine xr_goto (pc := 17) 21 dX0_areNear_17 (by decide) ?_
    rw [kr _ (Option.some.inj hf).symm]
    exact xr_zret (pc := 21) dX0_areNear_21 rfl xz_1
theorem met_f_c_X0_areNear (l : Launch) {D : CD} {P : CP} {g : CG} {x0 : Nat} {x1 : Int32} {x2 : Int32} {τ : CC} {o_ : (Int32 × CC)} (hf : f_c_X0_areNear g x0 x1 x2 τ = some o_) : xMet (wC D P) l yX0_areNear (ws_ yX0_areNear cX0_areNear 3 (some .boolean)) 1 60 (grc g) (grs g) [.ref x0, .int x1, .int x2] (g, τ) (some (.int o_.1), (g, o_.2)) := 
  xMet_of (by decide) (Nat.le_of_ble_eq_true rfl) KC_moved RPC_of (fun K _ _ _ => ok_f_c_X0_areNear hf (fun _ h => by rw [h]))
theorem call_f_c_X0_isBendBy_X0_340 {D : CD} {P : CP} {K : xK} {M : xM} {Q : State → Prop} {g : CG} {c : CC} {x0 : Nat} {x1 : Int32} {x2 : Int32} {x3 : Int32} {x4 : Int32} {x5 : Int32} {pc : Nat} {loc : List (Nat × Value)} {st : List Value} {r : Int32} {c1 : CC} (hf : f_c_X0_isBendBy g x0 x1 x2 x3 x4 x5 c = some (r, c1)) (hr : gK g x0 = 1) (ho : M.2.2.1 = RX0) (hfr : 79 ≤ M.2.2.2.1) (hlo : 4706 ≤ M.2.2.2.2.1) (hcat : (st.map fun v => v.category).sum ≤ 8) (d : decode M.1 pc = .ok (.invokevirtual 340, 3)) (k : xV (wC D P) K M Q (g, c1) (pc + 3) loc (.int r :: st)) : xV (wC D P) K M Q (g, c) pc loc (.int x5 :: .int x4 :: .int x3 :: .int x2 :: .int x1 :: .ref x0 :: st) :=
  yc_callV (As := [.int x1, .int x2, .int x3, .int x4, .int x5]) (rest := st) (met_f_c_X0_isBendBy K.2.1 hf) (lw_V q1591 q1294 qs37 q174 q1295) ⟨rfl, hd_f_c_X0_isBendBy⟩ ho hfr hlo rfl hr (by decide) (by decide) rfl rfl hcat d k
abbrev mX0_paidBy : xM := (cX0_paidBy, 5, RX0, 79, 4740, (some .int), "paidBy")
def f_c_X0_paidBy (g : CG) (x0 : Nat) (x1 : Int32) (x2 : Int32) (x3 : Int32) (x4 : Int32) (τ : CC) : Option (Int32 × CC) :=
  if gT g x0 = 1 then
  (gR g 109 x0).bind fun b2 =>
  if gT g b2 = 6 then
  xbd (f_c_X0_isBendBy g x0 x1 x2 x3 x4 (cI τ 600 b2) τ) fun r4 τ4 =>
  if r4 = 0 then
  some ((0, τ4))
  else
  xbd (f_c_X5_pay g b2 x1 τ4) fun r5 τ5 =>
  some ((r5, τ5))
  else none
  else none
theorem ok_f_c_X0_paidBy {D : CD} {P : CP} {K : xK} {g : CG} {Z : Option Value × CS} {x0 : Nat} {x1 : Int32} {x2 : Int32} {x3 : Int32} {x4 : Int32} {τ : CC} {o_ : (Int32 × CC)} (hf : f_c_X0_paidBy g x0 x1 x2 x3 x4 τ = some o_) (kr : ∀ r_ : (Int32 × CC), o_ = r_ → Z = (some (.int r_.1), (g, r_.2))) : xV (wC D P) K mX0_paidBy (xQ (wC D P) K Z) (g, τ) 0 [(0, .ref x0), (1, .int x1), (2, .int x2), (3, .int x3), (4, .int x4)] [] := by
  unfold f_c_X0_paidBy at hf
  refine xr_aload_n (pc := 0) 0 dX0_paidBy_0 rfl rfl ?_
  refine xr_iload_n (pc := 1) 1 dX0_paidBy_1 rfl rfl ?_
  refine xr_iload_n (pc := 2) 2 dX0_paidBy_2 rfl rfl ?_
  refine xr_iload_n (pc := 3) 3 dX0_paidBy_3 rfl rfl ?_
  refine xr_iload (pc := 4) 4 dX0_paidBy_4 rfl ?_
  refine xr_aload_n (pc := 6) 0 dX0_paidBy_6 rfl rfl ?_
  obtain ⟨ht1, hf⟩ := xo_if hf
  obtain ⟨b2, hb2, hf⟩ := xo_bind hf
  refine yc_getFs (pc := 7) 1 9 109 (gKo ht1 (by decide)) (by decide) (by decide) (by decide) rfl rfl hb2 q495 (ys_eq rfl) rfl dX0_paidBy_7 ?_
  obtain ⟨ht3, hf⟩ := xo_if hf
  refine yc_getIN (pc := 10) 6 0 600 (gKo ht3 (by decide)) (by decide) (by decide) (by decide) rfl rfl q435 (ys_eq rfl) rfl dX0_paidBy_10 ?_
  obtain ⟨r4, τ4, hτ4, hf⟩ := xo_bd hf
  refine call_f_c_X0_isBendBy_X0_340 (pc := 13) hτ4 (gKo ht1 (by decide)) rfl (Nat.le_of_ble_eq_true rfl) (Nat.le_of_ble_eq_true rfl) (Nat.le_of_ble_eq_true rfl) dX0_paidBy_13 ?_
  refine xr_if_eq (pc := 16) 30 dX0_paidBy_16 (by decide) (fun c_ => ?_) (fun c_ => ?_)
  · have hf := xo_pos c_ hf
    refine xr_iconst (pc := 30) dX0_paidBy_30 xci_0 ?_
    rw [kr _ (Option.some.inj hf).symm]
    exact xr_iret (pc := 31) dX0_paidBy_31 rfl
  · have hf := xo_neg c_ hf
    refine xr_aload_n (pc := 19) 0 dX0_paidBy_19 rfl rfl ?_
    refine yc_getFs (pc := 20) 1 9 109 (gKo ht1 (by decide)) (by decide) (by decide) (by decide) rfl rfl hb2 q495 (ys_eq rfl) rfl dX0_paidBy_20 ?_
    refine xr_iload_n (pc := 23) 1 dX0_paidBy_23 rfl rfl ?_
    obtain ⟨r5, τ5, hτ5, hf⟩ := xo_bd hf
    refine call_f_c_X5_pay_X0_247 (pc := 24) hτ5 (gKo ht3 (by decide)) rfl (Nat.le_of_ble_eq_true rfl) (Nat.le_of_ble_eq_true rfl) (Nat.le_of_ble_eq_true rfl) dX0_paidBy_24 ?_
    refine xr_goto (pc := 27) 31 dX0_paidBy_27 (by decide) ?_
    rw [kr _ (Option.some.inj hf).symm]
    exact xr_iret (pc := 31) dX0_paidBy_31 rfl
theorem met_f_c_X0_paidBy (l : Launch) {D : CD} {P : CP} {g : CG} {x0 : Nat} {x1 : Int32} {x2 : Int32} {x3 : Int32} {x4 : Int32} {τ : CC} {o_ : (Int32 × CC)} (hf : f_c_X0_paidBy g x0 x1 x2 x3 x4 τ = some o_) : xMet (wC D P) l yX0_paidBy (ws_ yX0_paidBy cX0_paidBy 5 (some .int)) 79 4740 (grc g) (grs g) [.ref x0, .int x1, .int x2, .int x3, .int x4] (g, τ) (some (.int o_.1), (g, o_.2)) := 
  xMet_of (by decide) (Nat.le_of_ble_eq_true rfl) KC_moved RPC_of (fun K _ _ _ => ok_f_c_X0_paidBy hf (fun _ h => by rw [h]))
theorem hd_f_c_X0_paidBy : yX0_paidBy.cls ≠ "java/lang/invoke/MethodHandle" ∧ yX0_paidBy.cls ≠ "java/lang/invoke/VarHandle" ∧ (parseMethodDescriptor yX0_paidBy.desc).map (fun d => d.parameters.length) = some 4 := by decide +kernel
theorem call_f_c_X0_paidBy_X0_344 {D : CD} {P : CP} {K : xK} {M : xM} {Q : State → Prop} {g : CG} {c : CC} {x0 : Nat} {x1 : Int32} {x2 : Int32} {x3 : Int32} {x4 : Int32} {pc : Nat} {loc : List (Nat × Value)} {st : List Value} {r : Int32} {c1 : CC} (hf : f_c_X0_paidBy g x0 x1 x2 x3 x4 c = some (r, c1)) (hr : gK g x0 = 1) (ho : M.2.2.1 = RX0) (hfr : 80 ≤ M.2.2.2.1) (hlo : 4764 ≤ M.2.2.2.2.1) (hcat : (st.map fun v => v.category).sum ≤ 8) (d : decode M.1 pc = .ok (.invokevirtual 344, 3)) (k : xV (wC D P) K M Q (g, c1) (pc + 3) loc (.int r :: st)) : xV (wC D P) K M Q (g, c) pc loc (.int x4 :: .int x3 :: .int x2 :: .int x1 :: .ref x0 :: st) :=
  yc_callV (As := [.int x1, .int x2, .int x3, .int x4]) (rest := st) (met_f_c_X0_paidBy K.2.1 hf) (lw_V q1587 q1589 qs56 q174 q1590) ⟨rfl, hd_f_c_X0_paidBy⟩ ho hfr hlo rfl hr (by decide) (by decide) rfl rfl hcat d k
theorem hd_f_c_X0_areNear : yX0_areNear.cls ≠ "java/lang/invoke/MethodHandle" ∧ yX0_areNear.cls ≠ "java/lang/invoke/VarHandle" ∧ (parseMethodDescriptor yX0_areNear.desc).map (fun d => d.parameters.length) = some 2 := by decide +kernel
theorem call_f_c_X0_areNear_X0_347 {D : CD} {P : CP} {K : xK} {M : xM} {Q : State → Prop} {g : CG} {c : CC} {x0 : Nat} {x1 : Int32} {x2 : Int32} {pc : Nat} {loc : List (Nat × Value)} {st : List Value} {r : Int32} {c1 : CC} (hf : f_c_X0_areNear g x0 x1 x2 c = some (r, c1)) (hr : gK g x0 = 1) (ho : M.2.2.1 = RX0) (hfr : 2 ≤ M.2.2.2.1) (hlo : 82 ≤ M.2.2.2.2.1) (hcat : (st.map fun v => v.category).sum ≤ 8) (d : decode M.1 pc = .ok (.invokevirtual 347, 3)) (k : xV (wC D P) K M Q (g, c1) (pc + 3) loc (.int r :: st)) : xV (wC D P) K M Q (g, c) pc loc (.int x2 :: .int x1 :: .ref x0 :: st) :=
  yc_callV (As := [.int x1, .int x2]) (rest := st) (met_f_c_X0_areNear K.2.1 hf) (lw_V q1592 q1594 qs57 q174 q1595) ⟨rfl, hd_f_c_X0_areNear⟩ ho hfr hlo rfl hr (by decide) (by decide) rfl rfl hcat d k
theorem call_f_c_J12_max_X0_350 {D : CD} {P : CP} {K : xK} {M : xM} {Q : State → Prop} {g : CG} {c : CC} {x0 : Int32} {x1 : Int32} {pc : Nat} {loc : List (Nat × Value)} {st : List Value} {r : Int32} {c1 : CC} (hf : f_c_J12_max g x0 x1 c = some (r, c1)) (ho : M.2.2.1 = RX0) (hfr : 1 ≤ M.2.2.2.1) (hlo : 21 ≤ M.2.2.2.2.1) (hcat : (st.map fun v => v.category).sum ≤ 8) (d : decode M.1 pc = .ok (.invokestatic 350, 3)) (k : xV (wC D P) K M Q (g, c1) (pc + 3) loc (.int r :: st)) : xV (wC D P) K M Q (g, c) pc loc (.int x1 :: .int x0 :: st) :=
  yc_callS (As := [.int x0, .int x1]) (rest := st) (met_f_c_J12_max K.2.1 hf) (lw_S q1596 q925 q194 q926) hd_f_c_J12_max ho hfr hlo rfl rfl hcat d k
abbrev mX0_mostFrom : xM := (cX0_mostFrom, 6, RX0, 80, 4800, (some .int), "mostFrom")
def Jc_X0_mostFrom_77 (g : CG) (x0 : Nat) (x1 : Int32) (x2 : Int32) (x3 : Int32) (x4 : Int32) (x5 : Int32) (τ : CC) : Option ((Int32 × Int32 × CC) ⊕ ((Int32 × CC))) :=
  some (.inl (x4, x5 + 1, τ))
theorem ok_Jc_X0_mostFrom_77 {D : CD} {P : CP} {K : xK} {g : CG} {Z : Option Value × CS} {x0 : Nat} {x1 : Int32} {x2 : Int32} {x3 : Int32} {x4 : Int32} {x5 : Int32} {τ : CC} {o_ : ((Int32 × Int32 × CC) ⊕ ((Int32 × CC)))} (hf : Jc_X0_mostFrom_77 g x0 x1 x2 x3 x4 x5 τ = some o_) (kc : ∀ s_ : Int32 × Int32 × CC, o_ = .inl s_ → xV (wC D P) K mX0_mostFrom (xQ (wC D P) K Z) (g, s_.2.2) 25 [(0, .ref x0), (1, .int x1), (2, .int x2), (3, .int x3), (4, .int s_.1), (5, .int s_.2.1)] []) (ke0 : ∀ e_ : Int32 × CC, o_ = .inr e_ → xV (wC D P) K mX0_mostFrom (xQ (wC D P) K Z) (g, e_.2) 83 [(4, .int e_.1)] []) : xV (wC D P) K mX0_mostFrom (xQ (wC D P) K Z) (g, τ) 77 [(0, .ref x0), (1, .int x1), (2, .int x2), (3, .int x3), (4, .int x4), (5, .int x5)] [] := by
  unfold Jc_X0_mostFrom_77 at hf
  refine xr_iinc (pc := 77) (loc' := [(5, .int (x5 + 1)), (0, .ref x0), (1, .int x1), (2, .int x2), (3, .int x3), (4, .int x4)]) 5 dX0_mostFrom_77 rfl xci_1 (by decide) rfl ?_
  refine xr_goto (pc := 80) 25 dX0_mostFrom_80 (by decide) ?_
  refine xV_sub [1, 2, 3, 4, 5, 0] rfl ?_
  exact kc _ (Option.some.inj hf).symm
def Bc_X0_mostFrom_25 (g : CG) (x0 : Nat) (x1 : Int32) (x2 : Int32) (x3 : Int32) (x4 : Int32) (x5 : Int32) (τ : CC) : Option ((Int32 × Int32 × CC) ⊕ ((Int32 × CC))) :=
  if gT g x0 = 1 then
  (cR τ 100 x0).bind fun b5 =>
  if gT g b5 = 2 then
  if (cI τ 202 b5) ≤ x5 then
  some (.inr (x4, τ))
  else
  xbd (f_c_X0_areNear g x0 x3 x5 τ) fun r7 τ7 =>
  if r7 = 0 then
  Jc_X0_mostFrom_77 g x0 x1 x2 x3 x4 x5 τ7
  else
  xbd (f_c_X0_paidBy g x0 x1 x2 x3 x5 τ7) fun r8 τ8 =>
  (gR g 113 x0).bind fun b9 =>
  if gT g b9 = 106 then
  if xin (x1 + 1) (gN g b9) = true then
  if gT g (gA g b9 (x1 + 1).toNatClampNeg) = 105 then
  if xin x3 (gN g (gA g b9 (x1 + 1).toNatClampNeg)) = true then
  if gT g (gA g (gA g b9 (x1 + 1).toNatClampNeg) x3.toNatClampNeg) = 100 then
  if xin x5 (gN g (gA g (gA g b9 (x1 + 1).toNatClampNeg) x3.toNatClampNeg)) = true then
  xbd (f_c_J12_max g x4 (r8 + (cA τ8 (gA g (gA g b9 (x1 + 1).toNatClampNeg) x3.toNatClampNeg) x5.toNatClampNeg)) τ8) fun r13 τ13 =>
  Jc_X0_mostFrom_77 g x0 x1 x2 x3 r13 x5 τ13
  else none
  else none
  else none
  else none
  else none
  else none
  else none
  else none
theorem ok_Bc_X0_mostFrom_25 {D : CD} {P : CP} {K : xK} {g : CG} {Z : Option Value × CS} {x0 : Nat} {x1 : Int32} {x2 : Int32} {x3 : Int32} {x4 : Int32} {x5 : Int32} {τ : CC} {o_ : ((Int32 × Int32 × CC) ⊕ ((Int32 × CC)))} (hf : Bc_X0_mostFrom_25 g x0 x1 x2 x3 x4 x5 τ = some o_) (kc : ∀ s_ : Int32 × Int32 × CC, o_ = .inl s_ → xV (wC D P) K mX0_mostFrom (xQ (wC D P) K Z) (g, s_.2.2) 25 [(0, .ref x0), (1, .int x1), (2, .int x2), (3, .int x3), (4, .int s_.1), (5, .int s_.2.1)] []) (ke0 : ∀ e_ : Int32 × CC, o_ = .inr e_ → xV (wC D P) K mX0_mostFrom (xQ (wC D P) K Z) (g, e_.2) 83 [(4, .int e_.1)] []) : xV (wC D P) K mX0_mostFrom (xQ (wC D P) K Z) (g, τ) 25 [(0, .ref x0), (1, .int x1), (2, .int x2), (3, .int x3), (4, .int x4), (5, .int x5)] [] := by
  unfold Bc_X0_mostFrom_25 at hf
  refine xr_iload (pc := 25) 5 dX0_mostFrom_25 rfl ?_
  refine xr_aload_n (pc := 27) 0 dX0_mostFrom_27 rfl rfl ?_
  obtain ⟨ht4, hf⟩ := xo_if hf
  obtain ⟨b5, hb5, hf⟩ := xo_bind hf
  refine yc_getRs (pc := 28) 1 0 100 (gKo ht4 (by decide)) (by decide) (by decide) (by decide) rfl rfl hb5 q484 (ys_eq rfl) rfl dX0_mostFrom_28 ?_
  obtain ⟨ht6, hf⟩ := xo_if hf
  refine yc_getIN (pc := 31) 2 2 202 (gKo ht6 (by decide)) (by decide) (by decide) (by decide) rfl rfl q263 (ys_eq rfl) rfl dX0_mostFrom_31 ?_
  refine xr_icmp_ge (pc := 34) 83 dX0_mostFrom_34 (by decide) (fun c_ => ?_) (fun c_ => ?_)
  · have hf := xo_pos c_ hf
    refine xV_sub [4] rfl ?_
    exact ke0 _ (Option.some.inj hf).symm
  · have hf := xo_neg c_ hf
    refine xr_aload_n (pc := 37) 0 dX0_mostFrom_37 rfl rfl ?_
    refine xr_iload_n (pc := 38) 3 dX0_mostFrom_38 rfl rfl ?_
    refine xr_iload (pc := 39) 5 dX0_mostFrom_39 rfl ?_
    obtain ⟨r7, τ7, hτ7, hf⟩ := xo_bd hf
    refine call_f_c_X0_areNear_X0_347 (pc := 41) hτ7 (gKo ht4 (by decide)) rfl (Nat.le_of_ble_eq_true rfl) (Nat.le_of_ble_eq_true rfl) (Nat.le_of_ble_eq_true rfl) dX0_mostFrom_41 ?_
    refine xr_if_eq (pc := 44) 77 dX0_mostFrom_44 (by decide) (fun c_ => ?_) (fun c_ => ?_)
    · have hf := xo_pos c_ hf
      exact ok_Jc_X0_mostFrom_77 hf kc ke0
    · have hf := xo_neg c_ hf
      refine xr_iload (pc := 47) 4 dX0_mostFrom_47 rfl ?_
      refine xr_aload_n (pc := 49) 0 dX0_mostFrom_49 rfl rfl ?_
      refine xr_iload_n (pc := 50) 1 dX0_mostFrom_50 rfl rfl ?_
      refine xr_iload_n (pc := 51) 2 dX0_mostFrom_51 rfl rfl ?_
      refine xr_iload_n (pc := 52) 3 dX0_mostFrom_52 rfl rfl ?_
      refine xr_iload (pc := 53) 5 dX0_mostFrom_53 rfl ?_
      obtain ⟨r8, τ8, hτ8, hf⟩ := xo_bd hf
      refine call_f_c_X0_paidBy_X0_344 (pc := 55) hτ8 (gKo ht4 (by decide)) rfl (Nat.le_of_ble_eq_true rfl) (Nat.le_of_ble_eq_true rfl) (Nat.le_of_ble_eq_true rfl) dX0_mostFrom_55 ?_
      refine xr_aload_n (pc := 58) 0 dX0_mostFrom_58 rfl rfl ?_
      obtain ⟨b9, hb9, hf⟩ := xo_bind hf
      refine yc_getFs (pc := 59) 1 13 113 (gKo ht4 (by decide)) (by decide) (by decide) (by decide) rfl rfl hb9 q499 (ys_eq rfl) rfl dX0_mostFrom_59 ?_
      refine xr_iload_n (pc := 62) 1 dX0_mostFrom_62 rfl rfl ?_
      refine xr_iconst (pc := 63) dX0_mostFrom_63 xci_1 ?_
      refine xr_iadd (pc := 64) dX0_mostFrom_64 ?_
      obtain ⟨ht10, hf⟩ := xo_if hf
      obtain ⟨hi_, hf⟩ := xo_if hf
      refine yc_aaldF (pc := 65) 106 (gKo ht10 (by decide)) (by decide) (by decide) rfl rfl hi_ dX0_mostFrom_65 ?_
      refine xr_iload_n (pc := 66) 3 dX0_mostFrom_66 rfl rfl ?_
      obtain ⟨ht11, hf⟩ := xo_if hf
      obtain ⟨hi_, hf⟩ := xo_if hf
      refine yc_aaldF (pc := 67) 105 (gKo ht11 (by decide)) (by decide) (by decide) rfl rfl hi_ dX0_mostFrom_67 ?_
      refine xr_iload (pc := 68) 5 dX0_mostFrom_68 rfl ?_
      obtain ⟨ht12, hf⟩ := xo_if hf
      obtain ⟨hi_, hf⟩ := xo_if hf
      refine yc_iald (pc := 70) (gKo ht12 (by decide)) hi_ dX0_mostFrom_70 ?_
      refine xr_iadd (pc := 71) dX0_mostFrom_71 ?_
      obtain ⟨r13, τ13, hτ13, hf⟩ := xo_bd hf
      refine call_f_c_J12_max_X0_350 (pc := 72) hτ13 rfl (Nat.le_of_ble_eq_true rfl) (Nat.le_of_ble_eq_true rfl) (Nat.le_of_ble_eq_true rfl) dX0_mostFrom_72 ?_
      refine xr_istore (pc := 75) (loc' := [(4, .int r13), (0, .ref x0), (1, .int x1), (2, .int x2), (3, .int x3), (5, .int x5)]) dX0_mostFrom_75 (by decide) rfl ?_
      refine xV_sub [1, 2, 3, 4, 0, 5] rfl ?_
      exact ok_Jc_X0_mostFrom_77 hf kc ke0
def f_c_X0_mostFrom (g : CG) (x0 : Nat) (x1 : Int32) (x2 : Int32) (x3 : Int32) (τ : CC) : Option (Int32 × CC) :=
  if gT g x0 = 1 then
  xbd (f_c_X0_columns g x0 τ) fun r2 τ2 =>
  if x1 = (r2 - 1) then
  xbd (f_c_X0_paidBy g x0 x1 x2 x3 x3 τ2) fun r3 τ3 =>
  some ((r3, τ3))
  else
  (itr (fun s_ : Int32 × Int32 × CC => Bc_X0_mostFrom_25 g x0 x1 x2 x3 s_.1 s_.2.1 s_.2.2) 4096 ((-1), 0, τ2)).bind fun b14 =>
  some ((b14.1, b14.2))
  else none
theorem ok_f_c_X0_mostFrom {D : CD} {P : CP} {K : xK} {g : CG} {Z : Option Value × CS} {x0 : Nat} {x1 : Int32} {x2 : Int32} {x3 : Int32} {τ : CC} {o_ : (Int32 × CC)} (hf : f_c_X0_mostFrom g x0 x1 x2 x3 τ = some o_) (kr : ∀ r_ : (Int32 × CC), o_ = r_ → Z = (some (.int r_.1), (g, r_.2))) : xV (wC D P) K mX0_mostFrom (xQ (wC D P) K Z) (g, τ) 0 [(0, .ref x0), (1, .int x1), (2, .int x2), (3, .int x3)] [] := by
  unfold f_c_X0_mostFrom at hf
  refine xr_iload_n (pc := 0) 1 dX0_mostFrom_0 rfl rfl ?_
  refine xr_aload_n (pc := 1) 0 dX0_mostFrom_1 rfl rfl ?_
  obtain ⟨ht1, hf⟩ := xo_if hf
  obtain ⟨r2, τ2, hτ2, hf⟩ := xo_bd hf
  refine call_f_c_X0_columns_X0_169 (pc := 2) hτ2 (gKo ht1 (by decide)) rfl (Nat.le_of_ble_eq_true rfl) (Nat.le_of_ble_eq_true rfl) (Nat.le_of_ble_eq_true rfl) dX0_mostFrom_2 ?_
  refine xr_iconst (pc := 5) dX0_mostFrom_5 xci_1 ?_
  refine xr_isub (pc := 6) dX0_mostFrom_6 ?_
  refine xr_icmp_ne (pc := 7) 19 dX0_mostFrom_7 (by decide) (fun c_ => ?_) (fun c_ => ?_)
  · have hf := xo_pos c_ hf
    refine xr_aload_n (pc := 10) 0 dX0_mostFrom_10 rfl rfl ?_
    refine xr_iload_n (pc := 11) 1 dX0_mostFrom_11 rfl rfl ?_
    refine xr_iload_n (pc := 12) 2 dX0_mostFrom_12 rfl rfl ?_
    refine xr_iload_n (pc := 13) 3 dX0_mostFrom_13 rfl rfl ?_
    refine xr_iload_n (pc := 14) 3 dX0_mostFrom_14 rfl rfl ?_
    obtain ⟨r3, τ3, hτ3, hf⟩ := xo_bd hf
    refine call_f_c_X0_paidBy_X0_344 (pc := 15) hτ3 (gKo ht1 (by decide)) rfl (Nat.le_of_ble_eq_true rfl) (Nat.le_of_ble_eq_true rfl) (Nat.le_of_ble_eq_true rfl) dX0_mostFrom_15 ?_
    rw [kr _ (Option.some.inj hf).symm]
    exact xr_iret (pc := 18) dX0_mostFrom_18 rfl
  · have hf := xo_neg c_ hf
    refine xr_iconst (pc := 19) dX0_mostFrom_19 xci_m1 ?_
    refine xr_istore (pc := 20) (loc' := [(4, .int (-1)), (0, .ref x0), (1, .int x1), (2, .int x2), (3, .int x3)]) dX0_mostFrom_20 (by decide) rfl ?_
    refine xr_iconst (pc := 22) dX0_mostFrom_22 xci_0 ?_
    refine xr_istore (pc := 23) (loc' := [(5, .int 0), (4, .int (-1)), (0, .ref x0), (1, .int x1), (2, .int x2), (3, .int x3)]) dX0_mostFrom_23 (by decide) rfl ?_
    refine xV_sub [2, 3, 4, 5, 1, 0] rfl ?_
    obtain ⟨b14, hb14, hf⟩ := xo_bind hf
    refine itr_rule (P := fun s_ : Int32 × Int32 × CC => xV (wC D P) K mX0_mostFrom (xQ (wC D P) K Z) (g, s_.2.2) 25 [(0, .ref x0), (1, .int x1), (2, .int x2), (3, .int x3), (4, .int s_.1), (5, .int s_.2.1)] []) (fun s_ o_ hB_ hc_ he_ => ok_Bc_X0_mostFrom_25 hB_ hc_ (fun e_ h_ => ?_)) 4096 _ hb14
    · have e9_ := he_ _ h_
      rw [e9_]
      refine xr_iload (pc := 83) 0 dX0_mostFrom_83 rfl ?_
      rw [kr _ (Option.some.inj hf).symm]
      exact xr_iret (pc := 85) dX0_mostFrom_85 rfl
theorem met_f_c_X0_mostFrom (l : Launch) {D : CD} {P : CP} {g : CG} {x0 : Nat} {x1 : Int32} {x2 : Int32} {x3 : Int32} {τ : CC} {o_ : (Int32 × CC)} (hf : f_c_X0_mostFrom g x0 x1 x2 x3 τ = some o_) : xMet (wC D P) l yX0_mostFrom (ws_ yX0_mostFrom cX0_mostFrom 6 (some .int)) 80 4800 (grc g) (grs g) [.ref x0, .int x1, .int x2, .int x3] (g, τ) (some (.int o_.1), (g, o_.2)) := 
  xMet_of (by decide) (Nat.le_of_ble_eq_true rfl) KC_moved RPC_of (fun K _ _ _ => ok_f_c_X0_mostFrom hf (fun _ h => by rw [h]))
theorem hd_f_c_X0_mostFrom : yX0_mostFrom.cls ≠ "java/lang/invoke/MethodHandle" ∧ yX0_mostFrom.cls ≠ "java/lang/invoke/VarHandle" ∧ (parseMethodDescriptor yX0_mostFrom.desc).map (fun d => d.parameters.length) = some 3 := by decide +kernel
theorem call_f_c_X0_mostFrom_X0_353 {D : CD} {P : CP} {K : xK} {M : xM} {Q : State → Prop} {g : CG} {c : CC} {x0 : Nat} {x1 : Int32} {x2 : Int32} {x3 : Int32} {pc : Nat} {loc : List (Nat × Value)} {st : List Value} {r : Int32} {c1 : CC} (hf : f_c_X0_mostFrom g x0 x1 x2 x3 c = some (r, c1)) (hr : gK g x0 = 1) (ho : M.2.2.1 = RX0) (hfr : 81 ≤ M.2.2.2.1) (hlo : 4825 ≤ M.2.2.2.2.1) (hcat : (st.map fun v => v.category).sum ≤ 8) (d : decode M.1 pc = .ok (.invokevirtual 353, 3)) (k : xV (wC D P) K M Q (g, c1) (pc + 3) loc (.int r :: st)) : xV (wC D P) K M Q (g, c) pc loc (.int x3 :: .int x2 :: .int x1 :: .ref x0 :: st) :=
  yc_callV (As := [.int x1, .int x2, .int x3]) (rest := st) (met_f_c_X0_mostFrom K.2.1 hf) (lw_V q1583 q1585 qs55 q174 q1586) ⟨rfl, hd_f_c_X0_mostFrom⟩ ho hfr hlo rfl hr (by decide) (by decide) rfl rfl hcat d k
abbrev mX0_dreams : xM := (cX0_dreams, 6, RX0, 81, 4860, (some .int), "dreams")
def Bc_X0_dreams_26 (g : CG) (x0 : Nat) (x1 : Int32) (x2 : Int32) (x3 : Int32) (τ : CC) : Option ((Int32 × CC) ⊕ ((CC))) :=
  if gT g x0 = 1 then
  (cR τ 100 x0).bind fun b7 =>
  if gT g b7 = 2 then
  if (cI τ 202 b7) ≤ x3 then
  some (.inr τ)
  else
  (gR g 113 x0).bind fun b9 =>
  if gT g b9 = 106 then
  if xin x1 (gN g b9) = true then
  if gT g (gA g b9 x1.toNatClampNeg) = 105 then
  if xin x2 (gN g (gA g b9 x1.toNatClampNeg)) = true then
  xbd (f_c_X0_mostFrom g x0 x1 x2 x3 τ) fun r12 τ12 =>
  if gT g (gA g (gA g b9 x1.toNatClampNeg) x2.toNatClampNeg) = 100 then
  if xin x3 (gN g (gA g (gA g b9 x1.toNatClampNeg) x2.toNatClampNeg)) = true then
  some (.inl (x3 + 1, uA τ12 (gA g (gA g b9 x1.toNatClampNeg) x2.toNatClampNeg) x3.toNatClampNeg r12))
  else none
  else none
  else none
  else none
  else none
  else none
  else none
  else none
theorem ok_Bc_X0_dreams_26 {D : CD} {P : CP} {K : xK} {g : CG} {Z : Option Value × CS} {x0 : Nat} {x1 : Int32} {x2 : Int32} {x3 : Int32} {τ : CC} {o_ : ((Int32 × CC) ⊕ ((CC)))} (hf : Bc_X0_dreams_26 g x0 x1 x2 x3 τ = some o_) (kc : ∀ s_ : Int32 × CC, o_ = .inl s_ → xV (wC D P) K mX0_dreams (xQ (wC D P) K Z) (g, s_.2) 26 [(0, .ref x0), (1, .int x1), (2, .int x2), (3, .int s_.1)] []) (ke0 : ∀ e_ : CC, o_ = .inr e_ → xV (wC D P) K mX0_dreams (xQ (wC D P) K Z) (g, e_) 60 [(0, .ref x0), (1, .int x1), (2, .int x2)] []) : xV (wC D P) K mX0_dreams (xQ (wC D P) K Z) (g, τ) 26 [(0, .ref x0), (1, .int x1), (2, .int x2), (3, .int x3)] [] := by
  unfold Bc_X0_dreams_26 at hf
  refine xr_iload_n (pc := 26) 3 dX0_dreams_26 rfl rfl ?_
  refine xr_aload_n (pc := 27) 0 dX0_dreams_27 rfl rfl ?_
  obtain ⟨ht6, hf⟩ := xo_if hf
  obtain ⟨b7, hb7, hf⟩ := xo_bind hf
  refine yc_getRs (pc := 28) 1 0 100 (gKo ht6 (by decide)) (by decide) (by decide) (by decide) rfl rfl hb7 q484 (ys_eq rfl) rfl dX0_dreams_28 ?_
  obtain ⟨ht8, hf⟩ := xo_if hf
  refine yc_getIN (pc := 31) 2 2 202 (gKo ht8 (by decide)) (by decide) (by decide) (by decide) rfl rfl q263 (ys_eq rfl) rfl dX0_dreams_31 ?_
  refine xr_icmp_ge (pc := 34) 60 dX0_dreams_34 (by decide) (fun c_ => ?_) (fun c_ => ?_)
  · have hf := xo_pos c_ hf
    refine xV_sub [0, 1, 2] rfl ?_
    exact ke0 _ (Option.some.inj hf).symm
  · have hf := xo_neg c_ hf
    refine xr_aload_n (pc := 37) 0 dX0_dreams_37 rfl rfl ?_
    obtain ⟨b9, hb9, hf⟩ := xo_bind hf
    refine yc_getFs (pc := 38) 1 13 113 (gKo ht6 (by decide)) (by decide) (by decide) (by decide) rfl rfl hb9 q499 (ys_eq rfl) rfl dX0_dreams_38 ?_
    refine xr_iload_n (pc := 41) 1 dX0_dreams_41 rfl rfl ?_
    obtain ⟨ht10, hf⟩ := xo_if hf
    obtain ⟨hi_, hf⟩ := xo_if hf
    refine yc_aaldF (pc := 42) 106 (gKo ht10 (by decide)) (by decide) (by decide) rfl rfl hi_ dX0_dreams_42 ?_
    refine xr_iload_n (pc := 43) 2 dX0_dreams_43 rfl rfl ?_
    obtain ⟨ht11, hf⟩ := xo_if hf
    obtain ⟨hi_, hf⟩ := xo_if hf
    refine yc_aaldF (pc := 44) 105 (gKo ht11 (by decide)) (by decide) (by decide) rfl rfl hi_ dX0_dreams_44 ?_
    refine xr_iload_n (pc := 45) 3 dX0_dreams_45 rfl rfl ?_
    refine xr_aload_n (pc := 46) 0 dX0_dreams_46 rfl rfl ?_
    refine xr_iload_n (pc := 47) 1 dX0_dreams_47 rfl rfl ?_
    refine xr_iload_n (pc := 48) 2 dX0_dreams_48 rfl rfl ?_
    refine xr_iload_n (pc := 49) 3 dX0_dreams_49 rfl rfl ?_
    obtain ⟨r12, τ12, hτ12, hf⟩ := xo_bd hf
    refine call_f_c_X0_mostFrom_X0_353 (pc := 50) hτ12 (gKo ht6 (by decide)) rfl (Nat.le_of_ble_eq_true rfl) (Nat.le_of_ble_eq_true rfl) (Nat.le_of_ble_eq_true rfl) dX0_dreams_50 ?_
    obtain ⟨ht13, hf⟩ := xo_if hf
    obtain ⟨hi_, hf⟩ := xo_if hf
    refine yc_iast (pc := 53) ht13 hi_ dX0_dreams_53 ?_
    refine xr_iinc (pc := 54) (loc' := [(3, .int (x3 + 1)), (0, .ref x0), (1, .int x1), (2, .int x2)]) 3 dX0_dreams_54 rfl xci_1 (by decide) rfl ?_
    refine xr_goto (pc := 57) 26 dX0_dreams_57 (by decide) ?_
    refine xV_sub [1, 2, 3, 0] rfl ?_
    exact kc _ (Option.some.inj hf).symm
def Bc_X0_dreams_13 (g : CG) (x0 : Nat) (x1 : Int32) (x2 : Int32) (τ : CC) : Option ((Int32 × CC) ⊕ ((CC))) :=
  if gT g x0 = 1 then
  (cR τ 100 x0).bind fun b4 =>
  if gT g b4 = 2 then
  if (cI τ 202 b4) ≤ x2 then
  some (.inr τ)
  else
  (itr (fun s_ : Int32 × CC => Bc_X0_dreams_26 g x0 x1 x2 s_.1 s_.2) 4096 (0, τ)).bind fun b14 =>
  some (.inl (x2 + 1, b14))
  else none
  else none
theorem ok_Bc_X0_dreams_13 {D : CD} {P : CP} {K : xK} {g : CG} {Z : Option Value × CS} {x0 : Nat} {x1 : Int32} {x2 : Int32} {τ : CC} {o_ : ((Int32 × CC) ⊕ ((CC)))} (hf : Bc_X0_dreams_13 g x0 x1 x2 τ = some o_) (kc : ∀ s_ : Int32 × CC, o_ = .inl s_ → xV (wC D P) K mX0_dreams (xQ (wC D P) K Z) (g, s_.2) 13 [(0, .ref x0), (1, .int x1), (2, .int s_.1)] []) (ke0 : ∀ e_ : CC, o_ = .inr e_ → xV (wC D P) K mX0_dreams (xQ (wC D P) K Z) (g, e_) 66 [(0, .ref x0), (1, .int x1)] []) : xV (wC D P) K mX0_dreams (xQ (wC D P) K Z) (g, τ) 13 [(0, .ref x0), (1, .int x1), (2, .int x2)] [] := by
  unfold Bc_X0_dreams_13 at hf
  refine xr_iload_n (pc := 13) 2 dX0_dreams_13 rfl rfl ?_
  refine xr_aload_n (pc := 14) 0 dX0_dreams_14 rfl rfl ?_
  obtain ⟨ht3, hf⟩ := xo_if hf
  obtain ⟨b4, hb4, hf⟩ := xo_bind hf
  refine yc_getRs (pc := 15) 1 0 100 (gKo ht3 (by decide)) (by decide) (by decide) (by decide) rfl rfl hb4 q484 (ys_eq rfl) rfl dX0_dreams_15 ?_
  obtain ⟨ht5, hf⟩ := xo_if hf
  refine yc_getIN (pc := 18) 2 2 202 (gKo ht5 (by decide)) (by decide) (by decide) (by decide) rfl rfl q263 (ys_eq rfl) rfl dX0_dreams_18 ?_
  refine xr_icmp_ge (pc := 21) 66 dX0_dreams_21 (by decide) (fun c_ => ?_) (fun c_ => ?_)
  · have hf := xo_pos c_ hf
    refine xV_sub [0, 1] rfl ?_
    exact ke0 _ (Option.some.inj hf).symm
  · have hf := xo_neg c_ hf
    refine xr_iconst (pc := 24) dX0_dreams_24 xci_0 ?_
    refine xr_istore_n (pc := 25) (loc' := [(3, .int 0), (0, .ref x0), (1, .int x1), (2, .int x2)]) dX0_dreams_25 rfl (by decide) rfl ?_
    refine xV_sub [1, 2, 3, 0] rfl ?_
    obtain ⟨b14, hb14, hf⟩ := xo_bind hf
    refine itr_rule (P := fun s_ : Int32 × CC => xV (wC D P) K mX0_dreams (xQ (wC D P) K Z) (g, s_.2) 26 [(0, .ref x0), (1, .int x1), (2, .int x2), (3, .int s_.1)] []) (fun s_ o_ hB_ hc_ he_ => ok_Bc_X0_dreams_26 hB_ hc_ (fun e_ h_ => ?_)) 4096 _ hb14
    · have e9_ := he_ _ h_
      rw [e9_]
      refine xr_iinc (pc := 60) (loc' := [(2, .int (x2 + 1)), (0, .ref x0), (1, .int x1)]) 2 dX0_dreams_60 rfl xci_1 (by decide) rfl ?_
      refine xr_goto (pc := 63) 13 dX0_dreams_63 (by decide) ?_
      refine xV_sub [1, 2, 0] rfl ?_
      exact kc _ (Option.some.inj hf).symm
def Bc_X0_dreams_7 (g : CG) (x0 : Nat) (x1 : Int32) (τ : CC) : Option ((Int32 × CC) ⊕ ((CC))) :=
  if x1 ≤ 0 then
  some (.inr τ)
  else
  (itr (fun s_ : Int32 × CC => Bc_X0_dreams_13 g x0 x1 s_.1 s_.2) 4096 (0, τ)).bind fun b15 =>
  some (.inl (x1 + (-1), b15))
theorem ok_Bc_X0_dreams_7 {D : CD} {P : CP} {K : xK} {g : CG} {Z : Option Value × CS} {x0 : Nat} {x1 : Int32} {τ : CC} {o_ : ((Int32 × CC) ⊕ ((CC)))} (hf : Bc_X0_dreams_7 g x0 x1 τ = some o_) (kc : ∀ s_ : Int32 × CC, o_ = .inl s_ → xV (wC D P) K mX0_dreams (xQ (wC D P) K Z) (g, s_.2) 7 [(0, .ref x0), (1, .int s_.1)] []) (ke0 : ∀ e_ : CC, o_ = .inr e_ → xV (wC D P) K mX0_dreams (xQ (wC D P) K Z) (g, e_) 72 [(0, .ref x0)] []) : xV (wC D P) K mX0_dreams (xQ (wC D P) K Z) (g, τ) 7 [(0, .ref x0), (1, .int x1)] [] := by
  unfold Bc_X0_dreams_7 at hf
  refine xr_iload_n (pc := 7) 1 dX0_dreams_7 rfl rfl ?_
  refine xr_if_le (pc := 8) 72 dX0_dreams_8 (by decide) (fun c_ => ?_) (fun c_ => ?_)
  · have hf := xo_pos c_ hf
    refine xV_sub [0] rfl ?_
    exact ke0 _ (Option.some.inj hf).symm
  · have hf := xo_neg c_ hf
    refine xr_iconst (pc := 11) dX0_dreams_11 xci_0 ?_
    refine xr_istore_n (pc := 12) (loc' := [(2, .int 0), (0, .ref x0), (1, .int x1)]) dX0_dreams_12 rfl (by decide) rfl ?_
    refine xV_sub [1, 2, 0] rfl ?_
    obtain ⟨b15, hb15, hf⟩ := xo_bind hf
    refine itr_rule (P := fun s_ : Int32 × CC => xV (wC D P) K mX0_dreams (xQ (wC D P) K Z) (g, s_.2) 13 [(0, .ref x0), (1, .int x1), (2, .int s_.1)] []) (fun s_ o_ hB_ hc_ he_ => ok_Bc_X0_dreams_13 hB_ hc_ (fun e_ h_ => ?_)) 4096 _ hb15
    · have e9_ := he_ _ h_
      rw [e9_]
      refine xr_iinc (pc := 66) (loc' := [(1, .int (x1 + (-1))), (0, .ref x0)]) 1 dX0_dreams_66 rfl xci_m1 (by decide) rfl ?_
      refine xr_goto (pc := 69) 7 dX0_dreams_69 (by decide) ?_
      refine xV_sub [1, 0] rfl ?_
      exact kc _ (Option.some.inj hf).symm
def Jc_X0_dreams_116 (g : CG) (x0 : Nat) (x1 : Int32) (x2 : Int32) (τ : CC) : Option ((Int32 × Int32 × CC) ⊕ ((Int32 × CC))) :=
  some (.inl (x1, x2 + 1, τ))
theorem ok_Jc_X0_dreams_116 {D : CD} {P : CP} {K : xK} {g : CG} {Z : Option Value × CS} {x0 : Nat} {x1 : Int32} {x2 : Int32} {τ : CC} {o_ : ((Int32 × Int32 × CC) ⊕ ((Int32 × CC)))} (hf : Jc_X0_dreams_116 g x0 x1 x2 τ = some o_) (kc : ∀ s_ : Int32 × Int32 × CC, o_ = .inl s_ → xV (wC D P) K mX0_dreams (xQ (wC D P) K Z) (g, s_.2.2) 76 [(0, .ref x0), (1, .int s_.1), (2, .int s_.2.1)] []) (ke0 : ∀ e_ : Int32 × CC, o_ = .inr e_ → xV (wC D P) K mX0_dreams (xQ (wC D P) K Z) (g, e_.2) 122 [(0, .ref x0), (1, .int e_.1)] []) : xV (wC D P) K mX0_dreams (xQ (wC D P) K Z) (g, τ) 116 [(0, .ref x0), (1, .int x1), (2, .int x2)] [] := by
  unfold Jc_X0_dreams_116 at hf
  refine xr_iinc (pc := 116) (loc' := [(2, .int (x2 + 1)), (0, .ref x0), (1, .int x1)]) 2 dX0_dreams_116 rfl xci_1 (by decide) rfl ?_
  refine xr_goto (pc := 119) 76 dX0_dreams_119 (by decide) ?_
  refine xV_sub [1, 2, 0] rfl ?_
  exact kc _ (Option.some.inj hf).symm
def Bc_X0_dreams_76 (g : CG) (x0 : Nat) (x1 : Int32) (x2 : Int32) (τ : CC) : Option ((Int32 × Int32 × CC) ⊕ ((Int32 × CC))) :=
  if gT g x0 = 1 then
  (cR τ 100 x0).bind fun b18 =>
  if gT g b18 = 2 then
  if (cI τ 202 b18) ≤ x2 then
  some (.inr (x1, τ))
  else
  xbd (f_c_X0_mostFrom g x0 0 x2 x2 τ) fun r20 τ20 =>
  if x1 < r20 then
  xbd (f_c_X0_mostFrom g x0 0 x2 x2 τ20) fun r21 τ21 =>
  (gR g 114 x0).bind fun b22 =>
  if gT g b22 = 100 then
  if xin 0 (gN g b22) = true then
  Jc_X0_dreams_116 g x0 r21 x2 (uA τ21 b22 (0 : Int32).toNatClampNeg x2)
  else none
  else none
  else
  Jc_X0_dreams_116 g x0 x1 x2 τ20
  else none
  else none
theorem ok_Bc_X0_dreams_76 {D : CD} {P : CP} {K : xK} {g : CG} {Z : Option Value × CS} {x0 : Nat} {x1 : Int32} {x2 : Int32} {τ : CC} {o_ : ((Int32 × Int32 × CC) ⊕ ((Int32 × CC)))} (hf : Bc_X0_dreams_76 g x0 x1 x2 τ = some o_) (kc : ∀ s_ : Int32 × Int32 × CC, o_ = .inl s_ → xV (wC D P) K mX0_dreams (xQ (wC D P) K Z) (g, s_.2.2) 76 [(0, .ref x0), (1, .int s_.1), (2, .int s_.2.1)] []) (ke0 : ∀ e_ : Int32 × CC, o_ = .inr e_ → xV (wC D P) K mX0_dreams (xQ (wC D P) K Z) (g, e_.2) 122 [(0, .ref x0), (1, .int e_.1)] []) : xV (wC D P) K mX0_dreams (xQ (wC D P) K Z) (g, τ) 76 [(0, .ref x0), (1, .int x1), (2, .int x2)] [] := by
  unfold Bc_X0_dreams_76 at hf
  refine xr_iload_n (pc := 76) 2 dX0_dreams_76 rfl rfl ?_
  refine xr_aload_n (pc := 77) 0 dX0_dreams_77 rfl rfl ?_
  obtain ⟨ht17, hf⟩ := xo_if hf
  obtain ⟨b18, hb18, hf⟩ := xo_bind hf
  refine yc_getRs (pc := 78) 1 0 100 (gKo ht17 (by decide)) (by decide) (by decide) (by decide) rfl rfl hb18 q484 (ys_eq rfl) rfl dX0_dreams_78 ?_
  obtain ⟨ht19, hf⟩ := xo_if hf
  refine yc_getIN (pc := 81) 2 2 202 (gKo ht19 (by decide)) (by decide) (by decide) (by decide) rfl rfl q263 (ys_eq rfl) rfl dX0_dreams_81 ?_
  refine xr_icmp_ge (pc := 84) 122 dX0_dreams_84 (by decide) (fun c_ => ?_) (fun c_ => ?_)
  · have hf := xo_pos c_ hf
    refine xV_sub [0, 1] rfl ?_
    exact ke0 _ (Option.some.inj hf).symm
  · have hf := xo_neg c_ hf
    refine xr_aload_n (pc := 87) 0 dX0_dreams_87 rfl rfl ?_
    refine xr_iconst (pc := 88) dX0_dreams_88 xci_0 ?_
    refine xr_iload_n (pc := 89) 2 dX0_dreams_89 rfl rfl ?_
    refine xr_iload_n (pc := 90) 2 dX0_dreams_90 rfl rfl ?_
    obtain ⟨r20, τ20, hτ20, hf⟩ := xo_bd hf
    refine call_f_c_X0_mostFrom_X0_353 (pc := 91) hτ20 (gKo ht17 (by decide)) rfl (Nat.le_of_ble_eq_true rfl) (Nat.le_of_ble_eq_true rfl) (Nat.le_of_ble_eq_true rfl) dX0_dreams_91 ?_
    refine xr_iload_n (pc := 94) 1 dX0_dreams_94 rfl rfl ?_
    refine xr_icmp_gt (pc := 95) 101 dX0_dreams_95 (by decide) (fun c_ => ?_) (fun c_ => ?_)
    · have hf := xo_pos c_ hf
      refine xr_aload_n (pc := 101) 0 dX0_dreams_101 rfl rfl ?_
      refine xr_iconst (pc := 102) dX0_dreams_102 xci_0 ?_
      refine xr_iload_n (pc := 103) 2 dX0_dreams_103 rfl rfl ?_
      refine xr_iload_n (pc := 104) 2 dX0_dreams_104 rfl rfl ?_
      obtain ⟨r21, τ21, hτ21, hf⟩ := xo_bd hf
      refine call_f_c_X0_mostFrom_X0_353 (pc := 105) hτ21 (gKo ht17 (by decide)) rfl (Nat.le_of_ble_eq_true rfl) (Nat.le_of_ble_eq_true rfl) (Nat.le_of_ble_eq_true rfl) dX0_dreams_105 ?_
      refine xr_istore_n (pc := 108) (loc' := [(1, .int r21), (0, .ref x0), (2, .int x2)]) dX0_dreams_108 rfl (by decide) rfl ?_
      refine xr_aload_n (pc := 109) 1 dX0_dreams_109 rfl rfl ?_
      obtain ⟨b22, hb22, hf⟩ := xo_bind hf
      refine yc_getFs (pc := 110) 1 14 114 (gKo ht17 (by decide)) (by decide) (by decide) (by decide) rfl rfl hb22 q500 (ys_eq rfl) rfl dX0_dreams_110 ?_
      refine xr_iconst (pc := 113) dX0_dreams_113 xci_0 ?_
      refine xr_iload_n (pc := 114) 2 dX0_dreams_114 rfl rfl ?_
      obtain ⟨ht23, hf⟩ := xo_if hf
      obtain ⟨hi_, hf⟩ := xo_if hf
      refine yc_iast (pc := 115) ht23 hi_ dX0_dreams_115 ?_
      refine xV_sub [1, 0, 2] rfl ?_
      exact ok_Jc_X0_dreams_116 hf kc ke0
    · have hf := xo_neg c_ hf
      refine xr_goto (pc := 98) 116 dX0_dreams_98 (by decide) ?_
      exact ok_Jc_X0_dreams_116 hf kc ke0
def Jc_X0_dreams_235 (g : CG) (x0 : Nat) (x1 : Int32) (x2 : Int32) (x3 : Int32) (x4 : Int32) (x5 : Int32) (τ : CC) : Option ((Int32 × CC) ⊕ ((Int32 × CC))) :=
  some (.inl (x5 + 1, τ))
theorem ok_Jc_X0_dreams_235 {D : CD} {P : CP} {K : xK} {g : CG} {Z : Option Value × CS} {x0 : Nat} {x1 : Int32} {x2 : Int32} {x3 : Int32} {x4 : Int32} {x5 : Int32} {τ : CC} {o_ : ((Int32 × CC) ⊕ ((Int32 × CC)))} (hf : Jc_X0_dreams_235 g x0 x1 x2 x3 x4 x5 τ = some o_) (kc : ∀ s_ : Int32 × CC, o_ = .inl s_ → xV (wC D P) K mX0_dreams (xQ (wC D P) K Z) (g, s_.2) 176 [(0, .ref x0), (1, .int x1), (2, .int x2), (3, .int x3), (4, .int x4), (5, .int s_.1)] []) (ke0 : ∀ e_ : Int32 × CC, o_ = .inr e_ → xV (wC D P) K mX0_dreams (xQ (wC D P) K Z) (g, e_.2) 241 [(0, .ref x0), (1, .int x1), (2, .int x2), (5, .int e_.1)] []) : xV (wC D P) K mX0_dreams (xQ (wC D P) K Z) (g, τ) 235 [(0, .ref x0), (1, .int x1), (2, .int x2), (3, .int x3), (4, .int x4), (5, .int x5)] [] := by
  unfold Jc_X0_dreams_235 at hf
  refine xr_iinc (pc := 235) (loc' := [(5, .int (x5 + 1)), (0, .ref x0), (1, .int x1), (2, .int x2), (3, .int x3), (4, .int x4)]) 5 dX0_dreams_235 rfl xci_1 (by decide) rfl ?_
  refine xr_goto (pc := 238) 176 dX0_dreams_238 (by decide) ?_
  refine xV_sub [1, 2, 3, 4, 5, 0] rfl ?_
  exact kc _ (Option.some.inj hf).symm
def Bc_X0_dreams_176 (g : CG) (x0 : Nat) (x1 : Int32) (x2 : Int32) (x3 : Int32) (x4 : Int32) (x5 : Int32) (τ : CC) : Option ((Int32 × CC) ⊕ ((Int32 × CC))) :=
  if gT g x0 = 1 then
  (gR g 114 x0).bind fun b34 =>
  if gT g b34 = 100 then
  if xin (x2 - 1) (gN g b34) = true then
  xbd (f_c_X0_areNear g x0 (cA τ b34 (x2 - 1).toNatClampNeg) x5 τ) fun r36 τ36 =>
  if r36 = 0 then
  Jc_X0_dreams_235 g x0 x1 x2 x3 x4 x5 τ36
  else
  if xin (x2 - 1) (gN g b34) = true then
  xbd (f_c_X0_paidBy g x0 (x2 - 1) x3 (cA τ36 b34 (x2 - 1).toNatClampNeg) x5 τ36) fun r37 τ37 =>
  (gR g 113 x0).bind fun b38 =>
  if gT g b38 = 106 then
  if xin x2 (gN g b38) = true then
  if xin (x2 - 1) (gN g b34) = true then
  if gT g (gA g b38 x2.toNatClampNeg) = 105 then
  if xin (cA τ37 b34 (x2 - 1).toNatClampNeg) (gN g (gA g b38 x2.toNatClampNeg)) = true then
  if gT g (gA g (gA g b38 x2.toNatClampNeg) (cA τ37 b34 (x2 - 1).toNatClampNeg).toNatClampNeg) = 100 then
  if xin x5 (gN g (gA g (gA g b38 x2.toNatClampNeg) (cA τ37 b34 (x2 - 1).toNatClampNeg).toNatClampNeg)) = true then
  if (r37 + (cA τ37 (gA g (gA g b38 x2.toNatClampNeg) (cA τ37 b34 (x2 - 1).toNatClampNeg).toNatClampNeg) x5.toNatClampNeg)) = x4 then
  some (.inr (x5, τ37))
  else
  Jc_X0_dreams_235 g x0 x1 x2 x3 x4 x5 τ37
  else none
  else none
  else none
  else none
  else none
  else none
  else none
  else none
  else none
  else none
  else none
theorem ok_Bc_X0_dreams_176 {D : CD} {P : CP} {K : xK} {g : CG} {Z : Option Value × CS} {x0 : Nat} {x1 : Int32} {x2 : Int32} {x3 : Int32} {x4 : Int32} {x5 : Int32} {τ : CC} {o_ : ((Int32 × CC) ⊕ ((Int32 × CC)))} (hf : Bc_X0_dreams_176 g x0 x1 x2 x3 x4 x5 τ = some o_) (kc : ∀ s_ : Int32 × CC, o_ = .inl s_ → xV (wC D P) K mX0_dreams (xQ (wC D P) K Z) (g, s_.2) 176 [(0, .ref x0), (1, .int x1), (2, .int x2), (3, .int x3), (4, .int x4), (5, .int s_.1)] []) (ke0 : ∀ e_ : Int32 × CC, o_ = .inr e_ → xV (wC D P) K mX0_dreams (xQ (wC D P) K Z) (g, e_.2) 241 [(0, .ref x0), (1, .int x1), (2, .int x2), (5, .int e_.1)] []) : xV (wC D P) K mX0_dreams (xQ (wC D P) K Z) (g, τ) 176 [(0, .ref x0), (1, .int x1), (2, .int x2), (3, .int x3), (4, .int x4), (5, .int x5)] [] := by
  unfold Bc_X0_dreams_176 at hf
  refine xr_aload_n (pc := 176) 0 dX0_dreams_176 rfl rfl ?_
  refine xr_aload_n (pc := 177) 0 dX0_dreams_177 rfl rfl ?_
  obtain ⟨ht33, hf⟩ := xo_if hf
  obtain ⟨b34, hb34, hf⟩ := xo_bind hf
  refine yc_getFs (pc := 178) 1 14 114 (gKo ht33 (by decide)) (by decide) (by decide) (by decide) rfl rfl hb34 q500 (ys_eq rfl) rfl dX0_dreams_178 ?_
  refine xr_iload_n (pc := 181) 2 dX0_dreams_181 rfl rfl ?_
  refine xr_iconst (pc := 182) dX0_dreams_182 xci_1 ?_
  refine xr_isub (pc := 183) dX0_dreams_183 ?_
  obtain ⟨ht35, hf⟩ := xo_if hf
  obtain ⟨hi_, hf⟩ := xo_if hf
  refine yc_iald (pc := 184) (gKo ht35 (by decide)) hi_ dX0_dreams_184 ?_
  refine xr_iload (pc := 185) 5 dX0_dreams_185 rfl ?_
  obtain ⟨r36, τ36, hτ36, hf⟩ := xo_bd hf
  refine call_f_c_X0_areNear_X0_347 (pc := 187) hτ36 (gKo ht33 (by decide)) rfl (Nat.le_of_ble_eq_true rfl) (Nat.le_of_ble_eq_true rfl) (Nat.le_of_ble_eq_true rfl) dX0_dreams_187 ?_
  refine xr_if_eq (pc := 190) 235 dX0_dreams_190 (by decide) (fun c_ => ?_) (fun c_ => ?_)
  · have hf := xo_pos c_ hf
    exact ok_Jc_X0_dreams_235 hf kc ke0
  · have hf := xo_neg c_ hf
    refine xr_aload_n (pc := 193) 0 dX0_dreams_193 rfl rfl ?_
    refine xr_iload_n (pc := 194) 2 dX0_dreams_194 rfl rfl ?_
    refine xr_iconst (pc := 195) dX0_dreams_195 xci_1 ?_
    refine xr_isub (pc := 196) dX0_dreams_196 ?_
    refine xr_iload_n (pc := 197) 3 dX0_dreams_197 rfl rfl ?_
    refine xr_aload_n (pc := 198) 0 dX0_dreams_198 rfl rfl ?_
    refine yc_getFs (pc := 199) 1 14 114 (gKo ht33 (by decide)) (by decide) (by decide) (by decide) rfl rfl hb34 q500 (ys_eq rfl) rfl dX0_dreams_199 ?_
    refine xr_iload_n (pc := 202) 2 dX0_dreams_202 rfl rfl ?_
    refine xr_iconst (pc := 203) dX0_dreams_203 xci_1 ?_
    refine xr_isub (pc := 204) dX0_dreams_204 ?_
    obtain ⟨hi_, hf⟩ := xo_if hf
    refine yc_iald (pc := 205) (gKo ht35 (by decide)) hi_ dX0_dreams_205 ?_
    refine xr_iload (pc := 206) 5 dX0_dreams_206 rfl ?_
    obtain ⟨r37, τ37, hτ37, hf⟩ := xo_bd hf
    refine call_f_c_X0_paidBy_X0_344 (pc := 208) hτ37 (gKo ht33 (by decide)) rfl (Nat.le_of_ble_eq_true rfl) (Nat.le_of_ble_eq_true rfl) (Nat.le_of_ble_eq_true rfl) dX0_dreams_208 ?_
    refine xr_aload_n (pc := 211) 0 dX0_dreams_211 rfl rfl ?_
    obtain ⟨b38, hb38, hf⟩ := xo_bind hf
    refine yc_getFs (pc := 212) 1 13 113 (gKo ht33 (by decide)) (by decide) (by decide) (by decide) rfl rfl hb38 q499 (ys_eq rfl) rfl dX0_dreams_212 ?_
    refine xr_iload_n (pc := 215) 2 dX0_dreams_215 rfl rfl ?_
    obtain ⟨ht39, hf⟩ := xo_if hf
    obtain ⟨hi_, hf⟩ := xo_if hf
    refine yc_aaldF (pc := 216) 106 (gKo ht39 (by decide)) (by decide) (by decide) rfl rfl hi_ dX0_dreams_216 ?_
    refine xr_aload_n (pc := 217) 0 dX0_dreams_217 rfl rfl ?_
    refine yc_getFs (pc := 218) 1 14 114 (gKo ht33 (by decide)) (by decide) (by decide) (by decide) rfl rfl hb34 q500 (ys_eq rfl) rfl dX0_dreams_218 ?_
    refine xr_iload_n (pc := 221) 2 dX0_dreams_221 rfl rfl ?_
    refine xr_iconst (pc := 222) dX0_dreams_222 xci_1 ?_
    refine xr_isub (pc := 223) dX0_dreams_223 ?_
    obtain ⟨hi_, hf⟩ := xo_if hf
    refine yc_iald (pc := 224) (gKo ht35 (by decide)) hi_ dX0_dreams_224 ?_
    obtain ⟨ht40, hf⟩ := xo_if hf
    obtain ⟨hi_, hf⟩ := xo_if hf
    refine yc_aaldF (pc := 225) 105 (gKo ht40 (by decide)) (by decide) (by decide) rfl rfl hi_ dX0_dreams_225 ?_
    refine xr_iload (pc := 226) 5 dX0_dreams_226 rfl ?_
    obtain ⟨ht41, hf⟩ := xo_if hf
    obtain ⟨hi_, hf⟩ := xo_if hf
    refine yc_iald (pc := 228) (gKo ht41 (by decide)) hi_ dX0_dreams_228 ?_
    refine xr_iadd (pc := 229) dX0_dreams_229 ?_
    refine xr_iload (pc := 230) 4 dX0_dreams_230 rfl ?_
    refine xr_icmp_eq (pc := 232) 241 dX0_dreams_232 (by decide) (fun c_ => ?_) (fun c_ => ?_)
    · have hf := xo_pos c_ hf
      refine xV_sub [0, 1, 2, 5] rfl ?_
      exact ke0 _ (Option.some.inj hf).symm
    · have hf := xo_neg c_ hf
      exact ok_Jc_X0_dreams_235 hf kc ke0
def Jc_X0_dreams_154 (g : CG) (x0 : Nat) (x1 : Int32) (x2 : Int32) (s0 : Int32) (τ : CC) : Option ((Int32 × CC) ⊕ ((CC))) :=
  if gT g x0 = 1 then
  (gR g 114 x0).bind fun b30 =>
  if gT g b30 = 100 then
  if xin (x2 - 1) (gN g b30) = true then
  xbd (f_c_X0_mostFrom g x0 (x2 - 1) s0 (cA τ b30 (x2 - 1).toNatClampNeg) τ) fun r32 τ32 =>
  (itr (fun s_ : Int32 × CC => Bc_X0_dreams_176 g x0 x1 x2 s0 r32 s_.1 s_.2) 4096 (0, τ32)).bind fun b42 =>
  if xin x2 (gN g b30) = true then
  some (.inl (x2 + 1, uA b42.2 b30 x2.toNatClampNeg b42.1))
  else none
  else none
  else none
  else none
theorem ok_Jc_X0_dreams_154 {D : CD} {P : CP} {K : xK} {g : CG} {Z : Option Value × CS} {x0 : Nat} {x1 : Int32} {x2 : Int32} {s0 : Int32} {τ : CC} {o_ : ((Int32 × CC) ⊕ ((CC)))} (hf : Jc_X0_dreams_154 g x0 x1 x2 s0 τ = some o_) (kc : ∀ s_ : Int32 × CC, o_ = .inl s_ → xV (wC D P) K mX0_dreams (xQ (wC D P) K Z) (g, s_.2) 124 [(0, .ref x0), (1, .int x1), (2, .int s_.1)] []) (ke0 : ∀ e_ : CC, o_ = .inr e_ → xV (wC D P) K mX0_dreams (xQ (wC D P) K Z) (g, e_) 255 [(1, .int x1)] []) : xV (wC D P) K mX0_dreams (xQ (wC D P) K Z) (g, τ) 154 [(0, .ref x0), (1, .int x1), (2, .int x2)] [.int s0] := by
  unfold Jc_X0_dreams_154 at hf
  refine xr_istore_n (pc := 154) (loc' := [(3, .int s0), (0, .ref x0), (1, .int x1), (2, .int x2)]) dX0_dreams_154 rfl (by decide) rfl ?_
  refine xr_aload_n (pc := 155) 1 dX0_dreams_155 rfl rfl ?_
  refine xr_iload_n (pc := 156) 3 dX0_dreams_156 rfl rfl ?_
  refine xr_iconst (pc := 157) dX0_dreams_157 xci_1 ?_
  refine xr_isub (pc := 158) dX0_dreams_158 ?_
  refine xr_iload_n (pc := 159) 0 dX0_dreams_159 rfl rfl ?_
  refine xr_aload_n (pc := 160) 1 dX0_dreams_160 rfl rfl ?_
  obtain ⟨ht29, hf⟩ := xo_if hf
  obtain ⟨b30, hb30, hf⟩ := xo_bind hf
  refine yc_getFs (pc := 161) 1 14 114 (gKo ht29 (by decide)) (by decide) (by decide) (by decide) rfl rfl hb30 q500 (ys_eq rfl) rfl dX0_dreams_161 ?_
  refine xr_iload_n (pc := 164) 3 dX0_dreams_164 rfl rfl ?_
  refine xr_iconst (pc := 165) dX0_dreams_165 xci_1 ?_
  refine xr_isub (pc := 166) dX0_dreams_166 ?_
  obtain ⟨ht31, hf⟩ := xo_if hf
  obtain ⟨hi_, hf⟩ := xo_if hf
  refine yc_iald (pc := 167) (gKo ht31 (by decide)) hi_ dX0_dreams_167 ?_
  obtain ⟨r32, τ32, hτ32, hf⟩ := xo_bd hf
  refine call_f_c_X0_mostFrom_X0_353 (pc := 168) hτ32 (gKo ht29 (by decide)) rfl (Nat.le_of_ble_eq_true rfl) (Nat.le_of_ble_eq_true rfl) (Nat.le_of_ble_eq_true rfl) dX0_dreams_168 ?_
  refine xr_istore (pc := 171) (loc' := [(4, .int r32), (3, .int s0), (0, .ref x0), (1, .int x1), (2, .int x2)]) dX0_dreams_171 (by decide) rfl ?_
  refine xr_iconst (pc := 173) dX0_dreams_173 xci_0 ?_
  refine xr_istore (pc := 174) (loc' := [(5, .int 0), (4, .int r32), (3, .int s0), (0, .ref x0), (1, .int x1), (2, .int x2)]) dX0_dreams_174 (by decide) rfl ?_
  refine xV_sub [3, 4, 5, 2, 1, 0] rfl ?_
  obtain ⟨b42, hb42, hf⟩ := xo_bind hf
  refine itr_rule (P := fun s_ : Int32 × CC => xV (wC D P) K mX0_dreams (xQ (wC D P) K Z) (g, s_.2) 176 [(0, .ref x0), (1, .int x1), (2, .int x2), (3, .int s0), (4, .int r32), (5, .int s_.1)] []) (fun s_ o_ hB_ hc_ he_ => ok_Bc_X0_dreams_176 hB_ hc_ (fun e_ h_ => ?_)) 4096 _ hb42
  · have e9_ := he_ _ h_
    rw [e9_]
    refine xr_aload_n (pc := 241) 0 dX0_dreams_241 rfl rfl ?_
    refine yc_getFs (pc := 242) 1 14 114 (gKo ht29 (by decide)) (by decide) (by decide) (by decide) rfl rfl hb30 q500 (ys_eq rfl) rfl dX0_dreams_242 ?_
    refine xr_iload_n (pc := 245) 2 dX0_dreams_245 rfl rfl ?_
    refine xr_iload (pc := 246) 3 dX0_dreams_246 rfl ?_
    obtain ⟨hi_, hf⟩ := xo_if hf
    refine yc_iast (pc := 248) ht31 hi_ dX0_dreams_248 ?_
    refine xr_iinc (pc := 249) (loc' := [(2, .int (x2 + 1)), (0, .ref x0), (1, .int x1), (5, .int b42.1)]) 2 dX0_dreams_249 rfl xci_1 (by decide) rfl ?_
    refine xr_goto (pc := 252) 124 dX0_dreams_252 (by decide) ?_
    refine xV_sub [1, 2, 0] rfl ?_
    exact kc _ (Option.some.inj hf).symm
def Bc_X0_dreams_124 (g : CG) (x0 : Nat) (x1 : Int32) (x2 : Int32) (τ : CC) : Option ((Int32 × CC) ⊕ ((CC))) :=
  if gT g x0 = 1 then
  xbd (f_c_X0_columns g x0 τ) fun r26 τ26 =>
  if r26 ≤ x2 then
  some (.inr τ26)
  else
  if x2 = 1 then
  (gR g 114 x0).bind fun b27 =>
  if gT g b27 = 100 then
  if xin 0 (gN g b27) = true then
  Jc_X0_dreams_154 g x0 x1 x2 (cA τ26 b27 (0 : Int32).toNatClampNeg) τ26
  else none
  else none
  else
  (gR g 114 x0).bind fun b43 =>
  if gT g b43 = 100 then
  if xin (x2 - 2) (gN g b43) = true then
  Jc_X0_dreams_154 g x0 x1 x2 (cA τ26 b43 (x2 - 2).toNatClampNeg) τ26
  else none
  else none
  else none
theorem ok_Bc_X0_dreams_124 {D : CD} {P : CP} {K : xK} {g : CG} {Z : Option Value × CS} {x0 : Nat} {x1 : Int32} {x2 : Int32} {τ : CC} {o_ : ((Int32 × CC) ⊕ ((CC)))} (hf : Bc_X0_dreams_124 g x0 x1 x2 τ = some o_) (kc : ∀ s_ : Int32 × CC, o_ = .inl s_ → xV (wC D P) K mX0_dreams (xQ (wC D P) K Z) (g, s_.2) 124 [(0, .ref x0), (1, .int x1), (2, .int s_.1)] []) (ke0 : ∀ e_ : CC, o_ = .inr e_ → xV (wC D P) K mX0_dreams (xQ (wC D P) K Z) (g, e_) 255 [(1, .int x1)] []) : xV (wC D P) K mX0_dreams (xQ (wC D P) K Z) (g, τ) 124 [(0, .ref x0), (1, .int x1), (2, .int x2)] [] := by
  unfold Bc_X0_dreams_124 at hf
  refine xr_iload_n (pc := 124) 2 dX0_dreams_124 rfl rfl ?_
  refine xr_aload_n (pc := 125) 0 dX0_dreams_125 rfl rfl ?_
  obtain ⟨ht25, hf⟩ := xo_if hf
  obtain ⟨r26, τ26, hτ26, hf⟩ := xo_bd hf
  refine call_f_c_X0_columns_X0_169 (pc := 126) hτ26 (gKo ht25 (by decide)) rfl (Nat.le_of_ble_eq_true rfl) (Nat.le_of_ble_eq_true rfl) (Nat.le_of_ble_eq_true rfl) dX0_dreams_126 ?_
  refine xr_icmp_ge (pc := 129) 255 dX0_dreams_129 (by decide) (fun c_ => ?_) (fun c_ => ?_)
  · have hf := xo_pos c_ hf
    refine xV_sub [1] rfl ?_
    exact ke0 _ (Option.some.inj hf).symm
  · have hf := xo_neg c_ hf
    refine xr_iload_n (pc := 132) 2 dX0_dreams_132 rfl rfl ?_
    refine xr_iconst (pc := 133) dX0_dreams_133 xci_1 ?_
    refine xr_icmp_ne (pc := 134) 146 dX0_dreams_134 (by decide) (fun c_ => ?_) (fun c_ => ?_)
    · have hf := xo_pos c_ hf
      refine xr_aload_n (pc := 137) 0 dX0_dreams_137 rfl rfl ?_
      obtain ⟨b27, hb27, hf⟩ := xo_bind hf
      refine yc_getFs (pc := 138) 1 14 114 (gKo ht25 (by decide)) (by decide) (by decide) (by decide) rfl rfl hb27 q500 (ys_eq rfl) rfl dX0_dreams_138 ?_
      refine xr_iconst (pc := 141) dX0_dreams_141 xci_0 ?_
      obtain ⟨ht28, hf⟩ := xo_if hf
      obtain ⟨hi_, hf⟩ := xo_if hf
      refine yc_iald (pc := 142) (gKo ht28 (by decide)) hi_ dX0_dreams_142 ?_
      refine xr_goto (pc := 143) 154 dX0_dreams_143 (by decide) ?_
      exact ok_Jc_X0_dreams_154 hf kc ke0
    · have hf := xo_neg c_ hf
      refine xr_aload_n (pc := 146) 0 dX0_dreams_146 rfl rfl ?_
      obtain ⟨b43, hb43, hf⟩ := xo_bind hf
      refine yc_getFs (pc := 147) 1 14 114 (gKo ht25 (by decide)) (by decide) (by decide) (by decide) rfl rfl hb43 q500 (ys_eq rfl) rfl dX0_dreams_147 ?_
      refine xr_iload_n (pc := 150) 2 dX0_dreams_150 rfl rfl ?_
      refine xr_iconst (pc := 151) dX0_dreams_151 xci_2 ?_
      refine xr_isub (pc := 152) dX0_dreams_152 ?_
      obtain ⟨ht44, hf⟩ := xo_if hf
      obtain ⟨hi_, hf⟩ := xo_if hf
      refine yc_iald (pc := 153) (gKo ht44 (by decide)) hi_ dX0_dreams_153 ?_
      exact ok_Jc_X0_dreams_154 hf kc ke0
def f_c_X0_dreams (g : CG) (x0 : Nat) (τ : CC) : Option (Int32 × CC) :=
  if gT g x0 = 1 then
  xbd (f_c_X0_columns g x0 τ) fun r2 τ2 =>
  (itr (fun s_ : Int32 × CC => Bc_X0_dreams_7 g x0 s_.1 s_.2) 4096 (r2 - 1, τ2)).bind fun b16 =>
  (itr (fun s_ : Int32 × Int32 × CC => Bc_X0_dreams_76 g x0 s_.1 s_.2.1 s_.2.2) 4096 ((-1), 0, b16)).bind fun b24 =>
  (itr (fun s_ : Int32 × CC => Bc_X0_dreams_124 g x0 b24.1 s_.1 s_.2) 4096 (1, b24.2)).bind fun b45 =>
  some ((b24.1, b45))
  else none
theorem ok_f_c_X0_dreams {D : CD} {P : CP} {K : xK} {g : CG} {Z : Option Value × CS} {x0 : Nat} {τ : CC} {o_ : (Int32 × CC)} (hf : f_c_X0_dreams g x0 τ = some o_) (kr : ∀ r_ : (Int32 × CC), o_ = r_ → Z = (some (.int r_.1), (g, r_.2))) : xV (wC D P) K mX0_dreams (xQ (wC D P) K Z) (g, τ) 0 [(0, .ref x0)] [] := by
  unfold f_c_X0_dreams at hf
  refine xr_aload_n (pc := 0) 0 dX0_dreams_0 rfl rfl ?_
  obtain ⟨ht1, hf⟩ := xo_if hf
  obtain ⟨r2, τ2, hτ2, hf⟩ := xo_bd hf
  refine call_f_c_X0_columns_X0_169 (pc := 1) hτ2 (gKo ht1 (by decide)) rfl (Nat.le_of_ble_eq_true rfl) (Nat.le_of_ble_eq_true rfl) (Nat.le_of_ble_eq_true rfl) dX0_dreams_1 ?_
  refine xr_iconst (pc := 4) dX0_dreams_4 xci_1 ?_
  refine xr_isub (pc := 5) dX0_dreams_5 ?_
  refine xr_istore_n (pc := 6) (loc' := [(1, .int (r2 - 1)), (0, .ref x0)]) dX0_dreams_6 rfl (by decide) rfl ?_
  refine xV_sub [1, 0] rfl ?_
  obtain ⟨b16, hb16, hf⟩ := xo_bind hf
  refine itr_rule (P := fun s_ : Int32 × CC => xV (wC D P) K mX0_dreams (xQ (wC D P) K Z) (g, s_.2) 7 [(0, .ref x0), (1, .int s_.1)] []) (fun s_ o_ hB_ hc_ he_ => ok_Bc_X0_dreams_7 hB_ hc_ (fun e_ h_ => ?_)) 4096 _ hb16
  · have e9_ := he_ _ h_
    rw [e9_]
    refine xr_iconst (pc := 72) dX0_dreams_72 xci_m1 ?_
    refine xr_istore_n (pc := 73) (loc' := [(1, .int (-1)), (0, .ref x0)]) dX0_dreams_73 rfl (by decide) rfl ?_
    refine xr_iconst (pc := 74) dX0_dreams_74 xci_0 ?_
    refine xr_istore_n (pc := 75) (loc' := [(2, .int 0), (1, .int (-1)), (0, .ref x0)]) dX0_dreams_75 rfl (by decide) rfl ?_
    refine xV_sub [2, 1, 0] rfl ?_
    obtain ⟨b24, hb24, hf⟩ := xo_bind hf
    refine itr_rule (P := fun s_ : Int32 × Int32 × CC => xV (wC D P) K mX0_dreams (xQ (wC D P) K Z) (g, s_.2.2) 76 [(0, .ref x0), (1, .int s_.1), (2, .int s_.2.1)] []) (fun s_ o_ hB_ hc_ he_ => ok_Bc_X0_dreams_76 hB_ hc_ (fun e_ h_ => ?_)) 4096 _ hb24
    · have e9_ := he_ _ h_
      rw [e9_]
      refine xr_iconst (pc := 122) dX0_dreams_122 xci_1 ?_
      refine xr_istore_n (pc := 123) (loc' := [(2, .int 1), (0, .ref x0), (1, .int b24.1)]) dX0_dreams_123 rfl (by decide) rfl ?_
      refine xV_sub [1, 2, 0] rfl ?_
      obtain ⟨b45, hb45, hf⟩ := xo_bind hf
      refine itr_rule (P := fun s_ : Int32 × CC => xV (wC D P) K mX0_dreams (xQ (wC D P) K Z) (g, s_.2) 124 [(0, .ref x0), (1, .int b24.1), (2, .int s_.1)] []) (fun s_ o_ hB_ hc_ he_ => ok_Bc_X0_dreams_124 hB_ hc_ (fun e_ h_ => ?_)) 4096 _ hb45
      · have e9_ := he_ _ h_
        rw [e9_]
        refine xr_iload_n (pc := 255) 0 dX0_dreams_255 rfl rfl ?_
        rw [kr _ (Option.some.inj hf).symm]
        exact xr_iret (pc := 256) dX0_dreams_256 rfl
theorem met_f_c_X0_dreams (l : Launch) {D : CD} {P : CP} {g : CG} {x0 : Nat} {τ : CC} {o_ : (Int32 × CC)} (hf : f_c_X0_dreams g x0 τ = some o_) : xMet (wC D P) l yX0_dreams (ws_ yX0_dreams cX0_dreams 6 (some .int)) 81 4860 (grc g) (grs g) [.ref x0] (g, τ) (some (.int o_.1), (g, o_.2)) := 
  xMet_of (by decide) (Nat.le_of_ble_eq_true rfl) KC_moved RPC_of (fun K _ _ _ => ok_f_c_X0_dreams hf (fun _ h => by rw [h]))
theorem hd_f_c_X0_dreams : yX0_dreams.cls ≠ "java/lang/invoke/MethodHandle" ∧ yX0_dreams.cls ≠ "java/lang/invoke/VarHandle" ∧ (parseMethodDescriptor yX0_dreams.desc).map (fun d => d.parameters.length) = some 0 := by decide +kernel
theorem call_f_c_X0_dreams_X0_357 {D : CD} {P : CP} {K : xK} {M : xM} {Q : State → Prop} {g : CG} {c : CC} {x0 : Nat} {pc : Nat} {loc : List (Nat × Value)} {st : List Value} {r : Int32} {c1 : CC} (hf : f_c_X0_dreams g x0 c = some (r, c1)) (hr : gK g x0 = 1) (ho : M.2.2.1 = RX0) (hfr : 82 ≤ M.2.2.2.1) (hlo : 4885 ≤ M.2.2.2.2.1) (hcat : (st.map fun v => v.category).sum ≤ 8) (d : decode M.1 pc = .ok (.invokevirtual 357, 3)) (k : xV (wC D P) K M Q (g, c1) (pc + 3) loc (.int r :: st)) : xV (wC D P) K M Q (g, c) pc loc (.ref x0 :: st) :=
  yc_callV (As := []) (rest := st) (met_f_c_X0_dreams K.2.1 hf) (lw_V q1579 q1581 qs54 q174 q1582) ⟨rfl, hd_f_c_X0_dreams⟩ ho hfr hlo rfl hr (by decide) (by decide) rfl rfl hcat d k
abbrev mX0_dream : xM := (cX0_dream, 3, RX0, 82, 4920, (some .int), "dream")
def Jc_X0_dream_22 (g : CG) (x0 : Nat) (x1 : Int32) (τ : CC) : Option (Int32 × CC) :=
  if gT g x0 = 1 then
  xbd (f_c_X0_dreams g x0 τ) fun r4 τ4 =>
  if x1 = (-1) then
  some ((r4, τ4))
  else
  (gR g 114 x0).bind fun b5 =>
  if gT g b5 = 100 then
  if xin x1 (gN g b5) = true then
  some ((cA τ4 b5 x1.toNatClampNeg, τ4))
  else none
  else none
  else none
theorem ok_Jc_X0_dream_22 {D : CD} {P : CP} {K : xK} {g : CG} {Z : Option Value × CS} {x0 : Nat} {x1 : Int32} {τ : CC} {o_ : (Int32 × CC)} (hf : Jc_X0_dream_22 g x0 x1 τ = some o_) (kr : ∀ r_ : (Int32 × CC), o_ = r_ → Z = (some (.int r_.1), (g, r_.2))) : xV (wC D P) K mX0_dream (xQ (wC D P) K Z) (g, τ) 22 [(0, .ref x0), (1, .int x1)] [] := by
  unfold Jc_X0_dream_22 at hf
  refine xr_aload_n (pc := 22) 0 dX0_dream_22 rfl rfl ?_
  obtain ⟨ht3, hf⟩ := xo_if hf
  obtain ⟨r4, τ4, hτ4, hf⟩ := xo_bd hf
  refine call_f_c_X0_dreams_X0_357 (pc := 23) hτ4 (gKo ht3 (by decide)) rfl (Nat.le_of_ble_eq_true rfl) (Nat.le_of_ble_eq_true rfl) (Nat.le_of_ble_eq_true rfl) dX0_dream_23 ?_
  refine xr_istore_n (pc := 26) (loc' := [(2, .int r4), (0, .ref x0), (1, .int x1)]) dX0_dream_26 rfl (by decide) rfl ?_
  refine xr_iload_n (pc := 27) 2 dX0_dream_27 rfl rfl ?_
  refine xr_iconst (pc := 28) dX0_dream_28 xci_m1 ?_
  refine xr_icmp_ne (pc := 29) 36 dX0_dream_29 (by decide) (fun c_ => ?_) (fun c_ => ?_)
  · have hf := xo_pos c_ hf
    refine xr_iload_n (pc := 32) 0 dX0_dream_32 rfl rfl ?_
    refine xr_goto (pc := 33) 42 dX0_dream_33 (by decide) ?_
    rw [kr _ (Option.some.inj hf).symm]
    exact xr_iret (pc := 42) dX0_dream_42 rfl
  · have hf := xo_neg c_ hf
    refine xr_aload_n (pc := 36) 1 dX0_dream_36 rfl rfl ?_
    obtain ⟨b5, hb5, hf⟩ := xo_bind hf
    refine yc_getFs (pc := 37) 1 14 114 (gKo ht3 (by decide)) (by decide) (by decide) (by decide) rfl rfl hb5 q500 (ys_eq rfl) rfl dX0_dream_37 ?_
    refine xr_iload_n (pc := 40) 2 dX0_dream_40 rfl rfl ?_
    obtain ⟨ht6, hf⟩ := xo_if hf
    obtain ⟨hi_, hf⟩ := xo_if hf
    refine yc_iald (pc := 41) (gKo ht6 (by decide)) hi_ dX0_dream_41 ?_
    rw [kr _ (Option.some.inj hf).symm]
    exact xr_iret (pc := 42) dX0_dream_42 rfl
def f_c_X0_dream (g : CG) (x0 : Nat) (x1 : Int32) (τ : CC) : Option (Int32 × CC) :=
  if gT g x0 = 1 then
  xbd (f_c_X0_isValley g x0 τ) fun r2 τ2 =>
  if r2 = 0 then
  some (((-1), τ2))
  else
  if x1 = (-1) then
  Jc_X0_dream_22 g x0 x1 τ2
  else
  xbd (f_c_X0_isColumn g x0 x1 τ2) fun r7 τ7 =>
  if r7 = 0 then
  some (((-1), τ7))
  else
  Jc_X0_dream_22 g x0 x1 τ7
  else none
theorem ok_f_c_X0_dream {D : CD} {P : CP} {K : xK} {g : CG} {Z : Option Value × CS} {x0 : Nat} {x1 : Int32} {τ : CC} {o_ : (Int32 × CC)} (hf : f_c_X0_dream g x0 x1 τ = some o_) (kr : ∀ r_ : (Int32 × CC), o_ = r_ → Z = (some (.int r_.1), (g, r_.2))) : xV (wC D P) K mX0_dream (xQ (wC D P) K Z) (g, τ) 0 [(0, .ref x0), (1, .int x1)] [] := by
  unfold f_c_X0_dream at hf
  refine xr_aload_n (pc := 0) 0 dX0_dream_0 rfl rfl ?_
  obtain ⟨ht1, hf⟩ := xo_if hf
  obtain ⟨r2, τ2, hτ2, hf⟩ := xo_bd hf
  refine call_f_c_X0_isValley_X0_285 (pc := 1) hτ2 (gKo ht1 (by decide)) rfl (Nat.le_of_ble_eq_true rfl) (Nat.le_of_ble_eq_true rfl) (Nat.le_of_ble_eq_true rfl) dX0_dream_1 ?_
  refine xr_if_eq (pc := 4) 20 dX0_dream_4 (by decide) (fun c_ => ?_) (fun c_ => ?_)
  · have hf := xo_pos c_ hf
    refine xr_iconst (pc := 20) dX0_dream_20 xci_m1 ?_
    rw [kr _ (Option.some.inj hf).symm]
    exact xr_iret (pc := 21) dX0_dream_21 rfl
  · have hf := xo_neg c_ hf
    refine xr_iload_n (pc := 7) 1 dX0_dream_7 rfl rfl ?_
    refine xr_iconst (pc := 8) dX0_dream_8 xci_m1 ?_
    refine xr_icmp_eq (pc := 9) 22 dX0_dream_9 (by decide) (fun c_ => ?_) (fun c_ => ?_)
    · have hf := xo_pos c_ hf
      exact ok_Jc_X0_dream_22 hf kr
    · have hf := xo_neg c_ hf
      refine xr_aload_n (pc := 12) 0 dX0_dream_12 rfl rfl ?_
      refine xr_iload_n (pc := 13) 1 dX0_dream_13 rfl rfl ?_
      obtain ⟨r7, τ7, hτ7, hf⟩ := xo_bd hf
      refine call_f_c_X0_isColumn_X0_171 (pc := 14) hτ7 (gKo ht1 (by decide)) rfl (Nat.le_of_ble_eq_true rfl) (Nat.le_of_ble_eq_true rfl) (Nat.le_of_ble_eq_true rfl) dX0_dream_14 ?_
      refine xr_if_ne (pc := 17) 22 dX0_dream_17 (by decide) (fun c_ => ?_) (fun c_ => ?_)
      · have hf := xo_pos c_ hf
        refine xr_iconst (pc := 20) dX0_dream_20 xci_m1 ?_
        rw [kr _ (Option.some.inj hf).symm]
        exact xr_iret (pc := 21) dX0_dream_21 rfl
      · have hf := xo_neg c_ hf
        exact ok_Jc_X0_dream_22 hf kr
theorem met_f_c_X0_dream (l : Launch) {D : CD} {P : CP} {g : CG} {x0 : Nat} {x1 : Int32} {τ : CC} {o_ : (Int32 × CC)} (hf : f_c_X0_dream g x0 x1 τ = some o_) : xMet (wC D P) l yX0_dream (ws_ yX0_dream cX0_dream 3 (some .int)) 82 4920 (grc g) (grs g) [.ref x0, .int x1] (g, τ) (some (.int o_.1), (g, o_.2)) := 
  xMet_of (by decide) (Nat.le_of_ble_eq_true rfl) KC_moved RPC_of (fun K _ _ _ => ok_f_c_X0_dream hf (fun _ h => by rw [h]))
abbrev mX0_byteAt : xM := (cX0_byteAt, 2, RX0, 0, 0, (some .int), "byteAt")
def f_c_X0_byteAt (g : CG) (x0 : Nat) (x1 : Int32) (τ : CC) : Option (Int32 × CC) :=
  if gT g x0 = 1 then
  (gR g 101 x0).bind fun b2 =>
  if gT g b2 = 103 then
  if xin x1 (gN g b2) = true then
  some (((cA τ b2 x1.toNatClampNeg) &&& 255, τ))
  else none
  else none
  else none
theorem ok_f_c_X0_byteAt {D : CD} {P : CP} {K : xK} {g : CG} {Z : Option Value × CS} {x0 : Nat} {x1 : Int32} {τ : CC} {o_ : (Int32 × CC)} (hf : f_c_X0_byteAt g x0 x1 τ = some o_) (kr : ∀ r_ : (Int32 × CC), o_ = r_ → Z = (some (.int r_.1), (g, r_.2))) : xV (wC D P) K mX0_byteAt (xQ (wC D P) K Z) (g, τ) 0 [(0, .ref x0), (1, .int x1)] [] := by
  unfold f_c_X0_byteAt at hf
  refine xr_aload_n (pc := 0) 0 dX0_byteAt_0 rfl rfl ?_
  obtain ⟨ht1, hf⟩ := xo_if hf
  obtain ⟨b2, hb2, hf⟩ := xo_bind hf
  refine yc_getFs (pc := 1) 1 1 101 (gKo ht1 (by decide)) (by decide) (by decide) (by decide) rfl rfl hb2 q486 (ys_eq rfl) rfl dX0_byteAt_1 ?_
  refine xr_iload_n (pc := 4) 1 dX0_byteAt_4 rfl rfl ?_
  obtain ⟨ht3, hf⟩ := xo_if hf
  obtain ⟨hi_, hf⟩ := xo_if hf
  refine yc_bald (pc := 5) (gKo ht3 (by decide)) hi_ dX0_byteAt_5 ?_
  refine xr_sipush (pc := 6) dX0_byteAt_6 xcs_255 ?_
  refine xr_iand (pc := 9) dX0_byteAt_9 ?_
  rw [kr _ (Option.some.inj hf).symm]
  exact xr_iret (pc := 10) dX0_byteAt_10 rfl
theorem met_f_c_X0_byteAt (l : Launch) {D : CD} {P : CP} {g : CG} {x0 : Nat} {x1 : Int32} {τ : CC} {o_ : (Int32 × CC)} (hf : f_c_X0_byteAt g x0 x1 τ = some o_) : xMet (wC D P) l yX0_byteAt (ws_ yX0_byteAt cX0_byteAt 2 (some .int)) 0 0 (grc g) (grs g) [.ref x0, .int x1] (g, τ) (some (.int o_.1), (g, o_.2)) := 
  xMet_of (by decide) (Nat.le_of_ble_eq_true rfl) KC_moved RPC_of (fun K _ _ _ => ok_f_c_X0_byteAt hf (fun _ h => by rw [h]))
theorem hd_f_c_X0_byteAt : yX0_byteAt.cls ≠ "java/lang/invoke/MethodHandle" ∧ yX0_byteAt.cls ≠ "java/lang/invoke/VarHandle" ∧ (parseMethodDescriptor yX0_byteAt.desc).map (fun d => d.parameters.length) = some 1 := by decide +kernel
theorem call_f_c_X0_byteAt_X0_360 {D : CD} {P : CP} {K : xK} {M : xM} {Q : State → Prop} {g : CG} {c : CC} {x0 : Nat} {x1 : Int32} {pc : Nat} {loc : List (Nat × Value)} {st : List Value} {r : Int32} {c1 : CC} (hf : f_c_X0_byteAt g x0 x1 c = some (r, c1)) (hr : gK g x0 = 1) (ho : M.2.2.1 = RX0) (hfr : 1 ≤ M.2.2.2.1) (hlo : 21 ≤ M.2.2.2.2.1) (hcat : (st.map fun v => v.category).sum ≤ 8) (d : decode M.1 pc = .ok (.invokevirtual 360, 3)) (k : xV (wC D P) K M Q (g, c1) (pc + 3) loc (.int r :: st)) : xV (wC D P) K M Q (g, c) pc loc (.int x1 :: .ref x0 :: st) :=
  yc_callV (As := [.int x1]) (rest := st) (met_f_c_X0_byteAt K.2.1 hf) (lw_V q1601 q1603 qs58 q174 q1604) ⟨rfl, hd_f_c_X0_byteAt⟩ ho hfr hlo rfl hr (by decide) (by decide) rfl rfl hcat d k
abbrev mX0_twoAt : xM := (cX0_twoAt, 2, RX0, 1, 60, (some .int), "twoAt")
def f_c_X0_twoAt (g : CG) (x0 : Nat) (x1 : Int32) (τ : CC) : Option (Int32 × CC) :=
  if gT g x0 = 1 then
  xbd (f_c_X0_byteAt g x0 x1 τ) fun r2 τ2 =>
  xbd (f_c_X0_byteAt g x0 (x1 + 1) τ2) fun r3 τ3 =>
  some ((((r2 : Int32) <<< (8 &&& 31)) ||| r3, τ3))
  else none
theorem ok_f_c_X0_twoAt {D : CD} {P : CP} {K : xK} {g : CG} {Z : Option Value × CS} {x0 : Nat} {x1 : Int32} {τ : CC} {o_ : (Int32 × CC)} (hf : f_c_X0_twoAt g x0 x1 τ = some o_) (kr : ∀ r_ : (Int32 × CC), o_ = r_ → Z = (some (.int r_.1), (g, r_.2))) : xV (wC D P) K mX0_twoAt (xQ (wC D P) K Z) (g, τ) 0 [(0, .ref x0), (1, .int x1)] [] := by
  unfold f_c_X0_twoAt at hf
  refine xr_aload_n (pc := 0) 0 dX0_twoAt_0 rfl rfl ?_
  refine xr_iload_n (pc := 1) 1 dX0_twoAt_1 rfl rfl ?_
  obtain ⟨ht1, hf⟩ := xo_if hf
  obtain ⟨r2, τ2, hτ2, hf⟩ := xo_bd hf
  refine call_f_c_X0_byteAt_X0_360 (pc := 2) hτ2 (gKo ht1 (by decide)) rfl (Nat.le_of_ble_eq_true rfl) (Nat.le_of_ble_eq_true rfl) (Nat.le_of_ble_eq_true rfl) dX0_twoAt_2 ?_
  refine xr_bipush (pc := 5) dX0_twoAt_5 xcb_8 ?_
  refine xr_ishl (pc := 7) dX0_twoAt_7 ?_
  refine xr_aload_n (pc := 8) 0 dX0_twoAt_8 rfl rfl ?_
  refine xr_iload_n (pc := 9) 1 dX0_twoAt_9 rfl rfl ?_
  refine xr_iconst (pc := 10) dX0_twoAt_10 xci_1 ?_
  refine xr_iadd (pc := 11) dX0_twoAt_11 ?_
  obtain ⟨r3, τ3, hτ3, hf⟩ := xo_bd hf
  refine call_f_c_X0_byteAt_X0_360 (pc := 12) hτ3 (gKo ht1 (by decide)) rfl (Nat.le_of_ble_eq_true rfl) (Nat.le_of_ble_eq_true rfl) (Nat.le_of_ble_eq_true rfl) dX0_twoAt_12 ?_
  refine xr_ior (pc := 15) dX0_twoAt_15 ?_
  rw [kr _ (Option.some.inj hf).symm]
  exact xr_iret (pc := 16) dX0_twoAt_16 rfl
theorem met_f_c_X0_twoAt (l : Launch) {D : CD} {P : CP} {g : CG} {x0 : Nat} {x1 : Int32} {τ : CC} {o_ : (Int32 × CC)} (hf : f_c_X0_twoAt g x0 x1 τ = some o_) : xMet (wC D P) l yX0_twoAt (ws_ yX0_twoAt cX0_twoAt 2 (some .int)) 1 60 (grc g) (grs g) [.ref x0, .int x1] (g, τ) (some (.int o_.1), (g, o_.2)) := 
  xMet_of (by decide) (Nat.le_of_ble_eq_true rfl) KC_moved RPC_of (fun K _ _ _ => ok_f_c_X0_twoAt hf (fun _ h => by rw [h]))
theorem hd_f_c_X0_taken : yX0_taken.cls ≠ "java/lang/invoke/MethodHandle" ∧ yX0_taken.cls ≠ "java/lang/invoke/VarHandle" ∧ (parseMethodDescriptor yX0_taken.desc).map (fun d => d.parameters.length) = some 0 := by decide +kernel
theorem call_f_c_X0_taken_X0_129 {D : CD} {P : CP} {K : xK} {M : xM} {Q : State → Prop} {g : CG} {c : CC} {x0 : Nat} {pc : Nat} {loc : List (Nat × Value)} {st : List Value} {r : Int32} {c1 : CC} (hf : f_c_X0_taken g x0 c = some (r, c1)) (hr : gK g x0 = 1) (ho : M.2.2.1 = RX0) (hfr : 1 ≤ M.2.2.2.1) (hlo : 21 ≤ M.2.2.2.2.1) (hcat : (st.map fun v => v.category).sum ≤ 8) (d : decode M.1 pc = .ok (.invokevirtual 129, 3)) (k : xV (wC D P) K M Q (g, c1) (pc + 3) loc (.int r :: st)) : xV (wC D P) K M Q (g, c) pc loc (.ref x0 :: st) :=
  yc_callV (As := []) (rest := st) (met_f_c_X0_taken K.2.1 hf) (lw_V q583 q585 qs3 q174 q586) ⟨rfl, hd_f_c_X0_taken⟩ ho hfr hlo rfl hr (by decide) (by decide) rfl rfl hcat d k
abbrev mX0_see : xM := (cX0_see, 4, RX0, 3, 180, (some .int), "see")
def Jc_X0_see_74 (g : CG) (x0 : Nat) (x1 : Int32) (x3 : Int32) (s0 : Int32) (τ : CC) : Option ((Int32 × Int32 × CC) ⊕ ((Int32 × CC))) :=
  some (.inl (s0, x3 + 3, τ))
theorem ok_Jc_X0_see_74 {D : CD} {P : CP} {K : xK} {g : CG} {Z : Option Value × CS} {x0 : Nat} {x1 : Int32} {x3 : Int32} {s0 : Int32} {τ : CC} {o_ : ((Int32 × Int32 × CC) ⊕ ((Int32 × CC)))} (hf : Jc_X0_see_74 g x0 x1 x3 s0 τ = some o_) (kc : ∀ s_ : Int32 × Int32 × CC, o_ = .inl s_ → xV (wC D P) K mX0_see (xQ (wC D P) K Z) (g, s_.2.2) 29 [(0, .ref x0), (1, .int x1), (2, .int s_.1), (3, .int s_.2.1)] []) (ke0 : ∀ e_ : Int32 × CC, o_ = .inr e_ → xV (wC D P) K mX0_see (xQ (wC D P) K Z) (g, e_.2) 81 [(0, .ref x0), (1, .int x1), (2, .int e_.1)] []) : xV (wC D P) K mX0_see (xQ (wC D P) K Z) (g, τ) 74 [(0, .ref x0), (1, .int x1), (3, .int x3)] [.int s0] := by
  unfold Jc_X0_see_74 at hf
  refine xr_istore_n (pc := 74) (loc' := [(2, .int s0), (0, .ref x0), (1, .int x1), (3, .int x3)]) dX0_see_74 rfl (by decide) rfl ?_
  refine xr_iinc (pc := 75) (loc' := [(3, .int (x3 + 3)), (2, .int s0), (0, .ref x0), (1, .int x1)]) 3 dX0_see_75 rfl xci_3 (by decide) rfl ?_
  refine xr_goto (pc := 78) 29 dX0_see_78 (by decide) ?_
  refine xV_sub [2, 3, 1, 0] rfl ?_
  exact kc _ (Option.some.inj hf).symm
def Jc_X0_see_73 (g : CG) (x0 : Nat) (x1 : Int32) (x3 : Int32) (τ : CC) : Option ((Int32 × Int32 × CC) ⊕ ((Int32 × CC))) :=
  Jc_X0_see_74 g x0 x1 x3 0 τ
theorem ok_Jc_X0_see_73 {D : CD} {P : CP} {K : xK} {g : CG} {Z : Option Value × CS} {x0 : Nat} {x1 : Int32} {x3 : Int32} {τ : CC} {o_ : ((Int32 × Int32 × CC) ⊕ ((Int32 × CC)))} (hf : Jc_X0_see_73 g x0 x1 x3 τ = some o_) (kc : ∀ s_ : Int32 × Int32 × CC, o_ = .inl s_ → xV (wC D P) K mX0_see (xQ (wC D P) K Z) (g, s_.2.2) 29 [(0, .ref x0), (1, .int x1), (2, .int s_.1), (3, .int s_.2.1)] []) (ke0 : ∀ e_ : Int32 × CC, o_ = .inr e_ → xV (wC D P) K mX0_see (xQ (wC D P) K Z) (g, e_.2) 81 [(0, .ref x0), (1, .int x1), (2, .int e_.1)] []) : xV (wC D P) K mX0_see (xQ (wC D P) K Z) (g, τ) 73 [(0, .ref x0), (1, .int x1), (3, .int x3)] [] := by
  unfold Jc_X0_see_73 at hf
  refine xr_iconst (pc := 73) dX0_see_73 xci_0 ?_
  exact ok_Jc_X0_see_74 hf kc ke0
def Bc_X0_see_29 (g : CG) (x0 : Nat) (x1 : Int32) (x2 : Int32) (x3 : Int32) (τ : CC) : Option ((Int32 × Int32 × CC) ⊕ ((Int32 × CC))) :=
  if x1 ≤ x3 then
  some (.inr (x2, τ))
  else
  if x2 = 0 then
  some (.inr (x2, τ))
  else
  if gT g x0 = 1 then
  xbd (f_c_X0_byteAt g x0 x3 τ) fun r4 τ4 =>
  if (30 : Int32) < r4 then
  Jc_X0_see_73 g x0 x1 x3 τ4
  else
  xbd (f_c_X0_byteAt g x0 (x3 + 1) τ4) fun r5 τ5 =>
  xbd (f_c_X0_byteAt g x0 (x3 + 2) τ5) fun r6 τ6 =>
  xbd (f_c_X0_isCell g x0 r5 r6 τ6) fun r7 τ7 =>
  if r7 = 0 then
  Jc_X0_see_73 g x0 x1 x3 τ7
  else
  Jc_X0_see_74 g x0 x1 x3 1 τ7
  else none
theorem ok_Bc_X0_see_29 {D : CD} {P : CP} {K : xK} {g : CG} {Z : Option Value × CS} {x0 : Nat} {x1 : Int32} {x2 : Int32} {x3 : Int32} {τ : CC} {o_ : ((Int32 × Int32 × CC) ⊕ ((Int32 × CC)))} (hf : Bc_X0_see_29 g x0 x1 x2 x3 τ = some o_) (kc : ∀ s_ : Int32 × Int32 × CC, o_ = .inl s_ → xV (wC D P) K mX0_see (xQ (wC D P) K Z) (g, s_.2.2) 29 [(0, .ref x0), (1, .int x1), (2, .int s_.1), (3, .int s_.2.1)] []) (ke0 : ∀ e_ : Int32 × CC, o_ = .inr e_ → xV (wC D P) K mX0_see (xQ (wC D P) K Z) (g, e_.2) 81 [(0, .ref x0), (1, .int x1), (2, .int e_.1)] []) : xV (wC D P) K mX0_see (xQ (wC D P) K Z) (g, τ) 29 [(0, .ref x0), (1, .int x1), (2, .int x2), (3, .int x3)] [] := by
  unfold Bc_X0_see_29 at hf
  refine xr_iload_n (pc := 29) 3 dX0_see_29 rfl rfl ?_
  refine xr_iload_n (pc := 30) 1 dX0_see_30 rfl rfl ?_
  refine xr_icmp_ge (pc := 31) 81 dX0_see_31 (by decide) (fun c_ => ?_) (fun c_ => ?_)
  · have hf := xo_pos c_ hf
    refine xV_sub [0, 1, 2] rfl ?_
    exact ke0 _ (Option.some.inj hf).symm
  · have hf := xo_neg c_ hf
    refine xr_iload_n (pc := 34) 2 dX0_see_34 rfl rfl ?_
    refine xr_if_eq (pc := 35) 81 dX0_see_35 (by decide) (fun c_ => ?_) (fun c_ => ?_)
    · have hf := xo_pos c_ hf
      refine xV_sub [0, 1, 2] rfl ?_
      exact ke0 _ (Option.some.inj hf).symm
    · have hf := xo_neg c_ hf
      refine xr_aload_n (pc := 38) 0 dX0_see_38 rfl rfl ?_
      refine xr_iload_n (pc := 39) 3 dX0_see_39 rfl rfl ?_
      obtain ⟨ht3, hf⟩ := xo_if hf
      obtain ⟨r4, τ4, hτ4, hf⟩ := xo_bd hf
      refine call_f_c_X0_byteAt_X0_360 (pc := 40) hτ4 (gKo ht3 (by decide)) rfl (Nat.le_of_ble_eq_true rfl) (Nat.le_of_ble_eq_true rfl) (Nat.le_of_ble_eq_true rfl) dX0_see_40 ?_
      refine xr_bipush (pc := 43) dX0_see_43 xcb_30 ?_
      refine xr_icmp_gt (pc := 45) 73 dX0_see_45 (by decide) (fun c_ => ?_) (fun c_ => ?_)
      · have hf := xo_pos c_ hf
        refine xV_sub [0, 1, 3] rfl ?_
        exact ok_Jc_X0_see_73 hf kc ke0
      · have hf := xo_neg c_ hf
        refine xr_aload_n (pc := 48) 0 dX0_see_48 rfl rfl ?_
        refine xr_aload_n (pc := 49) 0 dX0_see_49 rfl rfl ?_
        refine xr_iload_n (pc := 50) 3 dX0_see_50 rfl rfl ?_
        refine xr_iconst (pc := 51) dX0_see_51 xci_1 ?_
        refine xr_iadd (pc := 52) dX0_see_52 ?_
        obtain ⟨r5, τ5, hτ5, hf⟩ := xo_bd hf
        refine call_f_c_X0_byteAt_X0_360 (pc := 53) hτ5 (gKo ht3 (by decide)) rfl (Nat.le_of_ble_eq_true rfl) (Nat.le_of_ble_eq_true rfl) (Nat.le_of_ble_eq_true rfl) dX0_see_53 ?_
        refine xr_aload_n (pc := 56) 0 dX0_see_56 rfl rfl ?_
        refine xr_iload_n (pc := 57) 3 dX0_see_57 rfl rfl ?_
        refine xr_iconst (pc := 58) dX0_see_58 xci_2 ?_
        refine xr_iadd (pc := 59) dX0_see_59 ?_
        obtain ⟨r6, τ6, hτ6, hf⟩ := xo_bd hf
        refine call_f_c_X0_byteAt_X0_360 (pc := 60) hτ6 (gKo ht3 (by decide)) rfl (Nat.le_of_ble_eq_true rfl) (Nat.le_of_ble_eq_true rfl) (Nat.le_of_ble_eq_true rfl) dX0_see_60 ?_
        obtain ⟨r7, τ7, hτ7, hf⟩ := xo_bd hf
        refine call_f_c_X0_isCell_X0_250 (pc := 63) hτ7 (gKo ht3 (by decide)) rfl (Nat.le_of_ble_eq_true rfl) (Nat.le_of_ble_eq_true rfl) (Nat.le_of_ble_eq_true rfl) dX0_see_63 ?_
        refine xr_if_eq (pc := 66) 73 dX0_see_66 (by decide) (fun c_ => ?_) (fun c_ => ?_)
        · have hf := xo_pos c_ hf
          refine xV_sub [0, 1, 3] rfl ?_
          exact ok_Jc_X0_see_73 hf kc ke0
        · have hf := xo_neg c_ hf
          refine xr_iconst (pc := 69) dX0_see_69 xci_1 ?_
          refine xr_goto (pc := 70) 74 dX0_see_70 (by decide) ?_
          refine xV_sub [0, 1, 3] rfl ?_
          exact ok_Jc_X0_see_74 hf kc ke0
def Bc_X0_see_100 (g : CG) (x0 : Nat) (x3 : Int32) (τ : CC) : Option ((Int32 × CC) ⊕ ((CC))) :=
  if gT g x0 = 1 then
  if (cI τ 118 x0) ≤ x3 then
  some (.inr τ)
  else
  (gR g 115 x0).bind fun b13 =>
  xbd (f_c_X0_byteAt g x0 (3 * x3) τ) fun r14 τ14 =>
  if gT g b13 = 100 then
  if xin x3 (gN g b13) = true then
  (gR g 116 x0).bind fun b16 =>
  xbd (f_c_X0_byteAt g x0 ((3 * x3) + 1) (uA τ14 b13 x3.toNatClampNeg r14)) fun r17 τ17 =>
  if gT g b16 = 100 then
  if xin x3 (gN g b16) = true then
  (gR g 117 x0).bind fun b19 =>
  xbd (f_c_X0_byteAt g x0 ((3 * x3) + 2) (uA τ17 b16 x3.toNatClampNeg r17)) fun r20 τ20 =>
  if gT g b19 = 100 then
  if xin x3 (gN g b19) = true then
  some (.inl (x3 + 1, uA τ20 b19 x3.toNatClampNeg r20))
  else none
  else none
  else none
  else none
  else none
  else none
  else none
theorem ok_Bc_X0_see_100 {D : CD} {P : CP} {K : xK} {g : CG} {Z : Option Value × CS} {x0 : Nat} {x3 : Int32} {τ : CC} {o_ : ((Int32 × CC) ⊕ ((CC)))} (hf : Bc_X0_see_100 g x0 x3 τ = some o_) (kc : ∀ s_ : Int32 × CC, o_ = .inl s_ → xV (wC D P) K mX0_see (xQ (wC D P) K Z) (g, s_.2) 100 [(0, .ref x0), (3, .int s_.1)] []) (ke0 : ∀ e_ : CC, o_ = .inr e_ → xV (wC D P) K mX0_see (xQ (wC D P) K Z) (g, e_) 157 [(0, .ref x0)] []) : xV (wC D P) K mX0_see (xQ (wC D P) K Z) (g, τ) 100 [(0, .ref x0), (3, .int x3)] [] := by
  unfold Bc_X0_see_100 at hf
  refine xr_iload_n (pc := 100) 1 dX0_see_100 rfl rfl ?_
  refine xr_aload_n (pc := 101) 0 dX0_see_101 rfl rfl ?_
  obtain ⟨ht12, hf⟩ := xo_if hf
  refine yc_getI (pc := 102) 1 18 118 (gKo ht12 (by decide)) (by decide) (by decide) (by decide) rfl rfl q504 (ys_eq rfl) rfl dX0_see_102 ?_
  refine xr_icmp_ge (pc := 105) 157 dX0_see_105 (by decide) (fun c_ => ?_) (fun c_ => ?_)
  · have hf := xo_pos c_ hf
    refine xV_sub [0] rfl ?_
    exact ke0 _ (Option.some.inj hf).symm
  · have hf := xo_neg c_ hf
    refine xr_aload_n (pc := 108) 0 dX0_see_108 rfl rfl ?_
    obtain ⟨b13, hb13, hf⟩ := xo_bind hf
    refine yc_getFs (pc := 109) 1 15 115 (gKo ht12 (by decide)) (by decide) (by decide) (by decide) rfl rfl hb13 q501 (ys_eq rfl) rfl dX0_see_109 ?_
    refine xr_iload_n (pc := 112) 1 dX0_see_112 rfl rfl ?_
    refine xr_aload_n (pc := 113) 0 dX0_see_113 rfl rfl ?_
    refine xr_iconst (pc := 114) dX0_see_114 xci_3 ?_
    refine xr_iload_n (pc := 115) 1 dX0_see_115 rfl rfl ?_
    refine xr_imul (pc := 116) dX0_see_116 ?_
    obtain ⟨r14, τ14, hτ14, hf⟩ := xo_bd hf
    refine call_f_c_X0_byteAt_X0_360 (pc := 117) hτ14 (gKo ht12 (by decide)) rfl (Nat.le_of_ble_eq_true rfl) (Nat.le_of_ble_eq_true rfl) (Nat.le_of_ble_eq_true rfl) dX0_see_117 ?_
    obtain ⟨ht15, hf⟩ := xo_if hf
    obtain ⟨hi_, hf⟩ := xo_if hf
    refine yc_iast (pc := 120) ht15 hi_ dX0_see_120 ?_
    refine xr_aload_n (pc := 121) 0 dX0_see_121 rfl rfl ?_
    obtain ⟨b16, hb16, hf⟩ := xo_bind hf
    refine yc_getFs (pc := 122) 1 16 116 (gKo ht12 (by decide)) (by decide) (by decide) (by decide) rfl rfl hb16 q502 (ys_eq rfl) rfl dX0_see_122 ?_
    refine xr_iload_n (pc := 125) 1 dX0_see_125 rfl rfl ?_
    refine xr_aload_n (pc := 126) 0 dX0_see_126 rfl rfl ?_
    refine xr_iconst (pc := 127) dX0_see_127 xci_3 ?_
    refine xr_iload_n (pc := 128) 1 dX0_see_128 rfl rfl ?_
    refine xr_imul (pc := 129) dX0_see_129 ?_
    refine xr_iconst (pc := 130) dX0_see_130 xci_1 ?_
    refine xr_iadd (pc := 131) dX0_see_131 ?_
    obtain ⟨r17, τ17, hτ17, hf⟩ := xo_bd hf
    refine call_f_c_X0_byteAt_X0_360 (pc := 132) hτ17 (gKo ht12 (by decide)) rfl (Nat.le_of_ble_eq_true rfl) (Nat.le_of_ble_eq_true rfl) (Nat.le_of_ble_eq_true rfl) dX0_see_132 ?_
    obtain ⟨ht18, hf⟩ := xo_if hf
    obtain ⟨hi_, hf⟩ := xo_if hf
    refine yc_iast (pc := 135) ht18 hi_ dX0_see_135 ?_
    refine xr_aload_n (pc := 136) 0 dX0_see_136 rfl rfl ?_
    obtain ⟨b19, hb19, hf⟩ := xo_bind hf
    refine yc_getFs (pc := 137) 1 17 117 (gKo ht12 (by decide)) (by decide) (by decide) (by decide) rfl rfl hb19 q503 (ys_eq rfl) rfl dX0_see_137 ?_
    refine xr_iload_n (pc := 140) 1 dX0_see_140 rfl rfl ?_
    refine xr_aload_n (pc := 141) 0 dX0_see_141 rfl rfl ?_
    refine xr_iconst (pc := 142) dX0_see_142 xci_3 ?_
    refine xr_iload_n (pc := 143) 1 dX0_see_143 rfl rfl ?_
    refine xr_imul (pc := 144) dX0_see_144 ?_
    refine xr_iconst (pc := 145) dX0_see_145 xci_2 ?_
    refine xr_iadd (pc := 146) dX0_see_146 ?_
    obtain ⟨r20, τ20, hτ20, hf⟩ := xo_bd hf
    refine call_f_c_X0_byteAt_X0_360 (pc := 147) hτ20 (gKo ht12 (by decide)) rfl (Nat.le_of_ble_eq_true rfl) (Nat.le_of_ble_eq_true rfl) (Nat.le_of_ble_eq_true rfl) dX0_see_147 ?_
    obtain ⟨ht21, hf⟩ := xo_if hf
    obtain ⟨hi_, hf⟩ := xo_if hf
    refine yc_iast (pc := 150) ht21 hi_ dX0_see_150 ?_
    refine xr_iinc (pc := 151) (loc' := [(3, .int (x3 + 1)), (0, .ref x0)]) 1 dX0_see_151 rfl xci_1 (by decide) rfl ?_
    refine xr_goto (pc := 154) 100 dX0_see_154 (by decide) ?_
    refine xV_sub [1, 0] rfl ?_
    exact kc _ (Option.some.inj hf).symm
def Jc_X0_see_81 (g : CG) (x0 : Nat) (x1 : Int32) (x2 : Int32) (τ : CC) : Option (Int32 × CC) :=
  if x2 = 0 then
  if gT g x0 = 1 then
  xbd (f_c_X0_refuses g x0 1 τ) fun r10 τ10 =>
  some ((r10, τ10))
  else none
  else
  if gT g x0 = 1 then
  (itr (fun s_ : Int32 × CC => Bc_X0_see_100 g x0 s_.1 s_.2) 4096 (0, uI τ 118 x0 (x1 / 3))).bind fun b22 =>
  some ((cI b22 118 x0, b22))
  else none
theorem ok_Jc_X0_see_81 {D : CD} {P : CP} {K : xK} {g : CG} {Z : Option Value × CS} {x0 : Nat} {x1 : Int32} {x2 : Int32} {τ : CC} {o_ : (Int32 × CC)} (hf : Jc_X0_see_81 g x0 x1 x2 τ = some o_) (kr : ∀ r_ : (Int32 × CC), o_ = r_ → Z = (some (.int r_.1), (g, r_.2))) : xV (wC D P) K mX0_see (xQ (wC D P) K Z) (g, τ) 81 [(0, .ref x0), (1, .int x1), (2, .int x2)] [] := by
  unfold Jc_X0_see_81 at hf
  refine xr_iload_n (pc := 81) 2 dX0_see_81 rfl rfl ?_
  refine xr_if_ne (pc := 82) 91 dX0_see_82 (by decide) (fun c_ => ?_) (fun c_ => ?_)
  · have hf := xo_pos c_ hf
    refine xr_aload_n (pc := 85) 0 dX0_see_85 rfl rfl ?_
    refine xr_iconst (pc := 86) dX0_see_86 xci_1 ?_
    obtain ⟨ht9, hf⟩ := xo_if hf
    obtain ⟨r10, τ10, hτ10, hf⟩ := xo_bd hf
    refine call_f_c_X0_refuses_X0_118 (pc := 87) hτ10 (gKo ht9 (by decide)) rfl (Nat.le_of_ble_eq_true rfl) (Nat.le_of_ble_eq_true rfl) (Nat.le_of_ble_eq_true rfl) dX0_see_87 ?_
    rw [kr _ (Option.some.inj hf).symm]
    exact xr_iret (pc := 90) dX0_see_90 rfl
  · have hf := xo_neg c_ hf
    refine xr_aload_n (pc := 91) 0 dX0_see_91 rfl rfl ?_
    refine xr_iload_n (pc := 92) 1 dX0_see_92 rfl rfl ?_
    refine xr_iconst (pc := 93) dX0_see_93 xci_3 ?_
    refine xr_idiv (pc := 94) dX0_see_94 (by decide) ?_
    obtain ⟨ht11, hf⟩ := xo_if hf
    refine yc_putI (pc := 95) 1 18 118 ht11 (by decide) (by decide) (by decide) rfl rfl rfl (ty := .int) (by decide +kernel) rfl rfl q504 (ys_eq rfl) rfl dX0_see_95 ?_
    refine xr_iconst (pc := 98) dX0_see_98 xci_0 ?_
    refine xr_istore_n (pc := 99) (loc' := [(3, .int 0), (0, .ref x0), (1, .int x1), (2, .int x2)]) dX0_see_99 rfl (by decide) rfl ?_
    refine xV_sub [1, 0] rfl ?_
    obtain ⟨b22, hb22, hf⟩ := xo_bind hf
    refine itr_rule (P := fun s_ : Int32 × CC => xV (wC D P) K mX0_see (xQ (wC D P) K Z) (g, s_.2) 100 [(0, .ref x0), (3, .int s_.1)] []) (fun s_ o_ hB_ hc_ he_ => ok_Bc_X0_see_100 hB_ hc_ (fun e_ h_ => ?_)) 4096 _ hb22
    · have e9_ := he_ _ h_
      rw [e9_]
      refine xr_aload_n (pc := 157) 0 dX0_see_157 rfl rfl ?_
      refine yc_getI (pc := 158) 1 18 118 (gKo ht11 (by decide)) (by decide) (by decide) (by decide) rfl rfl q504 (ys_eq rfl) rfl dX0_see_158 ?_
      rw [kr _ (Option.some.inj hf).symm]
      exact xr_iret (pc := 161) dX0_see_161 rfl
def Jc_X0_see_26 (g : CG) (x0 : Nat) (x1 : Int32) (s0 : Int32) (τ : CC) : Option (Int32 × CC) :=
  (itr (fun s_ : Int32 × Int32 × CC => Bc_X0_see_29 g x0 x1 s_.1 s_.2.1 s_.2.2) 4096 (s0, 0, τ)).bind fun b8 =>
  Jc_X0_see_81 g x0 x1 b8.1 b8.2
theorem ok_Jc_X0_see_26 {D : CD} {P : CP} {K : xK} {g : CG} {Z : Option Value × CS} {x0 : Nat} {x1 : Int32} {s0 : Int32} {τ : CC} {o_ : (Int32 × CC)} (hf : Jc_X0_see_26 g x0 x1 s0 τ = some o_) (kr : ∀ r_ : (Int32 × CC), o_ = r_ → Z = (some (.int r_.1), (g, r_.2))) : xV (wC D P) K mX0_see (xQ (wC D P) K Z) (g, τ) 26 [(0, .ref x0), (1, .int x1)] [.int s0] := by
  unfold Jc_X0_see_26 at hf
  refine xr_istore_n (pc := 26) (loc' := [(2, .int s0), (0, .ref x0), (1, .int x1)]) dX0_see_26 rfl (by decide) rfl ?_
  refine xr_iconst (pc := 27) dX0_see_27 xci_0 ?_
  refine xr_istore_n (pc := 28) (loc' := [(3, .int 0), (2, .int s0), (0, .ref x0), (1, .int x1)]) dX0_see_28 rfl (by decide) rfl ?_
  refine xV_sub [2, 3, 1, 0] rfl ?_
  obtain ⟨b8, hb8, hf⟩ := xo_bind hf
  refine itr_rule (P := fun s_ : Int32 × Int32 × CC => xV (wC D P) K mX0_see (xQ (wC D P) K Z) (g, s_.2.2) 29 [(0, .ref x0), (1, .int x1), (2, .int s_.1), (3, .int s_.2.1)] []) (fun s_ o_ hB_ hc_ he_ => ok_Bc_X0_see_29 hB_ hc_ (fun e_ h_ => ?_)) 4096 _ hb8
  · have e9_ := he_ _ h_
    rw [e9_]
    exact ok_Jc_X0_see_81 hf kr
def Jc_X0_see_25 (g : CG) (x0 : Nat) (x1 : Int32) (τ : CC) : Option (Int32 × CC) :=
  Jc_X0_see_26 g x0 x1 0 τ
theorem ok_Jc_X0_see_25 {D : CD} {P : CP} {K : xK} {g : CG} {Z : Option Value × CS} {x0 : Nat} {x1 : Int32} {τ : CC} {o_ : (Int32 × CC)} (hf : Jc_X0_see_25 g x0 x1 τ = some o_) (kr : ∀ r_ : (Int32 × CC), o_ = r_ → Z = (some (.int r_.1), (g, r_.2))) : xV (wC D P) K mX0_see (xQ (wC D P) K Z) (g, τ) 25 [(0, .ref x0), (1, .int x1)] [] := by
  unfold Jc_X0_see_25 at hf
  refine xr_iconst (pc := 25) dX0_see_25 xci_0 ?_
  exact ok_Jc_X0_see_26 hf kr
def f_c_X0_see (g : CG) (x0 : Nat) (τ : CC) : Option (Int32 × CC) :=
  if gT g x0 = 1 then
  xbd (f_c_X0_taken g x0 τ) fun r2 τ2 =>
  if r2 ≤ 0 then
  Jc_X0_see_25 g x0 r2 τ2
  else
  if (r2 - r2 / 3 * 3) = 0 then
  if (48 : Int32) < r2 then
  Jc_X0_see_25 g x0 r2 τ2
  else
  Jc_X0_see_26 g x0 r2 1 τ2
  else
  Jc_X0_see_25 g x0 r2 τ2
  else none
theorem ok_f_c_X0_see {D : CD} {P : CP} {K : xK} {g : CG} {Z : Option Value × CS} {x0 : Nat} {τ : CC} {o_ : (Int32 × CC)} (hf : f_c_X0_see g x0 τ = some o_) (kr : ∀ r_ : (Int32 × CC), o_ = r_ → Z = (some (.int r_.1), (g, r_.2))) : xV (wC D P) K mX0_see (xQ (wC D P) K Z) (g, τ) 0 [(0, .ref x0)] [] := by
  unfold f_c_X0_see at hf
  refine xr_aload_n (pc := 0) 0 dX0_see_0 rfl rfl ?_
  obtain ⟨ht1, hf⟩ := xo_if hf
  obtain ⟨r2, τ2, hτ2, hf⟩ := xo_bd hf
  refine call_f_c_X0_taken_X0_129 (pc := 1) hτ2 (gKo ht1 (by decide)) rfl (Nat.le_of_ble_eq_true rfl) (Nat.le_of_ble_eq_true rfl) (Nat.le_of_ble_eq_true rfl) dX0_see_1 ?_
  refine xr_istore_n (pc := 4) (loc' := [(1, .int r2), (0, .ref x0)]) dX0_see_4 rfl (by decide) rfl ?_
  refine xr_iload_n (pc := 5) 0 dX0_see_5 rfl rfl ?_
  refine xr_if_le (pc := 6) 25 dX0_see_6 (by decide) (fun c_ => ?_) (fun c_ => ?_)
  · have hf := xo_pos c_ hf
    refine xV_sub [1, 0] rfl ?_
    exact ok_Jc_X0_see_25 hf kr
  · have hf := xo_neg c_ hf
    refine xr_iload_n (pc := 9) 0 dX0_see_9 rfl rfl ?_
    refine xr_iconst (pc := 10) dX0_see_10 xci_3 ?_
    refine xr_irem (pc := 11) dX0_see_11 (by decide) ?_
    refine xr_if_ne (pc := 12) 25 dX0_see_12 (by decide) (fun c_ => ?_) (fun c_ => ?_)
    · have hf := xo_pos c_ hf
      refine xr_iload_n (pc := 15) 0 dX0_see_15 rfl rfl ?_
      refine xr_bipush (pc := 16) dX0_see_16 xcb_48 ?_
      refine xr_icmp_gt (pc := 18) 25 dX0_see_18 (by decide) (fun c_ => ?_) (fun c_ => ?_)
      · have hf := xo_pos c_ hf
        refine xV_sub [1, 0] rfl ?_
        exact ok_Jc_X0_see_25 hf kr
      · have hf := xo_neg c_ hf
        refine xr_iconst (pc := 21) dX0_see_21 xci_1 ?_
        refine xr_goto (pc := 22) 26 dX0_see_22 (by decide) ?_
        refine xV_sub [1, 0] rfl ?_
        exact ok_Jc_X0_see_26 hf kr
    · have hf := xo_neg c_ hf
      refine xV_sub [1, 0] rfl ?_
      exact ok_Jc_X0_see_25 hf kr
theorem met_f_c_X0_see (l : Launch) {D : CD} {P : CP} {g : CG} {x0 : Nat} {τ : CC} {o_ : (Int32 × CC)} (hf : f_c_X0_see g x0 τ = some o_) : xMet (wC D P) l yX0_see (ws_ yX0_see cX0_see 4 (some .int)) 3 180 (grc g) (grs g) [.ref x0] (g, τ) (some (.int o_.1), (g, o_.2)) := 
  xMet_of (by decide) (Nat.le_of_ble_eq_true rfl) KC_moved RPC_of (fun K _ _ _ => ok_f_c_X0_see hf (fun _ h => by rw [h]))
abbrev mX0_canRun : xM := (cX0_canRun, 6, RX0, 82, 4920, (some .boolean), "canRun")
def Jc_X0_canRun_107 (g : CG) (x0 : Nat) (x1 : Int32) (x2 : Int32) (x4 : Int32) (x5 : Int32) (s0 : Int32) (s1 : Int32) (τ : CC) : Option ((Int32 × Int32 × CC) ⊕ ((Int32 × CC))) :=
  some (.inl (s1 + s0, x5 + 1, τ))
theorem ok_Jc_X0_canRun_107 {D : CD} {P : CP} {K : xK} {g : CG} {Z : Option Value × CS} {x0 : Nat} {x1 : Int32} {x2 : Int32} {x4 : Int32} {x5 : Int32} {s0 : Int32} {s1 : Int32} {τ : CC} {o_ : ((Int32 × Int32 × CC) ⊕ ((Int32 × CC)))} (hf : Jc_X0_canRun_107 g x0 x1 x2 x4 x5 s0 s1 τ = some o_) (kc : ∀ s_ : Int32 × Int32 × CC, o_ = .inl s_ → xV (wC D P) K mX0_canRun (xQ (wC D P) K Z) (g, s_.2.2) 55 [(0, .ref x0), (1, .int x1), (2, .int x2), (3, .int s_.1), (4, .int x4), (5, .int s_.2.1)] []) (ke0 : ∀ e_ : Int32 × CC, o_ = .inr e_ → xV (wC D P) K mX0_canRun (xQ (wC D P) K Z) (g, e_.2) 115 [(0, .ref x0), (1, .int x1), (2, .int x2), (3, .int e_.1), (4, .int x4)] []) : xV (wC D P) K mX0_canRun (xQ (wC D P) K Z) (g, τ) 107 [(0, .ref x0), (1, .int x1), (2, .int x2), (4, .int x4), (5, .int x5)] [.int s0, .int s1] := by
  unfold Jc_X0_canRun_107 at hf
  refine xr_iadd (pc := 107) dX0_canRun_107 ?_
  refine xr_istore_n (pc := 108) (loc' := [(3, .int (s1 + s0)), (0, .ref x0), (1, .int x1), (2, .int x2), (4, .int x4), (5, .int x5)]) dX0_canRun_108 rfl (by decide) rfl ?_
  refine xr_iinc (pc := 109) (loc' := [(5, .int (x5 + 1)), (3, .int (s1 + s0)), (0, .ref x0), (1, .int x1), (2, .int x2), (4, .int x4)]) 5 dX0_canRun_109 rfl xci_1 (by decide) rfl ?_
  refine xr_goto (pc := 112) 55 dX0_canRun_112 (by decide) ?_
  refine xV_sub [2, 3, 4, 1, 5, 0] rfl ?_
  exact kc _ (Option.some.inj hf).symm
def Jc_X0_canRun_106 (g : CG) (x0 : Nat) (x1 : Int32) (x2 : Int32) (x4 : Int32) (x5 : Int32) (s0 : Int32) (τ : CC) : Option ((Int32 × Int32 × CC) ⊕ ((Int32 × CC))) :=
  Jc_X0_canRun_107 g x0 x1 x2 x4 x5 0 s0 τ
theorem ok_Jc_X0_canRun_106 {D : CD} {P : CP} {K : xK} {g : CG} {Z : Option Value × CS} {x0 : Nat} {x1 : Int32} {x2 : Int32} {x4 : Int32} {x5 : Int32} {s0 : Int32} {τ : CC} {o_ : ((Int32 × Int32 × CC) ⊕ ((Int32 × CC)))} (hf : Jc_X0_canRun_106 g x0 x1 x2 x4 x5 s0 τ = some o_) (kc : ∀ s_ : Int32 × Int32 × CC, o_ = .inl s_ → xV (wC D P) K mX0_canRun (xQ (wC D P) K Z) (g, s_.2.2) 55 [(0, .ref x0), (1, .int x1), (2, .int x2), (3, .int s_.1), (4, .int x4), (5, .int s_.2.1)] []) (ke0 : ∀ e_ : Int32 × CC, o_ = .inr e_ → xV (wC D P) K mX0_canRun (xQ (wC D P) K Z) (g, e_.2) 115 [(0, .ref x0), (1, .int x1), (2, .int x2), (3, .int e_.1), (4, .int x4)] []) : xV (wC D P) K mX0_canRun (xQ (wC D P) K Z) (g, τ) 106 [(0, .ref x0), (1, .int x1), (2, .int x2), (4, .int x4), (5, .int x5)] [.int s0] := by
  unfold Jc_X0_canRun_106 at hf
  refine xr_iconst (pc := 106) dX0_canRun_106 xci_0 ?_
  exact ok_Jc_X0_canRun_107 hf kc ke0
def Bc_X0_canRun_55 (g : CG) (x0 : Nat) (x1 : Int32) (x2 : Int32) (x4 : Int32) (x3 : Int32) (x5 : Int32) (τ : CC) : Option ((Int32 × Int32 × CC) ⊕ ((Int32 × CC))) :=
  if gT g x0 = 1 then
  if (cI τ 118 x0) ≤ x5 then
  some (.inr (x3, τ))
  else
  (gR g 115 x0).bind fun b19 =>
  if gT g b19 = 100 then
  if xin x5 (gN g b19) = true then
  if (cA τ b19 x5.toNatClampNeg) = x4 then
  (gR g 110 x0).bind fun b21 =>
  if gT g b21 = 6 then
  (gR g 603 b21).bind fun b23 =>
  (gR g 116 x0).bind fun b24 =>
  if gT g b24 = 100 then
  if xin x5 (gN g b24) = true then
  if gT g b23 = 100 then
  if xin (cA τ b24 x5.toNatClampNeg) (gN g b23) = true then
  (gR g 117 x0).bind fun b27 =>
  if gT g b27 = 100 then
  if xin x5 (gN g b27) = true then
  if (cA τ b23 (cA τ b24 x5.toNatClampNeg).toNatClampNeg) = (cA τ b27 x5.toNatClampNeg) then
  Jc_X0_canRun_107 g x0 x1 x2 x4 x5 1 x3 τ
  else
  Jc_X0_canRun_106 g x0 x1 x2 x4 x5 x3 τ
  else none
  else none
  else none
  else none
  else none
  else none
  else none
  else
  Jc_X0_canRun_106 g x0 x1 x2 x4 x5 x3 τ
  else none
  else none
  else none
theorem ok_Bc_X0_canRun_55 {D : CD} {P : CP} {K : xK} {g : CG} {Z : Option Value × CS} {x0 : Nat} {x1 : Int32} {x2 : Int32} {x4 : Int32} {x3 : Int32} {x5 : Int32} {τ : CC} {o_ : ((Int32 × Int32 × CC) ⊕ ((Int32 × CC)))} (hf : Bc_X0_canRun_55 g x0 x1 x2 x4 x3 x5 τ = some o_) (kc : ∀ s_ : Int32 × Int32 × CC, o_ = .inl s_ → xV (wC D P) K mX0_canRun (xQ (wC D P) K Z) (g, s_.2.2) 55 [(0, .ref x0), (1, .int x1), (2, .int x2), (3, .int s_.1), (4, .int x4), (5, .int s_.2.1)] []) (ke0 : ∀ e_ : Int32 × CC, o_ = .inr e_ → xV (wC D P) K mX0_canRun (xQ (wC D P) K Z) (g, e_.2) 115 [(0, .ref x0), (1, .int x1), (2, .int x2), (3, .int e_.1), (4, .int x4)] []) : xV (wC D P) K mX0_canRun (xQ (wC D P) K Z) (g, τ) 55 [(0, .ref x0), (1, .int x1), (2, .int x2), (3, .int x3), (4, .int x4), (5, .int x5)] [] := by
  unfold Bc_X0_canRun_55 at hf
  refine xr_iload (pc := 55) 5 dX0_canRun_55 rfl ?_
  refine xr_aload_n (pc := 57) 0 dX0_canRun_57 rfl rfl ?_
  obtain ⟨ht18, hf⟩ := xo_if hf
  refine yc_getI (pc := 58) 1 18 118 (gKo ht18 (by decide)) (by decide) (by decide) (by decide) rfl rfl q504 (ys_eq rfl) rfl dX0_canRun_58 ?_
  refine xr_icmp_ge (pc := 61) 115 dX0_canRun_61 (by decide) (fun c_ => ?_) (fun c_ => ?_)
  · have hf := xo_pos c_ hf
    refine xV_sub [0, 1, 2, 3, 4] rfl ?_
    exact ke0 _ (Option.some.inj hf).symm
  · have hf := xo_neg c_ hf
    refine xr_iload_n (pc := 64) 3 dX0_canRun_64 rfl rfl ?_
    refine xr_aload_n (pc := 65) 0 dX0_canRun_65 rfl rfl ?_
    obtain ⟨b19, hb19, hf⟩ := xo_bind hf
    refine yc_getFs (pc := 66) 1 15 115 (gKo ht18 (by decide)) (by decide) (by decide) (by decide) rfl rfl hb19 q501 (ys_eq rfl) rfl dX0_canRun_66 ?_
    refine xr_iload (pc := 69) 5 dX0_canRun_69 rfl ?_
    obtain ⟨ht20, hf⟩ := xo_if hf
    obtain ⟨hi_, hf⟩ := xo_if hf
    refine yc_iald (pc := 71) (gKo ht20 (by decide)) hi_ dX0_canRun_71 ?_
    refine xr_iload (pc := 72) 4 dX0_canRun_72 rfl ?_
    refine xr_icmp_ne (pc := 74) 106 dX0_canRun_74 (by decide) (fun c_ => ?_) (fun c_ => ?_)
    · have hf := xo_pos c_ hf
      refine xr_aload_n (pc := 77) 0 dX0_canRun_77 rfl rfl ?_
      obtain ⟨b21, hb21, hf⟩ := xo_bind hf
      refine yc_getFs (pc := 78) 1 10 110 (gKo ht18 (by decide)) (by decide) (by decide) (by decide) rfl rfl hb21 q496 (ys_eq rfl) rfl dX0_canRun_78 ?_
      obtain ⟨ht22, hf⟩ := xo_if hf
      obtain ⟨b23, hb23, hf⟩ := xo_bind hf
      refine yc_getFsN (pc := 81) 6 3 603 (gKo ht22 (by decide)) (by decide) (by decide) (by decide) rfl rfl hb23 q441 (ys_eq rfl) rfl dX0_canRun_81 ?_
      refine xr_aload_n (pc := 84) 0 dX0_canRun_84 rfl rfl ?_
      obtain ⟨b24, hb24, hf⟩ := xo_bind hf
      refine yc_getFs (pc := 85) 1 16 116 (gKo ht18 (by decide)) (by decide) (by decide) (by decide) rfl rfl hb24 q502 (ys_eq rfl) rfl dX0_canRun_85 ?_
      refine xr_iload (pc := 88) 5 dX0_canRun_88 rfl ?_
      obtain ⟨ht25, hf⟩ := xo_if hf
      obtain ⟨hi_, hf⟩ := xo_if hf
      refine yc_iald (pc := 90) (gKo ht25 (by decide)) hi_ dX0_canRun_90 ?_
      obtain ⟨ht26, hf⟩ := xo_if hf
      obtain ⟨hi_, hf⟩ := xo_if hf
      refine yc_iald (pc := 91) (gKo ht26 (by decide)) hi_ dX0_canRun_91 ?_
      refine xr_aload_n (pc := 92) 0 dX0_canRun_92 rfl rfl ?_
      obtain ⟨b27, hb27, hf⟩ := xo_bind hf
      refine yc_getFs (pc := 93) 1 17 117 (gKo ht18 (by decide)) (by decide) (by decide) (by decide) rfl rfl hb27 q503 (ys_eq rfl) rfl dX0_canRun_93 ?_
      refine xr_iload (pc := 96) 5 dX0_canRun_96 rfl ?_
      obtain ⟨ht28, hf⟩ := xo_if hf
      obtain ⟨hi_, hf⟩ := xo_if hf
      refine yc_iald (pc := 98) (gKo ht28 (by decide)) hi_ dX0_canRun_98 ?_
      refine xr_icmp_ne (pc := 99) 106 dX0_canRun_99 (by decide) (fun c_ => ?_) (fun c_ => ?_)
      · have hf := xo_pos c_ hf
        refine xr_iconst (pc := 102) dX0_canRun_102 xci_1 ?_
        refine xr_goto (pc := 103) 107 dX0_canRun_103 (by decide) ?_
        refine xV_sub [0, 1, 2, 4, 5] rfl ?_
        exact ok_Jc_X0_canRun_107 hf kc ke0
      · have hf := xo_neg c_ hf
        refine xV_sub [0, 1, 2, 4, 5] rfl ?_
        exact ok_Jc_X0_canRun_106 hf kc ke0
    · have hf := xo_neg c_ hf
      refine xV_sub [0, 1, 2, 4, 5] rfl ?_
      exact ok_Jc_X0_canRun_106 hf kc ke0
def Bc_X0_canRun_22 (g : CG) (x0 : Nat) (x1 : Int32) (x2 : Int32) (x3 : Int32) (x4 : Int32) (τ : CC) : Option ((Int32 × Int32 × CC) ⊕ ((Int32 × CC))) :=
  if gT g x0 = 1 then
  xbd (f_c_X0_isAhead g x0 x4 0 30 τ) fun r10 τ10 =>
  if r10 = 0 then
  some (.inr (x3, τ10))
  else
  (gR g 119 x0).bind fun b11 =>
  if gT g b11 = 105 then
  if xin x2 (gN g b11) = true then
  (gR g 110 x0).bind fun b13 =>
  if gT g b13 = 6 then
  (gR g 603 b13).bind fun b15 =>
  if gT g b15 = 100 then
  if xin x1 (gN g b15) = true then
  if gT g (gA g b11 x2.toNatClampNeg) = 100 then
  if xin x4 (gN g (gA g b11 x2.toNatClampNeg)) = true then
  (itr (fun s_ : Int32 × Int32 × CC => Bc_X0_canRun_55 g x0 x1 x2 x4 s_.1 s_.2.1 s_.2.2) 4096 (x3, 0, uA τ10 (gA g b11 x2.toNatClampNeg) x4.toNatClampNeg (cA τ10 b15 x1.toNatClampNeg))).bind fun b29 =>
  xbd (f_c_X5_passes g b13 b29.2) fun r30 τ30 =>
  some (.inl (b29.1, x4 + 1, τ30))
  else none
  else none
  else none
  else none
  else none
  else none
  else none
  else none
theorem ok_Bc_X0_canRun_22 {D : CD} {P : CP} {K : xK} {g : CG} {Z : Option Value × CS} {x0 : Nat} {x1 : Int32} {x2 : Int32} {x3 : Int32} {x4 : Int32} {τ : CC} {o_ : ((Int32 × Int32 × CC) ⊕ ((Int32 × CC)))} (hf : Bc_X0_canRun_22 g x0 x1 x2 x3 x4 τ = some o_) (kc : ∀ s_ : Int32 × Int32 × CC, o_ = .inl s_ → xV (wC D P) K mX0_canRun (xQ (wC D P) K Z) (g, s_.2.2) 22 [(0, .ref x0), (1, .int x1), (2, .int x2), (3, .int s_.1), (4, .int s_.2.1)] []) (ke0 : ∀ e_ : Int32 × CC, o_ = .inr e_ → xV (wC D P) K mX0_canRun (xQ (wC D P) K Z) (g, e_.2) 129 [(0, .ref x0), (3, .int e_.1)] []) : xV (wC D P) K mX0_canRun (xQ (wC D P) K Z) (g, τ) 22 [(0, .ref x0), (1, .int x1), (2, .int x2), (3, .int x3), (4, .int x4)] [] := by
  unfold Bc_X0_canRun_22 at hf
  refine xr_aload_n (pc := 22) 0 dX0_canRun_22 rfl rfl ?_
  refine xr_iload (pc := 23) 4 dX0_canRun_23 rfl ?_
  refine xr_iconst (pc := 25) dX0_canRun_25 xci_0 ?_
  refine xr_bipush (pc := 26) dX0_canRun_26 xcb_30 ?_
  obtain ⟨ht9, hf⟩ := xo_if hf
  obtain ⟨r10, τ10, hτ10, hf⟩ := xo_bd hf
  refine call_f_c_X0_isAhead_X0_289 (pc := 28) hτ10 (gKo ht9 (by decide)) rfl (Nat.le_of_ble_eq_true rfl) (Nat.le_of_ble_eq_true rfl) (Nat.le_of_ble_eq_true rfl) dX0_canRun_28 ?_
  refine xr_if_eq (pc := 31) 129 dX0_canRun_31 (by decide) (fun c_ => ?_) (fun c_ => ?_)
  · have hf := xo_pos c_ hf
    refine xV_sub [0, 3] rfl ?_
    exact ke0 _ (Option.some.inj hf).symm
  · have hf := xo_neg c_ hf
    refine xr_aload_n (pc := 34) 0 dX0_canRun_34 rfl rfl ?_
    obtain ⟨b11, hb11, hf⟩ := xo_bind hf
    refine yc_getFs (pc := 35) 1 19 119 (gKo ht9 (by decide)) (by decide) (by decide) (by decide) rfl rfl hb11 q505 (ys_eq rfl) rfl dX0_canRun_35 ?_
    refine xr_iload_n (pc := 38) 2 dX0_canRun_38 rfl rfl ?_
    obtain ⟨ht12, hf⟩ := xo_if hf
    obtain ⟨hi_, hf⟩ := xo_if hf
    refine yc_aaldF (pc := 39) 105 (gKo ht12 (by decide)) (by decide) (by decide) rfl rfl hi_ dX0_canRun_39 ?_
    refine xr_iload (pc := 40) 4 dX0_canRun_40 rfl ?_
    refine xr_aload_n (pc := 42) 0 dX0_canRun_42 rfl rfl ?_
    obtain ⟨b13, hb13, hf⟩ := xo_bind hf
    refine yc_getFs (pc := 43) 1 10 110 (gKo ht9 (by decide)) (by decide) (by decide) (by decide) rfl rfl hb13 q496 (ys_eq rfl) rfl dX0_canRun_43 ?_
    obtain ⟨ht14, hf⟩ := xo_if hf
    obtain ⟨b15, hb15, hf⟩ := xo_bind hf
    refine yc_getFsN (pc := 46) 6 3 603 (gKo ht14 (by decide)) (by decide) (by decide) (by decide) rfl rfl hb15 q441 (ys_eq rfl) rfl dX0_canRun_46 ?_
    refine xr_iload_n (pc := 49) 1 dX0_canRun_49 rfl rfl ?_
    obtain ⟨ht16, hf⟩ := xo_if hf
    obtain ⟨hi_, hf⟩ := xo_if hf
    refine yc_iald (pc := 50) (gKo ht16 (by decide)) hi_ dX0_canRun_50 ?_
    obtain ⟨ht17, hf⟩ := xo_if hf
    obtain ⟨hi_, hf⟩ := xo_if hf
    refine yc_iast (pc := 51) ht17 hi_ dX0_canRun_51 ?_
    refine xr_iconst (pc := 52) dX0_canRun_52 xci_0 ?_
    refine xr_istore (pc := 53) (loc' := [(5, .int 0), (0, .ref x0), (1, .int x1), (2, .int x2), (3, .int x3), (4, .int x4)]) dX0_canRun_53 (by decide) rfl ?_
    refine xV_sub [1, 2, 3, 4, 5, 0] rfl ?_
    obtain ⟨b29, hb29, hf⟩ := xo_bind hf
    refine itr_rule (P := fun s_ : Int32 × Int32 × CC => xV (wC D P) K mX0_canRun (xQ (wC D P) K Z) (g, s_.2.2) 55 [(0, .ref x0), (1, .int x1), (2, .int x2), (3, .int s_.1), (4, .int x4), (5, .int s_.2.1)] []) (fun s_ o_ hB_ hc_ he_ => ok_Bc_X0_canRun_55 hB_ hc_ (fun e_ h_ => ?_)) 4096 _ hb29
    · have e9_ := he_ _ h_
      rw [e9_]
      refine xr_aload_n (pc := 115) 0 dX0_canRun_115 rfl rfl ?_
      refine yc_getFs (pc := 116) 1 10 110 (gKo ht9 (by decide)) (by decide) (by decide) (by decide) rfl rfl hb13 q496 (ys_eq rfl) rfl dX0_canRun_116 ?_
      obtain ⟨r30, τ30, hτ30, hf⟩ := xo_bd hf
      refine call_f_c_X5_passes_X0_300 (pc := 119) hτ30 (gKo ht14 (by decide)) rfl (Nat.le_of_ble_eq_true rfl) (Nat.le_of_ble_eq_true rfl) (Nat.le_of_ble_eq_true rfl) dX0_canRun_119 ?_
      refine xr_pop (pc := 122) dX0_canRun_122 rfl ?_
      refine xr_iinc (pc := 123) (loc' := [(4, .int (x4 + 1)), (0, .ref x0), (1, .int x1), (2, .int x2), (3, .int b29.1)]) 4 dX0_canRun_123 rfl xci_1 (by decide) rfl ?_
      refine xr_goto (pc := 126) 22 dX0_canRun_126 (by decide) ?_
      refine xV_sub [1, 2, 3, 4, 0] rfl ?_
      exact kc _ (Option.some.inj hf).symm
def f_c_X0_canRun (g : CG) (x0 : Nat) (x1 : Int32) (x2 : Int32) (τ : CC) : Option (Int32 × CC) :=
  if gT g x0 = 1 then
  (gR g 110 x0).bind fun b2 =>
  (gR g 109 x0).bind fun b3 =>
  if gT g b2 = 6 then
  xbd (f_c_X5_copy g b2 b3 τ) fun r5 τ5 =>
  if gT g r5 = 6 then
  (gR g 603 r5).bind fun b7 =>
  if gT g b7 = 100 then
  if xin x1 (gN g b7) = true then
  (itr (fun s_ : Int32 × Int32 × CC => Bc_X0_canRun_22 g x0 x1 x2 s_.1 s_.2.1 s_.2.2) 4096 (0, 0, uA τ5 b7 x1.toNatClampNeg x2)).bind fun b31 =>
  if b31.1 = (cI b31.2 118 x0) then
  some ((1, b31.2))
  else
  some ((0, b31.2))
  else none
  else none
  else none
  else none
  else none
theorem ok_f_c_X0_canRun {D : CD} {P : CP} {K : xK} {g : CG} {Z : Option Value × CS} {x0 : Nat} {x1 : Int32} {x2 : Int32} {τ : CC} {o_ : (Int32 × CC)} (hf : f_c_X0_canRun g x0 x1 x2 τ = some o_) (kr : ∀ r_ : (Int32 × CC), o_ = r_ → Z = (some (.int r_.1), (g, r_.2))) : xV (wC D P) K mX0_canRun (xQ (wC D P) K Z) (g, τ) 0 [(0, .ref x0), (1, .int x1), (2, .int x2)] [] := by
  unfold f_c_X0_canRun at hf
  refine xr_aload_n (pc := 0) 0 dX0_canRun_0 rfl rfl ?_
  obtain ⟨ht1, hf⟩ := xo_if hf
  obtain ⟨b2, hb2, hf⟩ := xo_bind hf
  refine yc_getFs (pc := 1) 1 10 110 (gKo ht1 (by decide)) (by decide) (by decide) (by decide) rfl rfl hb2 q496 (ys_eq rfl) rfl dX0_canRun_1 ?_
  refine xr_aload_n (pc := 4) 0 dX0_canRun_4 rfl rfl ?_
  obtain ⟨b3, hb3, hf⟩ := xo_bind hf
  refine yc_getFs (pc := 5) 1 9 109 (gKo ht1 (by decide)) (by decide) (by decide) (by decide) rfl rfl hb3 q495 (ys_eq rfl) rfl dX0_canRun_5 ?_
  obtain ⟨ht4, hf⟩ := xo_if hf
  obtain ⟨r5, τ5, hτ5, hf⟩ := xo_bd hf
  refine call_f_c_X5_copy_X0_292 (pc := 8) hτ5 (gKo ht4 (by decide)) rfl (Nat.le_of_ble_eq_true rfl) (Nat.le_of_ble_eq_true rfl) (Nat.le_of_ble_eq_true rfl) dX0_canRun_8 ?_
  obtain ⟨ht6, hf⟩ := xo_if hf
  obtain ⟨b7, hb7, hf⟩ := xo_bind hf
  refine yc_getFsN (pc := 11) 6 3 603 (gKo ht6 (by decide)) (by decide) (by decide) (by decide) rfl rfl hb7 q441 (ys_eq rfl) rfl dX0_canRun_11 ?_
  refine xr_iload_n (pc := 14) 1 dX0_canRun_14 rfl rfl ?_
  refine xr_iload_n (pc := 15) 2 dX0_canRun_15 rfl rfl ?_
  obtain ⟨ht8, hf⟩ := xo_if hf
  obtain ⟨hi_, hf⟩ := xo_if hf
  refine yc_iast (pc := 16) ht8 hi_ dX0_canRun_16 ?_
  refine xr_iconst (pc := 17) dX0_canRun_17 xci_0 ?_
  refine xr_istore_n (pc := 18) (loc' := [(3, .int 0), (0, .ref x0), (1, .int x1), (2, .int x2)]) dX0_canRun_18 rfl (by decide) rfl ?_
  refine xr_iconst (pc := 19) dX0_canRun_19 xci_0 ?_
  refine xr_istore (pc := 20) (loc' := [(4, .int 0), (3, .int 0), (0, .ref x0), (1, .int x1), (2, .int x2)]) dX0_canRun_20 (by decide) rfl ?_
  refine xV_sub [2, 3, 4, 1, 0] rfl ?_
  obtain ⟨b31, hb31, hf⟩ := xo_bind hf
  refine itr_rule (P := fun s_ : Int32 × Int32 × CC => xV (wC D P) K mX0_canRun (xQ (wC D P) K Z) (g, s_.2.2) 22 [(0, .ref x0), (1, .int x1), (2, .int x2), (3, .int s_.1), (4, .int s_.2.1)] []) (fun s_ o_ hB_ hc_ he_ => ok_Bc_X0_canRun_22 hB_ hc_ (fun e_ h_ => ?_)) 4096 _ hb31
  · have e9_ := he_ _ h_
    rw [e9_]
    refine xr_iload_n (pc := 129) 1 dX0_canRun_129 rfl rfl ?_
    refine xr_aload_n (pc := 130) 0 dX0_canRun_130 rfl rfl ?_
    refine yc_getI (pc := 131) 1 18 118 (gKo ht1 (by decide)) (by decide) (by decide) (by decide) rfl rfl q504 (ys_eq rfl) rfl dX0_canRun_131 ?_
    refine xr_icmp_ne (pc := 134) 141 dX0_canRun_134 (by decide) (fun c_ => ?_) (fun c_ => ?_)
    · have hf := xo_pos c_ hf
      refine xr_iconst (pc := 137) dX0_canRun_137 xci_1 ?_
      refine xr_goto (pc := 138) 142 dX0_canRun_138 (by decide) ?_
      rw [kr _ (Option.some.inj hf).symm]
      exact xr_zret (pc := 142) dX0_canRun_142 rfl xz_1
    · have hf := xo_neg c_ hf
      refine xr_iconst (pc := 141) dX0_canRun_141 xci_0 ?_
      rw [kr _ (Option.some.inj hf).symm]
      exact xr_zret (pc := 142) dX0_canRun_142 rfl xz_0
theorem met_f_c_X0_canRun (l : Launch) {D : CD} {P : CP} {g : CG} {x0 : Nat} {x1 : Int32} {x2 : Int32} {τ : CC} {o_ : (Int32 × CC)} (hf : f_c_X0_canRun g x0 x1 x2 τ = some o_) : xMet (wC D P) l yX0_canRun (ws_ yX0_canRun cX0_canRun 6 (some .boolean)) 82 4920 (grc g) (grs g) [.ref x0, .int x1, .int x2] (g, τ) (some (.int o_.1), (g, o_.2)) := 
  xMet_of (by decide) (Nat.le_of_ble_eq_true rfl) KC_moved RPC_of (fun K _ _ _ => ok_f_c_X0_canRun hf (fun _ h => by rw [h]))
theorem hd_f_c_X0_canRun : yX0_canRun.cls ≠ "java/lang/invoke/MethodHandle" ∧ yX0_canRun.cls ≠ "java/lang/invoke/VarHandle" ∧ (parseMethodDescriptor yX0_canRun.desc).map (fun d => d.parameters.length) = some 2 := by decide +kernel
theorem call_f_c_X0_canRun_X0_363 {D : CD} {P : CP} {K : xK} {M : xM} {Q : State → Prop} {g : CG} {c : CC} {x0 : Nat} {x1 : Int32} {x2 : Int32} {pc : Nat} {loc : List (Nat × Value)} {st : List Value} {r : Int32} {c1 : CC} (hf : f_c_X0_canRun g x0 x1 x2 c = some (r, c1)) (hr : gK g x0 = 1) (ho : M.2.2.1 = RX0) (hfr : 83 ≤ M.2.2.2.1) (hlo : 4945 ≤ M.2.2.2.2.1) (hcat : (st.map fun v => v.category).sum ≤ 8) (d : decode M.1 pc = .ok (.invokevirtual 363, 3)) (k : xV (wC D P) K M Q (g, c1) (pc + 3) loc (.int r :: st)) : xV (wC D P) K M Q (g, c) pc loc (.int x2 :: .int x1 :: .ref x0 :: st) :=
  yc_callV (As := [.int x1, .int x2]) (rest := st) (met_f_c_X0_canRun K.2.1 hf) (lw_V q1609 q1611 qs59 q174 q1612) ⟨rfl, hd_f_c_X0_canRun⟩ ho hfr hlo rfl hr (by decide) (by decide) rfl rfl hcat d k
abbrev mX0_ran : xM := (cX0_ran, 4, RX0, 83, 4980, (some .int), "ran")
def Jc_X0_ran_42 (g : CG) (x0 : Nat) (x1 : Int32) (x3 : Int32) (s0 : Int32) (s1 : Int32) (τ : CC) : Option ((Int32 × Int32 × CC) ⊕ ((Int32 × CC))) :=
  some (.inl (s1 ||| s0, x3 + 1, τ))
theorem ok_Jc_X0_ran_42 {D : CD} {P : CP} {K : xK} {g : CG} {Z : Option Value × CS} {x0 : Nat} {x1 : Int32} {x3 : Int32} {s0 : Int32} {s1 : Int32} {τ : CC} {o_ : ((Int32 × Int32 × CC) ⊕ ((Int32 × CC)))} (hf : Jc_X0_ran_42 g x0 x1 x3 s0 s1 τ = some o_) (kc : ∀ s_ : Int32 × Int32 × CC, o_ = .inl s_ → xV (wC D P) K mX0_ran (xQ (wC D P) K Z) (g, s_.2.2) 14 [(0, .ref x0), (1, .int x1), (2, .int s_.1), (3, .int s_.2.1)] []) (ke0 : ∀ e_ : Int32 × CC, o_ = .inr e_ → xV (wC D P) K mX0_ran (xQ (wC D P) K Z) (g, e_.2) 50 [(2, .int e_.1)] []) : xV (wC D P) K mX0_ran (xQ (wC D P) K Z) (g, τ) 42 [(0, .ref x0), (1, .int x1), (3, .int x3)] [.int s0, .int s1] := by
  unfold Jc_X0_ran_42 at hf
  refine xr_ior (pc := 42) dX0_ran_42 ?_
  refine xr_istore_n (pc := 43) (loc' := [(2, .int (s1 ||| s0)), (0, .ref x0), (1, .int x1), (3, .int x3)]) dX0_ran_43 rfl (by decide) rfl ?_
  refine xr_iinc (pc := 44) (loc' := [(3, .int (x3 + 1)), (2, .int (s1 ||| s0)), (0, .ref x0), (1, .int x1)]) 3 dX0_ran_44 rfl xci_1 (by decide) rfl ?_
  refine xr_goto (pc := 47) 14 dX0_ran_47 (by decide) ?_
  refine xV_sub [2, 3, 1, 0] rfl ?_
  exact kc _ (Option.some.inj hf).symm
def Bc_X0_ran_14 (g : CG) (x0 : Nat) (x1 : Int32) (x2 : Int32) (x3 : Int32) (τ : CC) : Option ((Int32 × Int32 × CC) ⊕ ((Int32 × CC))) :=
  if gT g x0 = 1 then
  (cR τ 100 x0).bind fun b4 =>
  if gT g b4 = 2 then
  if (cI τ 202 b4) ≤ x3 then
  some (.inr (x2, τ))
  else
  xbd (f_c_X0_canRun g x0 x1 x3 τ) fun r6 τ6 =>
  if r6 = 0 then
  Jc_X0_ran_42 g x0 x1 x3 0 x2 τ6
  else
  Jc_X0_ran_42 g x0 x1 x3 ((1 : Int32) <<< (x3 &&& 31)) x2 τ6
  else none
  else none
theorem ok_Bc_X0_ran_14 {D : CD} {P : CP} {K : xK} {g : CG} {Z : Option Value × CS} {x0 : Nat} {x1 : Int32} {x2 : Int32} {x3 : Int32} {τ : CC} {o_ : ((Int32 × Int32 × CC) ⊕ ((Int32 × CC)))} (hf : Bc_X0_ran_14 g x0 x1 x2 x3 τ = some o_) (kc : ∀ s_ : Int32 × Int32 × CC, o_ = .inl s_ → xV (wC D P) K mX0_ran (xQ (wC D P) K Z) (g, s_.2.2) 14 [(0, .ref x0), (1, .int x1), (2, .int s_.1), (3, .int s_.2.1)] []) (ke0 : ∀ e_ : Int32 × CC, o_ = .inr e_ → xV (wC D P) K mX0_ran (xQ (wC D P) K Z) (g, e_.2) 50 [(2, .int e_.1)] []) : xV (wC D P) K mX0_ran (xQ (wC D P) K Z) (g, τ) 14 [(0, .ref x0), (1, .int x1), (2, .int x2), (3, .int x3)] [] := by
  unfold Bc_X0_ran_14 at hf
  refine xr_iload_n (pc := 14) 3 dX0_ran_14 rfl rfl ?_
  refine xr_aload_n (pc := 15) 0 dX0_ran_15 rfl rfl ?_
  obtain ⟨ht3, hf⟩ := xo_if hf
  obtain ⟨b4, hb4, hf⟩ := xo_bind hf
  refine yc_getRs (pc := 16) 1 0 100 (gKo ht3 (by decide)) (by decide) (by decide) (by decide) rfl rfl hb4 q484 (ys_eq rfl) rfl dX0_ran_16 ?_
  obtain ⟨ht5, hf⟩ := xo_if hf
  refine yc_getIN (pc := 19) 2 2 202 (gKo ht5 (by decide)) (by decide) (by decide) (by decide) rfl rfl q263 (ys_eq rfl) rfl dX0_ran_19 ?_
  refine xr_icmp_ge (pc := 22) 50 dX0_ran_22 (by decide) (fun c_ => ?_) (fun c_ => ?_)
  · have hf := xo_pos c_ hf
    refine xV_sub [2] rfl ?_
    exact ke0 _ (Option.some.inj hf).symm
  · have hf := xo_neg c_ hf
    refine xr_iload_n (pc := 25) 2 dX0_ran_25 rfl rfl ?_
    refine xr_aload_n (pc := 26) 0 dX0_ran_26 rfl rfl ?_
    refine xr_iload_n (pc := 27) 1 dX0_ran_27 rfl rfl ?_
    refine xr_iload_n (pc := 28) 3 dX0_ran_28 rfl rfl ?_
    obtain ⟨r6, τ6, hτ6, hf⟩ := xo_bd hf
    refine call_f_c_X0_canRun_X0_363 (pc := 29) hτ6 (gKo ht3 (by decide)) rfl (Nat.le_of_ble_eq_true rfl) (Nat.le_of_ble_eq_true rfl) (Nat.le_of_ble_eq_true rfl) dX0_ran_29 ?_
    refine xr_if_eq (pc := 32) 41 dX0_ran_32 (by decide) (fun c_ => ?_) (fun c_ => ?_)
    · have hf := xo_pos c_ hf
      refine xr_iconst (pc := 41) dX0_ran_41 xci_0 ?_
      refine xV_sub [0, 1, 3] rfl ?_
      exact ok_Jc_X0_ran_42 hf kc ke0
    · have hf := xo_neg c_ hf
      refine xr_iconst (pc := 35) dX0_ran_35 xci_1 ?_
      refine xr_iload_n (pc := 36) 3 dX0_ran_36 rfl rfl ?_
      refine xr_ishl (pc := 37) dX0_ran_37 ?_
      refine xr_goto (pc := 38) 42 dX0_ran_38 (by decide) ?_
      refine xV_sub [0, 1, 3] rfl ?_
      exact ok_Jc_X0_ran_42 hf kc ke0
def f_c_X0_ran (g : CG) (x0 : Nat) (x1 : Int32) (τ : CC) : Option (Int32 × CC) :=
  if gT g x0 = 1 then
  xbd (f_c_X0_isColumn g x0 x1 τ) fun r2 τ2 =>
  if r2 = 0 then
  some (((-1), τ2))
  else
  (itr (fun s_ : Int32 × Int32 × CC => Bc_X0_ran_14 g x0 x1 s_.1 s_.2.1 s_.2.2) 4096 (0, 0, τ2)).bind fun b7 =>
  some ((b7.1, b7.2))
  else none
theorem ok_f_c_X0_ran {D : CD} {P : CP} {K : xK} {g : CG} {Z : Option Value × CS} {x0 : Nat} {x1 : Int32} {τ : CC} {o_ : (Int32 × CC)} (hf : f_c_X0_ran g x0 x1 τ = some o_) (kr : ∀ r_ : (Int32 × CC), o_ = r_ → Z = (some (.int r_.1), (g, r_.2))) : xV (wC D P) K mX0_ran (xQ (wC D P) K Z) (g, τ) 0 [(0, .ref x0), (1, .int x1)] [] := by
  unfold f_c_X0_ran at hf
  refine xr_aload_n (pc := 0) 0 dX0_ran_0 rfl rfl ?_
  refine xr_iload_n (pc := 1) 1 dX0_ran_1 rfl rfl ?_
  obtain ⟨ht1, hf⟩ := xo_if hf
  obtain ⟨r2, τ2, hτ2, hf⟩ := xo_bd hf
  refine call_f_c_X0_isColumn_X0_171 (pc := 2) hτ2 (gKo ht1 (by decide)) rfl (Nat.le_of_ble_eq_true rfl) (Nat.le_of_ble_eq_true rfl) (Nat.le_of_ble_eq_true rfl) dX0_ran_2 ?_
  refine xr_if_ne (pc := 5) 10 dX0_ran_5 (by decide) (fun c_ => ?_) (fun c_ => ?_)
  · have hf := xo_pos c_ hf
    refine xr_iconst (pc := 8) dX0_ran_8 xci_m1 ?_
    rw [kr _ (Option.some.inj hf).symm]
    exact xr_iret (pc := 9) dX0_ran_9 rfl
  · have hf := xo_neg c_ hf
    refine xr_iconst (pc := 10) dX0_ran_10 xci_0 ?_
    refine xr_istore_n (pc := 11) (loc' := [(2, .int 0), (0, .ref x0), (1, .int x1)]) dX0_ran_11 rfl (by decide) rfl ?_
    refine xr_iconst (pc := 12) dX0_ran_12 xci_0 ?_
    refine xr_istore_n (pc := 13) (loc' := [(3, .int 0), (2, .int 0), (0, .ref x0), (1, .int x1)]) dX0_ran_13 rfl (by decide) rfl ?_
    refine xV_sub [2, 3, 1, 0] rfl ?_
    obtain ⟨b7, hb7, hf⟩ := xo_bind hf
    refine itr_rule (P := fun s_ : Int32 × Int32 × CC => xV (wC D P) K mX0_ran (xQ (wC D P) K Z) (g, s_.2.2) 14 [(0, .ref x0), (1, .int x1), (2, .int s_.1), (3, .int s_.2.1)] []) (fun s_ o_ hB_ hc_ he_ => ok_Bc_X0_ran_14 hB_ hc_ (fun e_ h_ => ?_)) 4096 _ hb7
    · have e9_ := he_ _ h_
      rw [e9_]
      refine xr_iload_n (pc := 50) 0 dX0_ran_50 rfl rfl ?_
      rw [kr _ (Option.some.inj hf).symm]
      exact xr_iret (pc := 51) dX0_ran_51 rfl
theorem met_f_c_X0_ran (l : Launch) {D : CD} {P : CP} {g : CG} {x0 : Nat} {x1 : Int32} {τ : CC} {o_ : (Int32 × CC)} (hf : f_c_X0_ran g x0 x1 τ = some o_) : xMet (wC D P) l yX0_ran (ws_ yX0_ran cX0_ran 4 (some .int)) 83 4980 (grc g) (grs g) [.ref x0, .int x1] (g, τ) (some (.int o_.1), (g, o_.2)) := 
  xMet_of (by decide) (Nat.le_of_ble_eq_true rfl) KC_moved RPC_of (fun K _ _ _ => ok_f_c_X0_ran hf (fun _ h => by rw [h]))
