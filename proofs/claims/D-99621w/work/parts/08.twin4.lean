set_option maxRecDepth 100000
abbrev mX6_later : xM := (cX6_later, 4, RX6, 9, 540, (some .int), "later")
def f_t_later (x1 : Int32) (x2 : Int32) (τ : TS) : Option (Int32 × TS) :=
  xbd (f_t_isColumn x1.toInt64 τ) fun r1 τ1 =>
  if r1 = 0 then
  some (((-1), τ1))
  else
  xbd (f_t_isAhead x2 0 60 τ1) fun r2 τ2 =>
  if r2 = 0 then
  some (((-1), τ2))
  else
  (f_t_putsAside τ2).bind fun τ3 =>
  (f_t_seasonsGo x2 τ3).bind fun τ4 =>
  xbd (f_t_rowOf x1 τ4) fun r5 τ5 =>
  (f_t_takesBack τ5).bind fun τ6 =>
  some ((r5, τ6))
theorem ok_f_t_later {D : TD} {m : Nat} {K : xK} {Z : Option Value × TS} {x1 : Int32} {x2 : Int32} {τ : TS} {o_ : (Int32 × TS)} (hf : f_t_later x1 x2 τ = some o_) (kr : ∀ r_ : (Int32 × TS), o_ = r_ → Z = (some (.int r_.1), r_.2)) : xV (wT D m) K mX6_later (xQ (wT D m) K Z) τ 0 [(0, .ref m), (1, .int x1), (2, .int x2)] [] := by
  unfold f_t_later at hf
  refine xr_aload_n (pc := 0) 0 dX6_later_0 rfl rfl ?_
  refine xr_iload_n (pc := 1) 1 dX6_later_1 rfl rfl ?_
  refine xr_i2l (pc := 2) dX6_later_2 ?_
  obtain ⟨r1, τ1, hτ1, hf⟩ := xo_bd hf
  refine call_f_t_isColumn (pc := 3) hτ1 rfl (Nat.le_of_ble_eq_true rfl) (Nat.le_of_ble_eq_true rfl) (Nat.le_of_ble_eq_true rfl) dX6_later_3 ?_
  refine xr_if_eq (pc := 6) 20 dX6_later_6 (by decide) (fun c_ => ?_) (fun c_ => ?_)
  · have hf := xo_pos c_ hf
    refine xr_iconst (pc := 20) dX6_later_20 xci_m1 ?_
    rw [kr _ (Option.some.inj hf).symm]
    exact xr_iret (pc := 21) dX6_later_21 rfl
  · have hf := xo_neg c_ hf
    refine xr_aload_n (pc := 9) 0 dX6_later_9 rfl rfl ?_
    refine xr_iload_n (pc := 10) 2 dX6_later_10 rfl rfl ?_
    refine xr_iconst (pc := 11) dX6_later_11 xci_0 ?_
    refine xr_bipush (pc := 12) dX6_later_12 xcb_60 ?_
    obtain ⟨r2, τ2, hτ2, hf⟩ := xo_bd hf
    refine call_f_t_isAhead (pc := 14) hτ2 rfl (Nat.le_of_ble_eq_true rfl) (Nat.le_of_ble_eq_true rfl) (Nat.le_of_ble_eq_true rfl) dX6_later_14 ?_
    refine xr_if_ne (pc := 17) 22 dX6_later_17 (by decide) (fun c_ => ?_) (fun c_ => ?_)
    · have hf := xo_pos c_ hf
      refine xr_iconst (pc := 20) dX6_later_20 xci_m1 ?_
      rw [kr _ (Option.some.inj hf).symm]
      exact xr_iret (pc := 21) dX6_later_21 rfl
    · have hf := xo_neg c_ hf
      refine xr_aload_n (pc := 22) 0 dX6_later_22 rfl rfl ?_
      obtain ⟨τ3, hτ3, hf⟩ := xo_bind hf
      refine call_f_t_putsAside (pc := 23) hτ3 rfl (Nat.le_of_ble_eq_true rfl) (Nat.le_of_ble_eq_true rfl) (Nat.le_of_ble_eq_true rfl) dX6_later_23 ?_
      refine xr_aload_n (pc := 26) 0 dX6_later_26 rfl rfl ?_
      refine xr_iload_n (pc := 27) 2 dX6_later_27 rfl rfl ?_
      obtain ⟨τ4, hτ4, hf⟩ := xo_bind hf
      refine call_f_t_seasonsGo (pc := 28) hτ4 rfl (Nat.le_of_ble_eq_true rfl) (Nat.le_of_ble_eq_true rfl) (Nat.le_of_ble_eq_true rfl) dX6_later_28 ?_
      refine xr_aload_n (pc := 31) 0 dX6_later_31 rfl rfl ?_
      refine xr_iload_n (pc := 32) 1 dX6_later_32 rfl rfl ?_
      obtain ⟨r5, τ5, hτ5, hf⟩ := xo_bd hf
      refine call_f_t_rowOf (pc := 33) hτ5 rfl (Nat.le_of_ble_eq_true rfl) (Nat.le_of_ble_eq_true rfl) (Nat.le_of_ble_eq_true rfl) dX6_later_33 ?_
      refine xr_istore_n (pc := 36) (loc' := [(3, .int r5), (0, .ref m), (1, .int x1), (2, .int x2)]) dX6_later_36 rfl (by decide) rfl ?_
      refine xr_aload_n (pc := 37) 1 dX6_later_37 rfl rfl ?_
      obtain ⟨τ6, hτ6, hf⟩ := xo_bind hf
      refine call_f_t_takesBack (pc := 38) hτ6 rfl (Nat.le_of_ble_eq_true rfl) (Nat.le_of_ble_eq_true rfl) (Nat.le_of_ble_eq_true rfl) dX6_later_38 ?_
      refine xr_iload_n (pc := 41) 0 dX6_later_41 rfl rfl ?_
      rw [kr _ (Option.some.inj hf).symm]
      exact xr_iret (pc := 42) dX6_later_42 rfl
theorem met_f_t_later (l : Launch) {D : TD} {m : Nat} {x1 : Int32} {x2 : Int32} {τ : TS} {o_ : (Int32 × TS)} (hf : f_t_later x1 x2 τ = some o_) : xMet (wT D m) l yX6_later (ws_ yX6_later cX6_later 4 (some .int)) 9 540 0 0 [.ref m, .int x1, .int x2] τ (some (.int o_.1), o_.2) :=
  xMet_of (by decide) (Nat.le_of_ble_eq_true rfl) KT_moved (fun _ _ => trivial) (fun K _ _ _ => ok_f_t_later hf (fun _ h => by rw [h]))
abbrev mX6_purseAll : xM := (cX6_purseAll, 3, RX6, 1, 60, (some .int), "purseAll")
def Bt_purseAll_4 (x1 : Int32) (x2 : Int32) (τ : TS) : Option ((Int32 × Int32 × TS) ⊕ ((Int32 × TS))) :=
  xbd (f_t_lordMany τ) fun r1 τ1 =>
  if r1 ≤ x2 then
  some (.inr (x1, τ1))
  else
  xbd (f_t_purseOf x2 τ1) fun r2 τ2 =>
  some (.inl (x1 + r2, x2 + 1, τ2))
theorem ok_Bt_purseAll_4 {D : TD} {m : Nat} {K : xK} {Z : Option Value × TS} {x1 : Int32} {x2 : Int32} {τ : TS} {o_ : ((Int32 × Int32 × TS) ⊕ ((Int32 × TS)))} (hf : Bt_purseAll_4 x1 x2 τ = some o_) (kc : ∀ s_ : Int32 × Int32 × TS, o_ = .inl s_ → xV (wT D m) K mX6_purseAll (xQ (wT D m) K Z) s_.2.2 4 [(0, .ref m), (1, .int s_.1), (2, .int s_.2.1)] []) (ke0 : ∀ e_ : Int32 × TS, o_ = .inr e_ → xV (wT D m) K mX6_purseAll (xQ (wT D m) K Z) e_.2 26 [(1, .int e_.1)] []) : xV (wT D m) K mX6_purseAll (xQ (wT D m) K Z) τ 4 [(0, .ref m), (1, .int x1), (2, .int x2)] [] := by
  unfold Bt_purseAll_4 at hf
  refine xr_iload_n (pc := 4) 2 dX6_purseAll_4 rfl rfl ?_
  refine xr_aload_n (pc := 5) 0 dX6_purseAll_5 rfl rfl ?_
  obtain ⟨r1, τ1, hτ1, hf⟩ := xo_bd hf
  refine call_f_t_lordMany (pc := 6) hτ1 rfl (Nat.le_of_ble_eq_true rfl) (Nat.le_of_ble_eq_true rfl) (Nat.le_of_ble_eq_true rfl) dX6_purseAll_6 ?_
  refine xr_icmp_ge (pc := 9) 26 dX6_purseAll_9 (by decide) (fun c_ => ?_) (fun c_ => ?_)
  · have hf := xo_pos c_ hf
    refine xV_sub [1] rfl ?_
    exact ke0 _ (Option.some.inj hf).symm
  · have hf := xo_neg c_ hf
    refine xr_iload_n (pc := 12) 1 dX6_purseAll_12 rfl rfl ?_
    refine xr_aload_n (pc := 13) 0 dX6_purseAll_13 rfl rfl ?_
    refine xr_iload_n (pc := 14) 2 dX6_purseAll_14 rfl rfl ?_
    obtain ⟨r2, τ2, hτ2, hf⟩ := xo_bd hf
    refine call_f_t_purseOf (pc := 15) hτ2 rfl (Nat.le_of_ble_eq_true rfl) (Nat.le_of_ble_eq_true rfl) (Nat.le_of_ble_eq_true rfl) dX6_purseAll_15 ?_
    refine xr_iadd (pc := 18) dX6_purseAll_18 ?_
    refine xr_istore_n (pc := 19) (loc' := [(1, .int (x1 + r2)), (0, .ref m), (2, .int x2)]) dX6_purseAll_19 rfl (by decide) rfl ?_
    refine xr_iinc (pc := 20) (loc' := [(2, .int (x2 + 1)), (1, .int (x1 + r2)), (0, .ref m)]) 2 dX6_purseAll_20 rfl xci_1 (by decide) rfl ?_
    refine xr_goto (pc := 23) 4 dX6_purseAll_23 (by decide) ?_
    refine xV_sub [2, 1, 0] rfl ?_
    exact kc _ (Option.some.inj hf).symm
def f_t_purseAll (τ : TS) : Option (Int32 × TS) :=
  (itr (fun s_ : Int32 × Int32 × TS => Bt_purseAll_4 s_.1 s_.2.1 s_.2.2) 4096 (0, 0, τ)).bind fun b3 =>
  some ((b3.1, b3.2))
theorem ok_f_t_purseAll {D : TD} {m : Nat} {K : xK} {Z : Option Value × TS} {τ : TS} {o_ : (Int32 × TS)} (hf : f_t_purseAll τ = some o_) (kr : ∀ r_ : (Int32 × TS), o_ = r_ → Z = (some (.int r_.1), r_.2)) : xV (wT D m) K mX6_purseAll (xQ (wT D m) K Z) τ 0 [(0, .ref m)] [] := by
  unfold f_t_purseAll at hf
  refine xr_iconst (pc := 0) dX6_purseAll_0 xci_0 ?_
  refine xr_istore_n (pc := 1) (loc' := [(1, .int 0), (0, .ref m)]) dX6_purseAll_1 rfl (by decide) rfl ?_
  refine xr_iconst (pc := 2) dX6_purseAll_2 xci_0 ?_
  refine xr_istore_n (pc := 3) (loc' := [(2, .int 0), (1, .int 0), (0, .ref m)]) dX6_purseAll_3 rfl (by decide) rfl ?_
  refine xV_sub [2, 1, 0] rfl ?_
  obtain ⟨b3, hb3, hf⟩ := xo_bind hf
  refine itr_rule (P := fun s_ : Int32 × Int32 × TS => xV (wT D m) K mX6_purseAll (xQ (wT D m) K Z) s_.2.2 4 [(0, .ref m), (1, .int s_.1), (2, .int s_.2.1)] []) (fun s_ o_ hB_ hc_ he_ => ok_Bt_purseAll_4 hB_ hc_ (fun e_ h_ => ?_)) 4096 _ hb3
  · have e9_ := he_ _ h_
    rw [e9_]
    refine xr_iload_n (pc := 26) 0 dX6_purseAll_26 rfl rfl ?_
    rw [kr _ (Option.some.inj hf).symm]
    exact xr_iret (pc := 27) dX6_purseAll_27 rfl
theorem met_f_t_purseAll (l : Launch) {D : TD} {m : Nat} {τ : TS} {o_ : (Int32 × TS)} (hf : f_t_purseAll τ = some o_) : xMet (wT D m) l yX6_purseAll (ws_ yX6_purseAll cX6_purseAll 3 (some .int)) 1 60 0 0 [.ref m] τ (some (.int o_.1), o_.2) :=
  xMet_of (by decide) (Nat.le_of_ble_eq_true rfl) KT_moved (fun _ _ => trivial) (fun K _ _ _ => ok_f_t_purseAll hf (fun _ h => by rw [h]))
theorem hd_f_t_purseAll : yX6_purseAll.cls = RX6 ∧ yX6_purseAll.cls ≠ "java/lang/invoke/MethodHandle" ∧ yX6_purseAll.cls ≠ "java/lang/invoke/VarHandle" ∧ (parseMethodDescriptor yX6_purseAll.desc).map (fun d => d.parameters.length) = some 0 := by decide +kernel
theorem call_f_t_purseAll {D : TD} {m : Nat} {K : xK} {M : xM} {Q : State → Prop} {τ : TS} {pc : Nat} {loc : List (Nat × Value)} {st : List Value} {r : Int32} {τ1 : TS} (hf : f_t_purseAll τ = some (r, τ1)) (ho : M.2.2.1 = RX6) (hfr : 2 ≤ M.2.2.2.1) (hlo : 82 ≤ M.2.2.2.2.1) (hcat : (st.map fun v => v.category).sum ≤ 8) (d : decode M.1 pc = .ok (.invokevirtual 618, 3)) (k : xV (wT D m) K M Q τ1 (pc + 3) loc (.int r :: st)) : xV (wT D m) K M Q τ pc loc (.ref m :: st) :=
  xr_callV (As := []) (rest := st) (met_f_t_purseAll K.2.1 hf) (lw_V q2538 q2540 qs145 q186 q2541) hd_f_t_purseAll ho hfr hlo rfl (fun H hR hK => t_recv H hR hK) rfl hcat d k
abbrev mX6_sums : xM := (cX6_sums, 4, RX6, 9, 540, (some .int), "sums")
def Jt_sums_63 (s0 : Int32) (τ : TS) : Option (Int32 × TS) :=
  (f_t_takesBack τ).bind fun τ6 =>
  some ((s0, τ6))
theorem ok_Jt_sums_63 {D : TD} {m : Nat} {K : xK} {Z : Option Value × TS} {s0 : Int32} {τ : TS} {o_ : (Int32 × TS)} (hf : Jt_sums_63 s0 τ = some o_) (kr : ∀ r_ : (Int32 × TS), o_ = r_ → Z = (some (.int r_.1), r_.2)) : xV (wT D m) K mX6_sums (xQ (wT D m) K Z) τ 63 [(0, .ref m)] [.int s0] := by
  unfold Jt_sums_63 at hf
  refine xr_istore_n (pc := 63) (loc' := [(3, .int s0), (0, .ref m)]) dX6_sums_63 rfl (by decide) rfl ?_
  refine xr_aload_n (pc := 64) 1 dX6_sums_64 rfl rfl ?_
  obtain ⟨τ6, hτ6, hf⟩ := xo_bind hf
  refine call_f_t_takesBack (pc := 65) hτ6 rfl (Nat.le_of_ble_eq_true rfl) (Nat.le_of_ble_eq_true rfl) (Nat.le_of_ble_eq_true rfl) dX6_sums_65 ?_
  refine xr_iload_n (pc := 68) 0 dX6_sums_68 rfl rfl ?_
  rw [kr _ (Option.some.inj hf).symm]
  exact xr_iret (pc := 69) dX6_sums_69 rfl
def f_t_sums (x1 : Int32) (x2 : Int32) (τ : TS) : Option (Int32 × TS) :=
  xbd (f_t_isAhead x1 0 60 τ) fun r1 τ1 =>
  if r1 = 0 then
  some (((-1), τ1))
  else
  xbd (f_t_isIn x2.toInt64 0 2 τ1) fun r2 τ2 =>
  if r2 = 0 then
  some (((-1), τ2))
  else
  (f_t_putsAside τ2).bind fun τ3 =>
  (f_t_seasonsGo x1 τ3).bind fun τ4 =>
  if x2 = 0 then
  xbd (f_t_bendMany τ4) fun r5 τ5 =>
  Jt_sums_63 r5 τ5
  else
  if x2 = 1 then
  if xin 1 303 = true then
  Jt_sums_63 (tA τ4 62 (1 : Int32).toNatClampNeg) τ4
  else none
  else
  xbd (f_t_purseAll τ4) fun r7 τ7 =>
  Jt_sums_63 r7 τ7
theorem ok_f_t_sums {D : TD} {m : Nat} {K : xK} {Z : Option Value × TS} {x1 : Int32} {x2 : Int32} {τ : TS} {o_ : (Int32 × TS)} (hf : f_t_sums x1 x2 τ = some o_) (kr : ∀ r_ : (Int32 × TS), o_ = r_ → Z = (some (.int r_.1), r_.2)) : xV (wT D m) K mX6_sums (xQ (wT D m) K Z) τ 0 [(0, .ref m), (1, .int x1), (2, .int x2)] [] := by
  unfold f_t_sums at hf
  refine xr_aload_n (pc := 0) 0 dX6_sums_0 rfl rfl ?_
  refine xr_iload_n (pc := 1) 1 dX6_sums_1 rfl rfl ?_
  refine xr_iconst (pc := 2) dX6_sums_2 xci_0 ?_
  refine xr_bipush (pc := 3) dX6_sums_3 xcb_60 ?_
  obtain ⟨r1, τ1, hτ1, hf⟩ := xo_bd hf
  refine call_f_t_isAhead (pc := 5) hτ1 rfl (Nat.le_of_ble_eq_true rfl) (Nat.le_of_ble_eq_true rfl) (Nat.le_of_ble_eq_true rfl) dX6_sums_5 ?_
  refine xr_if_eq (pc := 8) 23 dX6_sums_8 (by decide) (fun c_ => ?_) (fun c_ => ?_)
  · have hf := xo_pos c_ hf
    refine xr_iconst (pc := 23) dX6_sums_23 xci_m1 ?_
    rw [kr _ (Option.some.inj hf).symm]
    exact xr_iret (pc := 24) dX6_sums_24 rfl
  · have hf := xo_neg c_ hf
    refine xr_iload_n (pc := 11) 2 dX6_sums_11 rfl rfl ?_
    refine xr_i2l (pc := 12) dX6_sums_12 ?_
    refine xr_lconst (pc := 13) dX6_sums_13 (by decide : _ = (0 : Int64)) ?_
    refine xr_ldc2 (pc := 14) q2488 dX6_sums_14 ?_
    obtain ⟨r2, τ2, hτ2, hf⟩ := xo_bd hf
    refine call_f_t_isIn (pc := 17) hτ2 rfl (Nat.le_of_ble_eq_true rfl) (Nat.le_of_ble_eq_true rfl) (Nat.le_of_ble_eq_true rfl) dX6_sums_17 ?_
    refine xr_if_ne (pc := 20) 25 dX6_sums_20 (by decide) (fun c_ => ?_) (fun c_ => ?_)
    · have hf := xo_pos c_ hf
      refine xr_iconst (pc := 23) dX6_sums_23 xci_m1 ?_
      rw [kr _ (Option.some.inj hf).symm]
      exact xr_iret (pc := 24) dX6_sums_24 rfl
    · have hf := xo_neg c_ hf
      refine xr_aload_n (pc := 25) 0 dX6_sums_25 rfl rfl ?_
      obtain ⟨τ3, hτ3, hf⟩ := xo_bind hf
      refine call_f_t_putsAside (pc := 26) hτ3 rfl (Nat.le_of_ble_eq_true rfl) (Nat.le_of_ble_eq_true rfl) (Nat.le_of_ble_eq_true rfl) dX6_sums_26 ?_
      refine xr_aload_n (pc := 29) 0 dX6_sums_29 rfl rfl ?_
      refine xr_iload_n (pc := 30) 1 dX6_sums_30 rfl rfl ?_
      obtain ⟨τ4, hτ4, hf⟩ := xo_bind hf
      refine call_f_t_seasonsGo (pc := 31) hτ4 rfl (Nat.le_of_ble_eq_true rfl) (Nat.le_of_ble_eq_true rfl) (Nat.le_of_ble_eq_true rfl) dX6_sums_31 ?_
      refine xr_iload_n (pc := 34) 2 dX6_sums_34 rfl rfl ?_
      refine xr_if_ne (pc := 35) 45 dX6_sums_35 (by decide) (fun c_ => ?_) (fun c_ => ?_)
      · have hf := xo_pos c_ hf
        refine xr_aload_n (pc := 38) 0 dX6_sums_38 rfl rfl ?_
        obtain ⟨r5, τ5, hτ5, hf⟩ := xo_bd hf
        refine call_f_t_bendMany (pc := 39) hτ5 rfl (Nat.le_of_ble_eq_true rfl) (Nat.le_of_ble_eq_true rfl) (Nat.le_of_ble_eq_true rfl) dX6_sums_39 ?_
        refine xr_goto (pc := 42) 63 dX6_sums_42 (by decide) ?_
        refine xV_sub [0] rfl ?_
        exact ok_Jt_sums_63 hf kr
      · have hf := xo_neg c_ hf
        refine xr_iload_n (pc := 45) 2 dX6_sums_45 rfl rfl ?_
        refine xr_iconst (pc := 46) dX6_sums_46 xci_1 ?_
        refine xr_icmp_ne (pc := 47) 59 dX6_sums_47 (by decide) (fun c_ => ?_) (fun c_ => ?_)
        · have hf := xo_pos c_ hf
          refine xr_aload_n (pc := 50) 0 dX6_sums_50 rfl rfl ?_
          refine xt_getA (pc := 51) 62 (by decide) q1808 rfl rfl rfl dX6_sums_51 ?_
          refine xr_iconst (pc := 54) dX6_sums_54 xci_1 ?_
          obtain ⟨hi_, hf⟩ := xo_if hf
          refine xt_iald (pc := 55) 62 rfl rfl hi_ dX6_sums_55 ?_
          refine xr_goto (pc := 56) 63 dX6_sums_56 (by decide) ?_
          refine xV_sub [0] rfl ?_
          exact ok_Jt_sums_63 hf kr
        · have hf := xo_neg c_ hf
          refine xr_aload_n (pc := 59) 0 dX6_sums_59 rfl rfl ?_
          obtain ⟨r7, τ7, hτ7, hf⟩ := xo_bd hf
          refine call_f_t_purseAll (pc := 60) hτ7 rfl (Nat.le_of_ble_eq_true rfl) (Nat.le_of_ble_eq_true rfl) (Nat.le_of_ble_eq_true rfl) dX6_sums_60 ?_
          refine xV_sub [0] rfl ?_
          exact ok_Jt_sums_63 hf kr
theorem met_f_t_sums (l : Launch) {D : TD} {m : Nat} {x1 : Int32} {x2 : Int32} {τ : TS} {o_ : (Int32 × TS)} (hf : f_t_sums x1 x2 τ = some o_) : xMet (wT D m) l yX6_sums (ws_ yX6_sums cX6_sums 4 (some .int)) 9 540 0 0 [.ref m, .int x1, .int x2] τ (some (.int o_.1), o_.2) :=
  xMet_of (by decide) (Nat.le_of_ble_eq_true rfl) KT_moved (fun _ _ => trivial) (fun K _ _ _ => ok_f_t_sums hf (fun _ h => by rw [h]))
abbrev mX6_straight : xM := (cX6_straight, 3, RX6, 8, 480, (some .int), "straight")
def Bt_straight_15 (x1 : Int32) (τ : TS) : Option ((Int32 × TS) ⊕ ((Int32 × TS))) :=
  xbd (f_t_bendMany τ) fun r2 τ2 =>
  if r2 ≤ 0 then
  some (.inr (x1, τ2))
  else
  if 60 ≤ x1 then
  some (.inr (x1, τ2))
  else
  if xin 0 303 = true then
  if 999 ≤ (tA τ2 62 (0 : Int32).toNatClampNeg) then
  some (.inr (x1, τ2))
  else
  (f_t_seasonGoes τ2).bind fun τ3 =>
  some (.inl (x1 + 1, τ3))
  else none
theorem ok_Bt_straight_15 {D : TD} {m : Nat} {K : xK} {Z : Option Value × TS} {x1 : Int32} {τ : TS} {o_ : ((Int32 × TS) ⊕ ((Int32 × TS)))} (hf : Bt_straight_15 x1 τ = some o_) (kc : ∀ s_ : Int32 × TS, o_ = .inl s_ → xV (wT D m) K mX6_straight (xQ (wT D m) K Z) s_.2 15 [(0, .ref m), (1, .int s_.1)] []) (ke0 : ∀ e_ : Int32 × TS, o_ = .inr e_ → xV (wT D m) K mX6_straight (xQ (wT D m) K Z) e_.2 50 [(0, .ref m), (1, .int e_.1)] []) : xV (wT D m) K mX6_straight (xQ (wT D m) K Z) τ 15 [(0, .ref m), (1, .int x1)] [] := by
  unfold Bt_straight_15 at hf
  refine xr_aload_n (pc := 15) 0 dX6_straight_15 rfl rfl ?_
  obtain ⟨r2, τ2, hτ2, hf⟩ := xo_bd hf
  refine call_f_t_bendMany (pc := 16) hτ2 rfl (Nat.le_of_ble_eq_true rfl) (Nat.le_of_ble_eq_true rfl) (Nat.le_of_ble_eq_true rfl) dX6_straight_16 ?_
  refine xr_if_le (pc := 19) 50 dX6_straight_19 (by decide) (fun c_ => ?_) (fun c_ => ?_)
  · have hf := xo_pos c_ hf
    exact ke0 _ (Option.some.inj hf).symm
  · have hf := xo_neg c_ hf
    refine xr_iload_n (pc := 22) 1 dX6_straight_22 rfl rfl ?_
    refine xr_bipush (pc := 23) dX6_straight_23 xcb_60 ?_
    refine xr_icmp_ge (pc := 25) 50 dX6_straight_25 (by decide) (fun c_ => ?_) (fun c_ => ?_)
    · have hf := xo_pos c_ hf
      exact ke0 _ (Option.some.inj hf).symm
    · have hf := xo_neg c_ hf
      refine xr_aload_n (pc := 28) 0 dX6_straight_28 rfl rfl ?_
      refine xt_getA (pc := 29) 62 (by decide) q1808 rfl rfl rfl dX6_straight_29 ?_
      refine xr_iconst (pc := 32) dX6_straight_32 xci_0 ?_
      obtain ⟨hi_, hf⟩ := xo_if hf
      refine xt_iald (pc := 33) 62 rfl rfl hi_ dX6_straight_33 ?_
      refine xr_sipush (pc := 34) dX6_straight_34 xcs_999 ?_
      refine xr_icmp_ge (pc := 37) 50 dX6_straight_37 (by decide) (fun c_ => ?_) (fun c_ => ?_)
      · have hf := xo_pos c_ hf
        exact ke0 _ (Option.some.inj hf).symm
      · have hf := xo_neg c_ hf
        refine xr_aload_n (pc := 40) 0 dX6_straight_40 rfl rfl ?_
        obtain ⟨τ3, hτ3, hf⟩ := xo_bind hf
        refine call_f_t_seasonGoes (pc := 41) hτ3 rfl (Nat.le_of_ble_eq_true rfl) (Nat.le_of_ble_eq_true rfl) (Nat.le_of_ble_eq_true rfl) dX6_straight_41 ?_
        refine xr_iinc (pc := 44) (loc' := [(1, .int (x1 + 1)), (0, .ref m)]) 1 dX6_straight_44 rfl xci_1 (by decide) rfl ?_
        refine xr_goto (pc := 47) 15 dX6_straight_47 (by decide) ?_
        refine xV_sub [1, 0] rfl ?_
        exact kc _ (Option.some.inj hf).symm
def Jt_straight_62 (x1 : Int32) (s0 : Int32) (τ : TS) : Option (Int32 × TS) :=
  (f_t_takesBack τ).bind fun τ6 =>
  if s0 = 0 then
  some (((-1), τ6))
  else
  some ((x1, τ6))
theorem ok_Jt_straight_62 {D : TD} {m : Nat} {K : xK} {Z : Option Value × TS} {x1 : Int32} {s0 : Int32} {τ : TS} {o_ : (Int32 × TS)} (hf : Jt_straight_62 x1 s0 τ = some o_) (kr : ∀ r_ : (Int32 × TS), o_ = r_ → Z = (some (.int r_.1), r_.2)) : xV (wT D m) K mX6_straight (xQ (wT D m) K Z) τ 62 [(0, .ref m), (1, .int x1)] [.int s0] := by
  unfold Jt_straight_62 at hf
  refine xr_istore_n (pc := 62) (loc' := [(2, .int s0), (0, .ref m), (1, .int x1)]) dX6_straight_62 rfl (by decide) rfl ?_
  refine xr_aload_n (pc := 63) 1 dX6_straight_63 rfl rfl ?_
  obtain ⟨τ6, hτ6, hf⟩ := xo_bind hf
  refine call_f_t_takesBack (pc := 64) hτ6 rfl (Nat.le_of_ble_eq_true rfl) (Nat.le_of_ble_eq_true rfl) (Nat.le_of_ble_eq_true rfl) dX6_straight_64 ?_
  refine xr_iload_n (pc := 67) 0 dX6_straight_67 rfl rfl ?_
  refine xr_if_eq (pc := 68) 75 dX6_straight_68 (by decide) (fun c_ => ?_) (fun c_ => ?_)
  · have hf := xo_pos c_ hf
    refine xr_iconst (pc := 75) dX6_straight_75 xci_m1 ?_
    rw [kr _ (Option.some.inj hf).symm]
    exact xr_iret (pc := 76) dX6_straight_76 rfl
  · have hf := xo_neg c_ hf
    refine xr_iload_n (pc := 71) 2 dX6_straight_71 rfl rfl ?_
    refine xr_goto (pc := 72) 76 dX6_straight_72 (by decide) ?_
    rw [kr _ (Option.some.inj hf).symm]
    exact xr_iret (pc := 76) dX6_straight_76 rfl
def Jt_straight_50 (x1 : Int32) (τ : TS) : Option (Int32 × TS) :=
  xbd (f_t_bendMany τ) fun r5 τ5 =>
  if r5 = 0 then
  Jt_straight_62 x1 1 τ5
  else
  Jt_straight_62 x1 0 τ5
theorem ok_Jt_straight_50 {D : TD} {m : Nat} {K : xK} {Z : Option Value × TS} {x1 : Int32} {τ : TS} {o_ : (Int32 × TS)} (hf : Jt_straight_50 x1 τ = some o_) (kr : ∀ r_ : (Int32 × TS), o_ = r_ → Z = (some (.int r_.1), r_.2)) : xV (wT D m) K mX6_straight (xQ (wT D m) K Z) τ 50 [(0, .ref m), (1, .int x1)] [] := by
  unfold Jt_straight_50 at hf
  refine xr_aload_n (pc := 50) 0 dX6_straight_50 rfl rfl ?_
  obtain ⟨r5, τ5, hτ5, hf⟩ := xo_bd hf
  refine call_f_t_bendMany (pc := 51) hτ5 rfl (Nat.le_of_ble_eq_true rfl) (Nat.le_of_ble_eq_true rfl) (Nat.le_of_ble_eq_true rfl) dX6_straight_51 ?_
  refine xr_if_ne (pc := 54) 61 dX6_straight_54 (by decide) (fun c_ => ?_) (fun c_ => ?_)
  · have hf := xo_pos c_ hf
    refine xr_iconst (pc := 57) dX6_straight_57 xci_1 ?_
    refine xr_goto (pc := 58) 62 dX6_straight_58 (by decide) ?_
    exact ok_Jt_straight_62 hf kr
  · have hf := xo_neg c_ hf
    refine xr_iconst (pc := 61) dX6_straight_61 xci_0 ?_
    exact ok_Jt_straight_62 hf kr
def f_t_straight (τ : TS) : Option (Int32 × TS) :=
  if (tI τ 60) = 0 then
  some (((-1), τ))
  else
  (f_t_putsAside τ).bind fun τ1 =>
  (itr (fun s_ : Int32 × TS => Bt_straight_15 s_.1 s_.2) 4096 (0, τ1)).bind fun b4 =>
  Jt_straight_50 b4.1 b4.2
theorem ok_f_t_straight {D : TD} {m : Nat} {K : xK} {Z : Option Value × TS} {τ : TS} {o_ : (Int32 × TS)} (hf : f_t_straight τ = some o_) (kr : ∀ r_ : (Int32 × TS), o_ = r_ → Z = (some (.int r_.1), r_.2)) : xV (wT D m) K mX6_straight (xQ (wT D m) K Z) τ 0 [(0, .ref m)] [] := by
  unfold f_t_straight at hf
  refine xr_aload_n (pc := 0) 0 dX6_straight_0 rfl rfl ?_
  refine xt_getI (pc := 1) 60 (by decide) q1806 rfl rfl rfl dX6_straight_1 ?_
  refine xr_if_ne (pc := 4) 9 dX6_straight_4 (by decide) (fun c_ => ?_) (fun c_ => ?_)
  · have hf := xo_pos c_ hf
    refine xr_iconst (pc := 7) dX6_straight_7 xci_m1 ?_
    rw [kr _ (Option.some.inj hf).symm]
    exact xr_iret (pc := 8) dX6_straight_8 rfl
  · have hf := xo_neg c_ hf
    refine xr_iconst (pc := 9) dX6_straight_9 xci_0 ?_
    refine xr_istore_n (pc := 10) (loc' := [(1, .int 0), (0, .ref m)]) dX6_straight_10 rfl (by decide) rfl ?_
    refine xr_aload_n (pc := 11) 1 dX6_straight_11 rfl rfl ?_
    obtain ⟨τ1, hτ1, hf⟩ := xo_bind hf
    refine call_f_t_putsAside (pc := 12) hτ1 rfl (Nat.le_of_ble_eq_true rfl) (Nat.le_of_ble_eq_true rfl) (Nat.le_of_ble_eq_true rfl) dX6_straight_12 ?_
    refine xV_sub [1, 0] rfl ?_
    obtain ⟨b4, hb4, hf⟩ := xo_bind hf
    refine itr_rule (P := fun s_ : Int32 × TS => xV (wT D m) K mX6_straight (xQ (wT D m) K Z) s_.2 15 [(0, .ref m), (1, .int s_.1)] []) (fun s_ o_ hB_ hc_ he_ => ok_Bt_straight_15 hB_ hc_ (fun e_ h_ => ?_)) 4096 _ hb4
    · have e9_ := he_ _ h_
      rw [e9_]
      exact ok_Jt_straight_50 hf kr
theorem met_f_t_straight (l : Launch) {D : TD} {m : Nat} {τ : TS} {o_ : (Int32 × TS)} (hf : f_t_straight τ = some o_) : xMet (wT D m) l yX6_straight (ws_ yX6_straight cX6_straight 3 (some .int)) 8 480 0 0 [.ref m] τ (some (.int o_.1), o_.2) :=
  xMet_of (by decide) (Nat.le_of_ble_eq_true rfl) KT_moved (fun _ _ => trivial) (fun K _ _ _ => ok_f_t_straight hf (fun _ h => by rw [h]))
abbrev mX6_doesRun : xM := (cX6_doesRun, 5, RX6, 9, 540, (some .boolean), "doesRun")
def Jt_doesRun_19 (s0 : Int32) (τ : TS) : Option (Int32 × TS) :=
  (f_t_triesAnew τ).bind fun τ3 =>
  some ((s0 &&& 1, τ3))
theorem ok_Jt_doesRun_19 {D : TD} {m : Nat} {K : xK} {Z : Option Value × TS} {s0 : Int32} {τ : TS} {o_ : (Int32 × TS)} (hf : Jt_doesRun_19 s0 τ = some o_) (kr : ∀ r_ : (Int32 × TS), o_ = r_ → Z = (some (.int r_.1), r_.2)) : xV (wT D m) K mX6_doesRun (xQ (wT D m) K Z) τ 19 [(0, .ref m)] [.int s0] := by
  unfold Jt_doesRun_19 at hf
  refine xr_istore (pc := 19) (loc' := [(4, .int s0), (0, .ref m)]) dX6_doesRun_19 (by decide) rfl ?_
  refine xr_aload_n (pc := 21) 1 dX6_doesRun_21 rfl rfl ?_
  obtain ⟨τ3, hτ3, hf⟩ := xo_bind hf
  refine call_f_t_triesAnew (pc := 22) hτ3 rfl (Nat.le_of_ble_eq_true rfl) (Nat.le_of_ble_eq_true rfl) (Nat.le_of_ble_eq_true rfl) dX6_doesRun_22 ?_
  refine xr_iload (pc := 25) 0 dX6_doesRun_25 rfl ?_
  rw [kr _ (Option.some.inj hf).symm]
  exact xr_zret (pc := 27) dX6_doesRun_27 rfl rfl
def f_t_doesRun (x1 : Int32) (x2 : Int32) (x3 : Int32) (τ : TS) : Option (Int32 × TS) :=
  (f_t_seasonsGo x3 τ).bind fun τ1 =>
  xbd (f_t_rowOf x1 τ1) fun r2 τ2 =>
  if r2 = x2 then
  Jt_doesRun_19 1 τ2
  else
  Jt_doesRun_19 0 τ2
theorem ok_f_t_doesRun {D : TD} {m : Nat} {K : xK} {Z : Option Value × TS} {x1 : Int32} {x2 : Int32} {x3 : Int32} {τ : TS} {o_ : (Int32 × TS)} (hf : f_t_doesRun x1 x2 x3 τ = some o_) (kr : ∀ r_ : (Int32 × TS), o_ = r_ → Z = (some (.int r_.1), r_.2)) : xV (wT D m) K mX6_doesRun (xQ (wT D m) K Z) τ 0 [(0, .ref m), (1, .int x1), (2, .int x2), (3, .int x3)] [] := by
  unfold f_t_doesRun at hf
  refine xr_aload_n (pc := 0) 0 dX6_doesRun_0 rfl rfl ?_
  refine xr_iload_n (pc := 1) 3 dX6_doesRun_1 rfl rfl ?_
  obtain ⟨τ1, hτ1, hf⟩ := xo_bind hf
  refine call_f_t_seasonsGo (pc := 2) hτ1 rfl (Nat.le_of_ble_eq_true rfl) (Nat.le_of_ble_eq_true rfl) (Nat.le_of_ble_eq_true rfl) dX6_doesRun_2 ?_
  refine xr_aload_n (pc := 5) 0 dX6_doesRun_5 rfl rfl ?_
  refine xr_iload_n (pc := 6) 1 dX6_doesRun_6 rfl rfl ?_
  obtain ⟨r2, τ2, hτ2, hf⟩ := xo_bd hf
  refine call_f_t_rowOf (pc := 7) hτ2 rfl (Nat.le_of_ble_eq_true rfl) (Nat.le_of_ble_eq_true rfl) (Nat.le_of_ble_eq_true rfl) dX6_doesRun_7 ?_
  refine xr_iload_n (pc := 10) 2 dX6_doesRun_10 rfl rfl ?_
  refine xr_icmp_ne (pc := 11) 18 dX6_doesRun_11 (by decide) (fun c_ => ?_) (fun c_ => ?_)
  · have hf := xo_pos c_ hf
    refine xr_iconst (pc := 14) dX6_doesRun_14 xci_1 ?_
    refine xr_goto (pc := 15) 19 dX6_doesRun_15 (by decide) ?_
    refine xV_sub [0] rfl ?_
    exact ok_Jt_doesRun_19 hf kr
  · have hf := xo_neg c_ hf
    refine xr_iconst (pc := 18) dX6_doesRun_18 xci_0 ?_
    refine xV_sub [0] rfl ?_
    exact ok_Jt_doesRun_19 hf kr
theorem met_f_t_doesRun (l : Launch) {D : TD} {m : Nat} {x1 : Int32} {x2 : Int32} {x3 : Int32} {τ : TS} {o_ : (Int32 × TS)} (hf : f_t_doesRun x1 x2 x3 τ = some o_) : xMet (wT D m) l yX6_doesRun (ws_ yX6_doesRun cX6_doesRun 5 (some .boolean)) 9 540 0 0 [.ref m, .int x1, .int x2, .int x3] τ (some (.int o_.1), o_.2) :=
  xMet_of (by decide) (Nat.le_of_ble_eq_true rfl) KT_moved (fun _ _ => trivial) (fun K _ _ _ => ok_f_t_doesRun hf (fun _ h => by rw [h]))
theorem hd_f_t_doesRun : yX6_doesRun.cls = RX6 ∧ yX6_doesRun.cls ≠ "java/lang/invoke/MethodHandle" ∧ yX6_doesRun.cls ≠ "java/lang/invoke/VarHandle" ∧ (parseMethodDescriptor yX6_doesRun.desc).map (fun d => d.parameters.length) = some 3 := by decide +kernel
theorem call_f_t_doesRun {D : TD} {m : Nat} {K : xK} {M : xM} {Q : State → Prop} {x1 : Int32} {x2 : Int32} {x3 : Int32} {τ : TS} {pc : Nat} {loc : List (Nat × Value)} {st : List Value} {r : Int32} {τ1 : TS} (hf : f_t_doesRun x1 x2 x3 τ = some (r, τ1)) (ho : M.2.2.1 = RX6) (hfr : 10 ≤ M.2.2.2.1) (hlo : 564 ≤ M.2.2.2.2.1) (hcat : (st.map fun v => v.category).sum ≤ 8) (d : decode M.1 pc = .ok (.invokevirtual 627, 3)) (k : xV (wT D m) K M Q τ1 (pc + 3) loc (.int r :: st)) : xV (wT D m) K M Q τ pc loc (.int x3 :: .int x2 :: .int x1 :: .ref m :: st) :=
  xr_callV (As := [.int x1, .int x2, .int x3]) (rest := st) (met_f_t_doesRun K.2.1 hf) (lw_V q2551 q2553 qs146 q186 q2554) hd_f_t_doesRun ho hfr hlo rfl (fun H hR hK => t_recv H hR hK) rfl hcat d k
abbrev mX6_canSet : xM := (cX6_canSet, 2, RX6, 1, 60, (some .boolean), "canSet")
def f_t_canSet (x1 : Int32) (τ : TS) : Option (Int32 × TS) :=
  xbd (f_t_willowsAt x1 τ) fun r1 τ1 =>
  if r1 = 9 then
  some ((0, τ1))
  else
  if xin (12 + x1) 303 = true then
  if xin (12 + x1) 303 = true then
  some ((1, sA τ1 62 (12 + x1).toNatClampNeg ((tA τ1 62 (12 + x1).toNatClampNeg) + 1)))
  else none
  else none
theorem ok_f_t_canSet {D : TD} {m : Nat} {K : xK} {Z : Option Value × TS} {x1 : Int32} {τ : TS} {o_ : (Int32 × TS)} (hf : f_t_canSet x1 τ = some o_) (kr : ∀ r_ : (Int32 × TS), o_ = r_ → Z = (some (.int r_.1), r_.2)) : xV (wT D m) K mX6_canSet (xQ (wT D m) K Z) τ 0 [(0, .ref m), (1, .int x1)] [] := by
  unfold f_t_canSet at hf
  refine xr_aload_n (pc := 0) 0 dX6_canSet_0 rfl rfl ?_
  refine xr_iload_n (pc := 1) 1 dX6_canSet_1 rfl rfl ?_
  obtain ⟨r1, τ1, hτ1, hf⟩ := xo_bd hf
  refine call_f_t_willowsAt (pc := 2) hτ1 rfl (Nat.le_of_ble_eq_true rfl) (Nat.le_of_ble_eq_true rfl) (Nat.le_of_ble_eq_true rfl) dX6_canSet_2 ?_
  refine xr_bipush (pc := 5) dX6_canSet_5 xcb_9 ?_
  refine xr_icmp_ne (pc := 7) 12 dX6_canSet_7 (by decide) (fun c_ => ?_) (fun c_ => ?_)
  · have hf := xo_pos c_ hf
    refine xr_iconst (pc := 10) dX6_canSet_10 xci_0 ?_
    rw [kr _ (Option.some.inj hf).symm]
    exact xr_zret (pc := 11) dX6_canSet_11 rfl xz_0
  · have hf := xo_neg c_ hf
    refine xr_aload_n (pc := 12) 0 dX6_canSet_12 rfl rfl ?_
    refine xt_getA (pc := 13) 62 (by decide) q1808 rfl rfl rfl dX6_canSet_13 ?_
    refine xr_bipush (pc := 16) dX6_canSet_16 xcb_12 ?_
    refine xr_iload_n (pc := 18) 1 dX6_canSet_18 rfl rfl ?_
    refine xr_iadd (pc := 19) dX6_canSet_19 ?_
    refine xr_dup2_11 (pc := 20) dX6_canSet_20 rfl rfl ?_
    obtain ⟨hi_, hf⟩ := xo_if hf
    refine xt_iald (pc := 21) 62 rfl rfl hi_ dX6_canSet_21 ?_
    refine xr_iconst (pc := 22) dX6_canSet_22 xci_1 ?_
    refine xr_iadd (pc := 23) dX6_canSet_23 ?_
    obtain ⟨hi_, hf⟩ := xo_if hf
    refine xt_iast (pc := 24) 62 rfl rfl hi_ dX6_canSet_24 ?_
    refine xr_iconst (pc := 25) dX6_canSet_25 xci_1 ?_
    rw [kr _ (Option.some.inj hf).symm]
    exact xr_zret (pc := 26) dX6_canSet_26 rfl xz_1
theorem met_f_t_canSet (l : Launch) {D : TD} {m : Nat} {x1 : Int32} {τ : TS} {o_ : (Int32 × TS)} (hf : f_t_canSet x1 τ = some o_) : xMet (wT D m) l yX6_canSet (ws_ yX6_canSet cX6_canSet 2 (some .boolean)) 1 60 0 0 [.ref m, .int x1] τ (some (.int o_.1), o_.2) :=
  xMet_of (by decide) (Nat.le_of_ble_eq_true rfl) KT_moved (fun _ _ => trivial) (fun K _ _ _ => ok_f_t_canSet hf (fun _ h => by rw [h]))
theorem hd_f_t_canSet : yX6_canSet.cls = RX6 ∧ yX6_canSet.cls ≠ "java/lang/invoke/MethodHandle" ∧ yX6_canSet.cls ≠ "java/lang/invoke/VarHandle" ∧ (parseMethodDescriptor yX6_canSet.desc).map (fun d => d.parameters.length) = some 1 := by decide +kernel
theorem call_f_t_canSet {D : TD} {m : Nat} {K : xK} {M : xM} {Q : State → Prop} {x1 : Int32} {τ : TS} {pc : Nat} {loc : List (Nat × Value)} {st : List Value} {r : Int32} {τ1 : TS} (hf : f_t_canSet x1 τ = some (r, τ1)) (ho : M.2.2.1 = RX6) (hfr : 2 ≤ M.2.2.2.1) (hlo : 81 ≤ M.2.2.2.2.1) (hcat : (st.map fun v => v.category).sum ≤ 8) (d : decode M.1 pc = .ok (.invokevirtual 621, 3)) (k : xV (wT D m) K M Q τ1 (pc + 3) loc (.int r :: st)) : xV (wT D m) K M Q τ pc loc (.int x1 :: .ref m :: st) :=
  xr_callV (As := [.int x1]) (rest := st) (met_f_t_canSet K.2.1 hf) (lw_V q2559 q2561 qs148 q186 q2562) hd_f_t_canSet ho hfr hlo rfl (fun H hR hK => t_recv H hR hK) rfl hcat d k
abbrev mX6_isWorkOne : xM := (cX6_isWorkOne, 5, RX6, 10, 600, (some .boolean), "isWorkOne")
def Jt_isWorkOne_57 (x1 : Int32) (x2 : Int32) (x3 : Int32) (x4 : Int32) (τ : TS) : Option ((Int32 × TS) ⊕ ((TS) ⊕ ((Int32 × TS)))) :=
  some (.inl (x4 + 1, τ))
theorem ok_Jt_isWorkOne_57 {D : TD} {m : Nat} {K : xK} {Z : Option Value × TS} {x1 : Int32} {x2 : Int32} {x3 : Int32} {x4 : Int32} {τ : TS} {o_ : ((Int32 × TS) ⊕ ((TS) ⊕ ((Int32 × TS))))} (hf : Jt_isWorkOne_57 x1 x2 x3 x4 τ = some o_) (kc : ∀ s_ : Int32 × TS, o_ = .inl s_ → xV (wT D m) K mX6_isWorkOne (xQ (wT D m) K Z) s_.2 3 [(0, .ref m), (1, .int x1), (2, .int x2), (3, .int x3), (4, .int s_.1)] []) (ke0 : ∀ e_ : TS, o_ = .inr (.inl e_) → xV (wT D m) K mX6_isWorkOne (xQ (wT D m) K Z) e_ 63 [] []) (kr : ∀ r_ : (Int32 × TS), o_ = .inr (.inr r_) → Z = (some (.int r_.1), r_.2)) : xV (wT D m) K mX6_isWorkOne (xQ (wT D m) K Z) τ 57 [(0, .ref m), (1, .int x1), (2, .int x2), (3, .int x3), (4, .int x4)] [] := by
  unfold Jt_isWorkOne_57 at hf
  refine xr_iinc (pc := 57) (loc' := [(4, .int (x4 + 1)), (0, .ref m), (1, .int x1), (2, .int x2), (3, .int x3)]) 4 dX6_isWorkOne_57 rfl xci_1 (by decide) rfl ?_
  refine xr_goto (pc := 60) 3 dX6_isWorkOne_60 (by decide) ?_
  refine xV_sub [1, 2, 3, 4, 0] rfl ?_
  exact kc _ (Option.some.inj hf).symm
def Bt_isWorkOne_3 (x1 : Int32) (x2 : Int32) (x3 : Int32) (x4 : Int32) (τ : TS) : Option ((Int32 × TS) ⊕ ((TS) ⊕ ((Int32 × TS)))) :=
  if 80 ≤ x4 then
  some (.inr (.inl τ))
  else
  xbd (f_t_isCell (x4 / 8) (x4 - x4 / 8 * 8) τ) fun r1 τ1 =>
  if r1 = 0 then
  Jt_isWorkOne_57 x1 x2 x3 x4 τ1
  else
  xbd (f_t_canSet x4 τ1) fun r2 τ2 =>
  if r2 = 0 then
  Jt_isWorkOne_57 x1 x2 x3 x4 τ2
  else
  xbd (f_t_doesRun x1 x2 x3 (sI τ2 73 x4)) fun r3 τ3 =>
  if r3 = 0 then
  Jt_isWorkOne_57 x1 x2 x3 x4 τ3
  else
  some (.inr (.inr (1, τ3)))
theorem ok_Bt_isWorkOne_3 {D : TD} {m : Nat} {K : xK} {Z : Option Value × TS} {x1 : Int32} {x2 : Int32} {x3 : Int32} {x4 : Int32} {τ : TS} {o_ : ((Int32 × TS) ⊕ ((TS) ⊕ ((Int32 × TS))))} (hf : Bt_isWorkOne_3 x1 x2 x3 x4 τ = some o_) (kc : ∀ s_ : Int32 × TS, o_ = .inl s_ → xV (wT D m) K mX6_isWorkOne (xQ (wT D m) K Z) s_.2 3 [(0, .ref m), (1, .int x1), (2, .int x2), (3, .int x3), (4, .int s_.1)] []) (ke0 : ∀ e_ : TS, o_ = .inr (.inl e_) → xV (wT D m) K mX6_isWorkOne (xQ (wT D m) K Z) e_ 63 [] []) (kr : ∀ r_ : (Int32 × TS), o_ = .inr (.inr r_) → Z = (some (.int r_.1), r_.2)) : xV (wT D m) K mX6_isWorkOne (xQ (wT D m) K Z) τ 3 [(0, .ref m), (1, .int x1), (2, .int x2), (3, .int x3), (4, .int x4)] [] := by
  unfold Bt_isWorkOne_3 at hf
  refine xr_iload (pc := 3) 4 dX6_isWorkOne_3 rfl ?_
  refine xr_bipush (pc := 5) dX6_isWorkOne_5 xcb_80 ?_
  refine xr_icmp_ge (pc := 7) 63 dX6_isWorkOne_7 (by decide) (fun c_ => ?_) (fun c_ => ?_)
  · have hf := xo_pos c_ hf
    refine xV_sub [] rfl ?_
    exact ke0 _ (Option.some.inj hf).symm
  · have hf := xo_neg c_ hf
    refine xr_aload_n (pc := 10) 0 dX6_isWorkOne_10 rfl rfl ?_
    refine xr_iload (pc := 11) 4 dX6_isWorkOne_11 rfl ?_
    refine xr_bipush (pc := 13) dX6_isWorkOne_13 xcb_8 ?_
    refine xr_idiv (pc := 15) dX6_isWorkOne_15 (by decide) ?_
    refine xr_iload (pc := 16) 4 dX6_isWorkOne_16 rfl ?_
    refine xr_bipush (pc := 18) dX6_isWorkOne_18 xcb_8 ?_
    refine xr_irem (pc := 20) dX6_isWorkOne_20 (by decide) ?_
    obtain ⟨r1, τ1, hτ1, hf⟩ := xo_bd hf
    refine call_f_t_isCell (pc := 21) hτ1 rfl (Nat.le_of_ble_eq_true rfl) (Nat.le_of_ble_eq_true rfl) (Nat.le_of_ble_eq_true rfl) dX6_isWorkOne_21 ?_
    refine xr_if_eq (pc := 24) 57 dX6_isWorkOne_24 (by decide) (fun c_ => ?_) (fun c_ => ?_)
    · have hf := xo_pos c_ hf
      exact ok_Jt_isWorkOne_57 hf kc ke0 kr
    · have hf := xo_neg c_ hf
      refine xr_aload_n (pc := 27) 0 dX6_isWorkOne_27 rfl rfl ?_
      refine xr_iload (pc := 28) 4 dX6_isWorkOne_28 rfl ?_
      obtain ⟨r2, τ2, hτ2, hf⟩ := xo_bd hf
      refine call_f_t_canSet (pc := 30) hτ2 rfl (Nat.le_of_ble_eq_true rfl) (Nat.le_of_ble_eq_true rfl) (Nat.le_of_ble_eq_true rfl) dX6_isWorkOne_30 ?_
      refine xr_if_ne (pc := 33) 39 dX6_isWorkOne_33 (by decide) (fun c_ => ?_) (fun c_ => ?_)
      · have hf := xo_pos c_ hf
        refine xr_goto (pc := 36) 57 dX6_isWorkOne_36 (by decide) ?_
        exact ok_Jt_isWorkOne_57 hf kc ke0 kr
      · have hf := xo_neg c_ hf
        refine xr_aload_n (pc := 39) 0 dX6_isWorkOne_39 rfl rfl ?_
        refine xr_iload (pc := 40) 4 dX6_isWorkOne_40 rfl ?_
        refine xt_putI (pc := 42) 73 (by decide) q1819 rfl rfl rfl (by decide +kernel) rfl dX6_isWorkOne_42 ?_
        refine xr_aload_n (pc := 45) 0 dX6_isWorkOne_45 rfl rfl ?_
        refine xr_iload_n (pc := 46) 1 dX6_isWorkOne_46 rfl rfl ?_
        refine xr_iload_n (pc := 47) 2 dX6_isWorkOne_47 rfl rfl ?_
        refine xr_iload_n (pc := 48) 3 dX6_isWorkOne_48 rfl rfl ?_
        obtain ⟨r3, τ3, hτ3, hf⟩ := xo_bd hf
        refine call_f_t_doesRun (pc := 49) hτ3 rfl (Nat.le_of_ble_eq_true rfl) (Nat.le_of_ble_eq_true rfl) (Nat.le_of_ble_eq_true rfl) dX6_isWorkOne_49 ?_
        refine xr_if_eq (pc := 52) 57 dX6_isWorkOne_52 (by decide) (fun c_ => ?_) (fun c_ => ?_)
        · have hf := xo_pos c_ hf
          exact ok_Jt_isWorkOne_57 hf kc ke0 kr
        · have hf := xo_neg c_ hf
          refine xr_iconst (pc := 55) dX6_isWorkOne_55 xci_1 ?_
          rw [kr _ (Option.some.inj hf).symm]
          exact xr_zret (pc := 56) dX6_isWorkOne_56 rfl xz_1
def f_t_isWorkOne (x1 : Int32) (x2 : Int32) (x3 : Int32) (τ : TS) : Option (Int32 × TS) :=
  (itr (fun s_ : Int32 × TS => Bt_isWorkOne_3 x1 x2 x3 s_.1 s_.2) 4096 (0, τ)).bind fun b4 =>
  (Sum.elim (fun e5 => some ((0, e5))) (fun r_ => some r_)) b4
theorem ok_f_t_isWorkOne {D : TD} {m : Nat} {K : xK} {Z : Option Value × TS} {x1 : Int32} {x2 : Int32} {x3 : Int32} {τ : TS} {o_ : (Int32 × TS)} (hf : f_t_isWorkOne x1 x2 x3 τ = some o_) (kr : ∀ r_ : (Int32 × TS), o_ = r_ → Z = (some (.int r_.1), r_.2)) : xV (wT D m) K mX6_isWorkOne (xQ (wT D m) K Z) τ 0 [(0, .ref m), (1, .int x1), (2, .int x2), (3, .int x3)] [] := by
  unfold f_t_isWorkOne at hf
  refine xr_iconst (pc := 0) dX6_isWorkOne_0 xci_0 ?_
  refine xr_istore (pc := 1) (loc' := [(4, .int 0), (0, .ref m), (1, .int x1), (2, .int x2), (3, .int x3)]) dX6_isWorkOne_1 (by decide) rfl ?_
  refine xV_sub [1, 2, 3, 4, 0] rfl ?_
  obtain ⟨b4, hb4, hf⟩ := xo_bind hf
  refine itr_rule (P := fun s_ : Int32 × TS => xV (wT D m) K mX6_isWorkOne (xQ (wT D m) K Z) s_.2 3 [(0, .ref m), (1, .int x1), (2, .int x2), (3, .int x3), (4, .int s_.1)] []) (fun s_ o_ hB_ hc_ he_ => ok_Bt_isWorkOne_3 hB_ hc_ (fun e5 h_ => ?_) (fun r_ h_ => ?_)) 4096 _ hb4
  · have e9_ := he_ _ h_
    subst e9_
    have hf := xo_inl hf
    refine xr_iconst (pc := 63) dX6_isWorkOne_63 xci_0 ?_
    rw [kr _ (Option.some.inj hf).symm]
    exact xr_zret (pc := 64) dX6_isWorkOne_64 rfl xz_0
  · have e9_ := he_ _ h_
    subst e9_
    have hf := xo_inr hf
    exact kr _ (Option.some.inj hf).symm
theorem met_f_t_isWorkOne (l : Launch) {D : TD} {m : Nat} {x1 : Int32} {x2 : Int32} {x3 : Int32} {τ : TS} {o_ : (Int32 × TS)} (hf : f_t_isWorkOne x1 x2 x3 τ = some o_) : xMet (wT D m) l yX6_isWorkOne (ws_ yX6_isWorkOne cX6_isWorkOne 5 (some .boolean)) 10 600 0 0 [.ref m, .int x1, .int x2, .int x3] τ (some (.int o_.1), o_.2) :=
  xMet_of (by decide) (Nat.le_of_ble_eq_true rfl) KT_moved (fun _ _ => trivial) (fun K _ _ _ => ok_f_t_isWorkOne hf (fun _ h => by rw [h]))
theorem hd_f_t_isWorkOne : yX6_isWorkOne.cls = RX6 ∧ yX6_isWorkOne.cls ≠ "java/lang/invoke/MethodHandle" ∧ yX6_isWorkOne.cls ≠ "java/lang/invoke/VarHandle" ∧ (parseMethodDescriptor yX6_isWorkOne.desc).map (fun d => d.parameters.length) = some 3 := by decide +kernel
theorem call_f_t_isWorkOne {D : TD} {m : Nat} {K : xK} {M : xM} {Q : State → Prop} {x1 : Int32} {x2 : Int32} {x3 : Int32} {τ : TS} {pc : Nat} {loc : List (Nat × Value)} {st : List Value} {r : Int32} {τ1 : TS} (hf : f_t_isWorkOne x1 x2 x3 τ = some (r, τ1)) (ho : M.2.2.1 = RX6) (hfr : 11 ≤ M.2.2.2.1) (hlo : 624 ≤ M.2.2.2.2.1) (hcat : (st.map fun v => v.category).sum ≤ 8) (d : decode M.1 pc = .ok (.invokevirtual 635, 3)) (k : xV (wT D m) K M Q τ1 (pc + 3) loc (.int r :: st)) : xV (wT D m) K M Q τ pc loc (.int x3 :: .int x2 :: .int x1 :: .ref m :: st) :=
  xr_callV (As := [.int x1, .int x2, .int x3]) (rest := st) (met_f_t_isWorkOne K.2.1 hf) (lw_V q2555 q2557 qs147 q186 q2558) hd_f_t_isWorkOne ho hfr hlo rfl (fun H hR hK => t_recv H hR hK) rfl hcat d k
abbrev mX6_isWorkTwo : xM := (cX6_isWorkTwo, 7, RX6, 10, 600, (some .boolean), "isWorkTwo")
def Jt_isWorkTwo_116 (x1 : Int32) (x2 : Int32) (x3 : Int32) (x4 : Int32) (x5 : Int32) (τ : TS) : Option ((Int32 × TS) ⊕ ((TS) ⊕ ((Int32 × TS)))) :=
  some (.inl (x5 + 1, τ))
theorem ok_Jt_isWorkTwo_116 {D : TD} {m : Nat} {K : xK} {Z : Option Value × TS} {x1 : Int32} {x2 : Int32} {x3 : Int32} {x4 : Int32} {x5 : Int32} {τ : TS} {o_ : ((Int32 × TS) ⊕ ((TS) ⊕ ((Int32 × TS))))} (hf : Jt_isWorkTwo_116 x1 x2 x3 x4 x5 τ = some o_) (kc : ∀ s_ : Int32 × TS, o_ = .inl s_ → xV (wT D m) K mX6_isWorkTwo (xQ (wT D m) K Z) s_.2 14 [(0, .ref m), (1, .int x1), (2, .int x2), (3, .int x3), (4, .int x4), (5, .int s_.1)] []) (ke0 : ∀ e_ : TS, o_ = .inr (.inl e_) → xV (wT D m) K mX6_isWorkTwo (xQ (wT D m) K Z) e_ 122 [(0, .ref m), (1, .int x1), (2, .int x2), (3, .int x3), (4, .int x4)] []) (kr : ∀ r_ : (Int32 × TS), o_ = .inr (.inr r_) → Z = (some (.int r_.1), r_.2)) : xV (wT D m) K mX6_isWorkTwo (xQ (wT D m) K Z) τ 116 [(0, .ref m), (1, .int x1), (2, .int x2), (3, .int x3), (4, .int x4), (5, .int x5)] [] := by
  unfold Jt_isWorkTwo_116 at hf
  refine xr_iinc (pc := 116) (loc' := [(5, .int (x5 + 1)), (0, .ref m), (1, .int x1), (2, .int x2), (3, .int x3), (4, .int x4)]) 5 dX6_isWorkTwo_116 rfl xci_1 (by decide) rfl ?_
  refine xr_goto (pc := 119) 14 dX6_isWorkTwo_119 (by decide) ?_
  refine xV_sub [1, 2, 3, 4, 5, 0] rfl ?_
  exact kc _ (Option.some.inj hf).symm
def Jt_isWorkTwo_112 (x1 : Int32) (x2 : Int32) (x3 : Int32) (x4 : Int32) (x5 : Int32) (τ : TS) : Option ((Int32 × TS) ⊕ ((TS) ⊕ ((Int32 × TS)))) :=
  (f_t_triesAnew τ).bind fun τ4 =>
  Jt_isWorkTwo_116 x1 x2 x3 x4 x5 τ4
theorem ok_Jt_isWorkTwo_112 {D : TD} {m : Nat} {K : xK} {Z : Option Value × TS} {x1 : Int32} {x2 : Int32} {x3 : Int32} {x4 : Int32} {x5 : Int32} {τ : TS} {o_ : ((Int32 × TS) ⊕ ((TS) ⊕ ((Int32 × TS))))} (hf : Jt_isWorkTwo_112 x1 x2 x3 x4 x5 τ = some o_) (kc : ∀ s_ : Int32 × TS, o_ = .inl s_ → xV (wT D m) K mX6_isWorkTwo (xQ (wT D m) K Z) s_.2 14 [(0, .ref m), (1, .int x1), (2, .int x2), (3, .int x3), (4, .int x4), (5, .int s_.1)] []) (ke0 : ∀ e_ : TS, o_ = .inr (.inl e_) → xV (wT D m) K mX6_isWorkTwo (xQ (wT D m) K Z) e_ 122 [(0, .ref m), (1, .int x1), (2, .int x2), (3, .int x3), (4, .int x4)] []) (kr : ∀ r_ : (Int32 × TS), o_ = .inr (.inr r_) → Z = (some (.int r_.1), r_.2)) : xV (wT D m) K mX6_isWorkTwo (xQ (wT D m) K Z) τ 112 [(0, .ref m), (1, .int x1), (2, .int x2), (3, .int x3), (4, .int x4), (5, .int x5)] [] := by
  unfold Jt_isWorkTwo_112 at hf
  refine xr_aload_n (pc := 112) 0 dX6_isWorkTwo_112 rfl rfl ?_
  obtain ⟨τ4, hτ4, hf⟩ := xo_bind hf
  refine call_f_t_triesAnew (pc := 113) hτ4 rfl (Nat.le_of_ble_eq_true rfl) (Nat.le_of_ble_eq_true rfl) (Nat.le_of_ble_eq_true rfl) dX6_isWorkTwo_113 ?_
  exact ok_Jt_isWorkTwo_116 hf kc ke0 kr
def Jt_isWorkTwo_81 (x1 : Int32) (x2 : Int32) (x3 : Int32) (x4 : Int32) (x5 : Int32) (s0 : Int32) (τ : TS) : Option ((Int32 × TS) ⊕ ((TS) ⊕ ((Int32 × TS)))) :=
  if s0 = 0 then
  Jt_isWorkTwo_112 x1 x2 x3 x4 x5 (sI (sI τ 73 x4) 74 x5)
  else
  xbd (f_t_doesRun x1 x2 x3 (sI (sI τ 73 x4) 74 x5)) fun r5 τ5 =>
  if r5 = 0 then
  Jt_isWorkTwo_112 x1 x2 x3 x4 x5 τ5
  else
  some (.inr (.inr (1, τ5)))
theorem ok_Jt_isWorkTwo_81 {D : TD} {m : Nat} {K : xK} {Z : Option Value × TS} {x1 : Int32} {x2 : Int32} {x3 : Int32} {x4 : Int32} {x5 : Int32} {s0 : Int32} {τ : TS} {o_ : ((Int32 × TS) ⊕ ((TS) ⊕ ((Int32 × TS))))} (hf : Jt_isWorkTwo_81 x1 x2 x3 x4 x5 s0 τ = some o_) (kc : ∀ s_ : Int32 × TS, o_ = .inl s_ → xV (wT D m) K mX6_isWorkTwo (xQ (wT D m) K Z) s_.2 14 [(0, .ref m), (1, .int x1), (2, .int x2), (3, .int x3), (4, .int x4), (5, .int s_.1)] []) (ke0 : ∀ e_ : TS, o_ = .inr (.inl e_) → xV (wT D m) K mX6_isWorkTwo (xQ (wT D m) K Z) e_ 122 [(0, .ref m), (1, .int x1), (2, .int x2), (3, .int x3), (4, .int x4)] []) (kr : ∀ r_ : (Int32 × TS), o_ = .inr (.inr r_) → Z = (some (.int r_.1), r_.2)) : xV (wT D m) K mX6_isWorkTwo (xQ (wT D m) K Z) τ 81 [(0, .ref m), (1, .int x1), (2, .int x2), (3, .int x3), (4, .int x4), (5, .int x5)] [.int s0] := by
  unfold Jt_isWorkTwo_81 at hf
  refine xr_istore (pc := 81) (loc' := [(6, .int s0), (0, .ref m), (1, .int x1), (2, .int x2), (3, .int x3), (4, .int x4), (5, .int x5)]) dX6_isWorkTwo_81 (by decide) rfl ?_
  refine xr_aload_n (pc := 83) 1 dX6_isWorkTwo_83 rfl rfl ?_
  refine xr_iload (pc := 84) 5 dX6_isWorkTwo_84 rfl ?_
  refine xt_putI (pc := 86) 73 (by decide) q1819 rfl rfl rfl (by decide +kernel) rfl dX6_isWorkTwo_86 ?_
  refine xr_aload_n (pc := 89) 1 dX6_isWorkTwo_89 rfl rfl ?_
  refine xr_iload (pc := 90) 6 dX6_isWorkTwo_90 rfl ?_
  refine xt_putI (pc := 92) 74 (by decide) q1820 rfl rfl rfl (by decide +kernel) rfl dX6_isWorkTwo_92 ?_
  refine xr_iload (pc := 95) 0 dX6_isWorkTwo_95 rfl ?_
  refine xr_if_eq (pc := 97) 112 dX6_isWorkTwo_97 (by decide) (fun c_ => ?_) (fun c_ => ?_)
  · have hf := xo_pos c_ hf
    refine xV_sub [1, 2, 3, 4, 5, 6] rfl ?_
    exact ok_Jt_isWorkTwo_112 hf kc ke0 kr
  · have hf := xo_neg c_ hf
    refine xr_aload_n (pc := 100) 1 dX6_isWorkTwo_100 rfl rfl ?_
    refine xr_iload_n (pc := 101) 2 dX6_isWorkTwo_101 rfl rfl ?_
    refine xr_iload_n (pc := 102) 3 dX6_isWorkTwo_102 rfl rfl ?_
    refine xr_iload_n (pc := 103) 4 dX6_isWorkTwo_103 rfl rfl ?_
    obtain ⟨r5, τ5, hτ5, hf⟩ := xo_bd hf
    refine call_f_t_doesRun (pc := 104) hτ5 rfl (Nat.le_of_ble_eq_true rfl) (Nat.le_of_ble_eq_true rfl) (Nat.le_of_ble_eq_true rfl) dX6_isWorkTwo_104 ?_
    refine xr_if_eq (pc := 107) 112 dX6_isWorkTwo_107 (by decide) (fun c_ => ?_) (fun c_ => ?_)
    · have hf := xo_pos c_ hf
      refine xV_sub [1, 2, 3, 4, 5, 6] rfl ?_
      exact ok_Jt_isWorkTwo_112 hf kc ke0 kr
    · have hf := xo_neg c_ hf
      refine xr_iconst (pc := 110) dX6_isWorkTwo_110 xci_1 ?_
      rw [kr _ (Option.some.inj hf).symm]
      exact xr_zret (pc := 111) dX6_isWorkTwo_111 rfl xz_1
def Jt_isWorkTwo_80 (x1 : Int32) (x2 : Int32) (x3 : Int32) (x4 : Int32) (x5 : Int32) (τ : TS) : Option ((Int32 × TS) ⊕ ((TS) ⊕ ((Int32 × TS)))) :=
  Jt_isWorkTwo_81 x1 x2 x3 x4 x5 0 τ
theorem ok_Jt_isWorkTwo_80 {D : TD} {m : Nat} {K : xK} {Z : Option Value × TS} {x1 : Int32} {x2 : Int32} {x3 : Int32} {x4 : Int32} {x5 : Int32} {τ : TS} {o_ : ((Int32 × TS) ⊕ ((TS) ⊕ ((Int32 × TS))))} (hf : Jt_isWorkTwo_80 x1 x2 x3 x4 x5 τ = some o_) (kc : ∀ s_ : Int32 × TS, o_ = .inl s_ → xV (wT D m) K mX6_isWorkTwo (xQ (wT D m) K Z) s_.2 14 [(0, .ref m), (1, .int x1), (2, .int x2), (3, .int x3), (4, .int x4), (5, .int s_.1)] []) (ke0 : ∀ e_ : TS, o_ = .inr (.inl e_) → xV (wT D m) K mX6_isWorkTwo (xQ (wT D m) K Z) e_ 122 [(0, .ref m), (1, .int x1), (2, .int x2), (3, .int x3), (4, .int x4)] []) (kr : ∀ r_ : (Int32 × TS), o_ = .inr (.inr r_) → Z = (some (.int r_.1), r_.2)) : xV (wT D m) K mX6_isWorkTwo (xQ (wT D m) K Z) τ 80 [(0, .ref m), (1, .int x1), (2, .int x2), (3, .int x3), (4, .int x4), (5, .int x5)] [] := by
  unfold Jt_isWorkTwo_80 at hf
  refine xr_iconst (pc := 80) dX6_isWorkTwo_80 xci_0 ?_
  exact ok_Jt_isWorkTwo_81 hf kc ke0 kr
def Bt_isWorkTwo_14 (x1 : Int32) (x2 : Int32) (x3 : Int32) (x4 : Int32) (x5 : Int32) (τ : TS) : Option ((Int32 × TS) ⊕ ((TS) ⊕ ((Int32 × TS)))) :=
  if 80 ≤ x5 then
  some (.inr (.inl τ))
  else
  xbd (f_t_isCell (x4 / 8) (x4 - x4 / 8 * 8) τ) fun r1 τ1 =>
  if r1 = 0 then
  Jt_isWorkTwo_116 x1 x2 x3 x4 x5 τ1
  else
  xbd (f_t_isCell (x5 / 8) (x5 - x5 / 8 * 8) τ1) fun r2 τ2 =>
  if r2 = 0 then
  Jt_isWorkTwo_116 x1 x2 x3 x4 x5 τ2
  else
  xbd (f_t_canSet x4 τ2) fun r3 τ3 =>
  if r3 = 0 then
  Jt_isWorkTwo_80 x1 x2 x3 x4 x5 τ3
  else
  xbd (f_t_canSet x5 τ3) fun r6 τ6 =>
  if r6 = 0 then
  Jt_isWorkTwo_80 x1 x2 x3 x4 x5 τ6
  else
  Jt_isWorkTwo_81 x1 x2 x3 x4 x5 1 τ6
theorem ok_Bt_isWorkTwo_14 {D : TD} {m : Nat} {K : xK} {Z : Option Value × TS} {x1 : Int32} {x2 : Int32} {x3 : Int32} {x4 : Int32} {x5 : Int32} {τ : TS} {o_ : ((Int32 × TS) ⊕ ((TS) ⊕ ((Int32 × TS))))} (hf : Bt_isWorkTwo_14 x1 x2 x3 x4 x5 τ = some o_) (kc : ∀ s_ : Int32 × TS, o_ = .inl s_ → xV (wT D m) K mX6_isWorkTwo (xQ (wT D m) K Z) s_.2 14 [(0, .ref m), (1, .int x1), (2, .int x2), (3, .int x3), (4, .int x4), (5, .int s_.1)] []) (ke0 : ∀ e_ : TS, o_ = .inr (.inl e_) → xV (wT D m) K mX6_isWorkTwo (xQ (wT D m) K Z) e_ 122 [(0, .ref m), (1, .int x1), (2, .int x2), (3, .int x3), (4, .int x4)] []) (kr : ∀ r_ : (Int32 × TS), o_ = .inr (.inr r_) → Z = (some (.int r_.1), r_.2)) : xV (wT D m) K mX6_isWorkTwo (xQ (wT D m) K Z) τ 14 [(0, .ref m), (1, .int x1), (2, .int x2), (3, .int x3), (4, .int x4), (5, .int x5)] [] := by
  unfold Bt_isWorkTwo_14 at hf
  refine xr_iload (pc := 14) 5 dX6_isWorkTwo_14 rfl ?_
  refine xr_bipush (pc := 16) dX6_isWorkTwo_16 xcb_80 ?_
  refine xr_icmp_ge (pc := 18) 122 dX6_isWorkTwo_18 (by decide) (fun c_ => ?_) (fun c_ => ?_)
  · have hf := xo_pos c_ hf
    refine xV_sub [0, 1, 2, 3, 4] rfl ?_
    exact ke0 _ (Option.some.inj hf).symm
  · have hf := xo_neg c_ hf
    refine xr_aload_n (pc := 21) 0 dX6_isWorkTwo_21 rfl rfl ?_
    refine xr_iload (pc := 22) 4 dX6_isWorkTwo_22 rfl ?_
    refine xr_bipush (pc := 24) dX6_isWorkTwo_24 xcb_8 ?_
    refine xr_idiv (pc := 26) dX6_isWorkTwo_26 (by decide) ?_
    refine xr_iload (pc := 27) 4 dX6_isWorkTwo_27 rfl ?_
    refine xr_bipush (pc := 29) dX6_isWorkTwo_29 xcb_8 ?_
    refine xr_irem (pc := 31) dX6_isWorkTwo_31 (by decide) ?_
    obtain ⟨r1, τ1, hτ1, hf⟩ := xo_bd hf
    refine call_f_t_isCell (pc := 32) hτ1 rfl (Nat.le_of_ble_eq_true rfl) (Nat.le_of_ble_eq_true rfl) (Nat.le_of_ble_eq_true rfl) dX6_isWorkTwo_32 ?_
    refine xr_if_eq (pc := 35) 116 dX6_isWorkTwo_35 (by decide) (fun c_ => ?_) (fun c_ => ?_)
    · have hf := xo_pos c_ hf
      exact ok_Jt_isWorkTwo_116 hf kc ke0 kr
    · have hf := xo_neg c_ hf
      refine xr_aload_n (pc := 38) 0 dX6_isWorkTwo_38 rfl rfl ?_
      refine xr_iload (pc := 39) 5 dX6_isWorkTwo_39 rfl ?_
      refine xr_bipush (pc := 41) dX6_isWorkTwo_41 xcb_8 ?_
      refine xr_idiv (pc := 43) dX6_isWorkTwo_43 (by decide) ?_
      refine xr_iload (pc := 44) 5 dX6_isWorkTwo_44 rfl ?_
      refine xr_bipush (pc := 46) dX6_isWorkTwo_46 xcb_8 ?_
      refine xr_irem (pc := 48) dX6_isWorkTwo_48 (by decide) ?_
      obtain ⟨r2, τ2, hτ2, hf⟩ := xo_bd hf
      refine call_f_t_isCell (pc := 49) hτ2 rfl (Nat.le_of_ble_eq_true rfl) (Nat.le_of_ble_eq_true rfl) (Nat.le_of_ble_eq_true rfl) dX6_isWorkTwo_49 ?_
      refine xr_if_ne (pc := 52) 58 dX6_isWorkTwo_52 (by decide) (fun c_ => ?_) (fun c_ => ?_)
      · have hf := xo_pos c_ hf
        refine xr_goto (pc := 55) 116 dX6_isWorkTwo_55 (by decide) ?_
        exact ok_Jt_isWorkTwo_116 hf kc ke0 kr
      · have hf := xo_neg c_ hf
        refine xr_aload_n (pc := 58) 0 dX6_isWorkTwo_58 rfl rfl ?_
        refine xr_iload (pc := 59) 4 dX6_isWorkTwo_59 rfl ?_
        obtain ⟨r3, τ3, hτ3, hf⟩ := xo_bd hf
        refine call_f_t_canSet (pc := 61) hτ3 rfl (Nat.le_of_ble_eq_true rfl) (Nat.le_of_ble_eq_true rfl) (Nat.le_of_ble_eq_true rfl) dX6_isWorkTwo_61 ?_
        refine xr_if_eq (pc := 64) 80 dX6_isWorkTwo_64 (by decide) (fun c_ => ?_) (fun c_ => ?_)
        · have hf := xo_pos c_ hf
          exact ok_Jt_isWorkTwo_80 hf kc ke0 kr
        · have hf := xo_neg c_ hf
          refine xr_aload_n (pc := 67) 0 dX6_isWorkTwo_67 rfl rfl ?_
          refine xr_iload (pc := 68) 5 dX6_isWorkTwo_68 rfl ?_
          obtain ⟨r6, τ6, hτ6, hf⟩ := xo_bd hf
          refine call_f_t_canSet (pc := 70) hτ6 rfl (Nat.le_of_ble_eq_true rfl) (Nat.le_of_ble_eq_true rfl) (Nat.le_of_ble_eq_true rfl) dX6_isWorkTwo_70 ?_
          refine xr_if_eq (pc := 73) 80 dX6_isWorkTwo_73 (by decide) (fun c_ => ?_) (fun c_ => ?_)
          · have hf := xo_pos c_ hf
            exact ok_Jt_isWorkTwo_80 hf kc ke0 kr
          · have hf := xo_neg c_ hf
            refine xr_iconst (pc := 76) dX6_isWorkTwo_76 xci_1 ?_
            refine xr_goto (pc := 77) 81 dX6_isWorkTwo_77 (by decide) ?_
            exact ok_Jt_isWorkTwo_81 hf kc ke0 kr
def Bt_isWorkTwo_3 (x1 : Int32) (x2 : Int32) (x3 : Int32) (x4 : Int32) (τ : TS) : Option ((Int32 × TS) ⊕ ((TS) ⊕ ((Int32 × TS)))) :=
  if 80 ≤ x4 then
  some (.inr (.inl τ))
  else
  (itr (fun s_ : Int32 × TS => Bt_isWorkTwo_14 x1 x2 x3 x4 s_.1 s_.2) 4096 (x4, τ)).bind fun b7 =>
  (Sum.elim (fun e8 => some (.inl (x4 + 1, e8))) (fun r_ => some (.inr (.inr r_)))) b7
theorem ok_Bt_isWorkTwo_3 {D : TD} {m : Nat} {K : xK} {Z : Option Value × TS} {x1 : Int32} {x2 : Int32} {x3 : Int32} {x4 : Int32} {τ : TS} {o_ : ((Int32 × TS) ⊕ ((TS) ⊕ ((Int32 × TS))))} (hf : Bt_isWorkTwo_3 x1 x2 x3 x4 τ = some o_) (kc : ∀ s_ : Int32 × TS, o_ = .inl s_ → xV (wT D m) K mX6_isWorkTwo (xQ (wT D m) K Z) s_.2 3 [(0, .ref m), (1, .int x1), (2, .int x2), (3, .int x3), (4, .int s_.1)] []) (ke0 : ∀ e_ : TS, o_ = .inr (.inl e_) → xV (wT D m) K mX6_isWorkTwo (xQ (wT D m) K Z) e_ 128 [] []) (kr : ∀ r_ : (Int32 × TS), o_ = .inr (.inr r_) → Z = (some (.int r_.1), r_.2)) : xV (wT D m) K mX6_isWorkTwo (xQ (wT D m) K Z) τ 3 [(0, .ref m), (1, .int x1), (2, .int x2), (3, .int x3), (4, .int x4)] [] := by
  unfold Bt_isWorkTwo_3 at hf
  refine xr_iload (pc := 3) 4 dX6_isWorkTwo_3 rfl ?_
  refine xr_bipush (pc := 5) dX6_isWorkTwo_5 xcb_80 ?_
  refine xr_icmp_ge (pc := 7) 128 dX6_isWorkTwo_7 (by decide) (fun c_ => ?_) (fun c_ => ?_)
  · have hf := xo_pos c_ hf
    refine xV_sub [] rfl ?_
    exact ke0 _ (Option.some.inj hf).symm
  · have hf := xo_neg c_ hf
    refine xr_iload (pc := 10) 4 dX6_isWorkTwo_10 rfl ?_
    refine xr_istore (pc := 12) (loc' := [(5, .int x4), (0, .ref m), (1, .int x1), (2, .int x2), (3, .int x3), (4, .int x4)]) dX6_isWorkTwo_12 (by decide) rfl ?_
    refine xV_sub [1, 2, 3, 4, 5, 0] rfl ?_
    obtain ⟨b7, hb7, hf⟩ := xo_bind hf
    refine itr_rule (P := fun s_ : Int32 × TS => xV (wT D m) K mX6_isWorkTwo (xQ (wT D m) K Z) s_.2 14 [(0, .ref m), (1, .int x1), (2, .int x2), (3, .int x3), (4, .int x4), (5, .int s_.1)] []) (fun s_ o_ hB_ hc_ he_ => ok_Bt_isWorkTwo_14 hB_ hc_ (fun e8 h_ => ?_) (fun r_ h_ => ?_)) 4096 _ hb7
    · have e9_ := he_ _ h_
      subst e9_
      have hf := xo_inl hf
      refine xr_iinc (pc := 122) (loc' := [(4, .int (x4 + 1)), (0, .ref m), (1, .int x1), (2, .int x2), (3, .int x3)]) 4 dX6_isWorkTwo_122 rfl xci_1 (by decide) rfl ?_
      refine xr_goto (pc := 125) 3 dX6_isWorkTwo_125 (by decide) ?_
      refine xV_sub [1, 2, 3, 4, 0] rfl ?_
      exact kc _ (Option.some.inj hf).symm
    · have e9_ := he_ _ h_
      subst e9_
      have hf := xo_inr hf
      exact kr _ (Option.some.inj hf).symm
def f_t_isWorkTwo (x1 : Int32) (x2 : Int32) (x3 : Int32) (τ : TS) : Option (Int32 × TS) :=
  (itr (fun s_ : Int32 × TS => Bt_isWorkTwo_3 x1 x2 x3 s_.1 s_.2) 4096 (0, τ)).bind fun b9 =>
  (Sum.elim (fun e10 => some ((0, e10))) (fun r_ => some r_)) b9
theorem ok_f_t_isWorkTwo {D : TD} {m : Nat} {K : xK} {Z : Option Value × TS} {x1 : Int32} {x2 : Int32} {x3 : Int32} {τ : TS} {o_ : (Int32 × TS)} (hf : f_t_isWorkTwo x1 x2 x3 τ = some o_) (kr : ∀ r_ : (Int32 × TS), o_ = r_ → Z = (some (.int r_.1), r_.2)) : xV (wT D m) K mX6_isWorkTwo (xQ (wT D m) K Z) τ 0 [(0, .ref m), (1, .int x1), (2, .int x2), (3, .int x3)] [] := by
  unfold f_t_isWorkTwo at hf
  refine xr_iconst (pc := 0) dX6_isWorkTwo_0 xci_0 ?_
  refine xr_istore (pc := 1) (loc' := [(4, .int 0), (0, .ref m), (1, .int x1), (2, .int x2), (3, .int x3)]) dX6_isWorkTwo_1 (by decide) rfl ?_
  refine xV_sub [1, 2, 3, 4, 0] rfl ?_
  obtain ⟨b9, hb9, hf⟩ := xo_bind hf
  refine itr_rule (P := fun s_ : Int32 × TS => xV (wT D m) K mX6_isWorkTwo (xQ (wT D m) K Z) s_.2 3 [(0, .ref m), (1, .int x1), (2, .int x2), (3, .int x3), (4, .int s_.1)] []) (fun s_ o_ hB_ hc_ he_ => ok_Bt_isWorkTwo_3 hB_ hc_ (fun e10 h_ => ?_) (fun r_ h_ => ?_)) 4096 _ hb9
  · have e9_ := he_ _ h_
    subst e9_
    have hf := xo_inl hf
    refine xr_iconst (pc := 128) dX6_isWorkTwo_128 xci_0 ?_
    rw [kr _ (Option.some.inj hf).symm]
    exact xr_zret (pc := 129) dX6_isWorkTwo_129 rfl xz_0
  · have e9_ := he_ _ h_
    subst e9_
    have hf := xo_inr hf
    exact kr _ (Option.some.inj hf).symm
theorem met_f_t_isWorkTwo (l : Launch) {D : TD} {m : Nat} {x1 : Int32} {x2 : Int32} {x3 : Int32} {τ : TS} {o_ : (Int32 × TS)} (hf : f_t_isWorkTwo x1 x2 x3 τ = some o_) : xMet (wT D m) l yX6_isWorkTwo (ws_ yX6_isWorkTwo cX6_isWorkTwo 7 (some .boolean)) 10 600 0 0 [.ref m, .int x1, .int x2, .int x3] τ (some (.int o_.1), o_.2) :=
  xMet_of (by decide) (Nat.le_of_ble_eq_true rfl) KT_moved (fun _ _ => trivial) (fun K _ _ _ => ok_f_t_isWorkTwo hf (fun _ h => by rw [h]))
theorem hd_f_t_isWorkTwo : yX6_isWorkTwo.cls = RX6 ∧ yX6_isWorkTwo.cls ≠ "java/lang/invoke/MethodHandle" ∧ yX6_isWorkTwo.cls ≠ "java/lang/invoke/VarHandle" ∧ (parseMethodDescriptor yX6_isWorkTwo.desc).map (fun d => d.parameters.length) = some 3 := by decide +kernel
theorem call_f_t_isWorkTwo {D : TD} {m : Nat} {K : xK} {M : xM} {Q : State → Prop} {x1 : Int32} {x2 : Int32} {x3 : Int32} {τ : TS} {pc : Nat} {loc : List (Nat × Value)} {st : List Value} {r : Int32} {τ1 : TS} (hf : f_t_isWorkTwo x1 x2 x3 τ = some (r, τ1)) (ho : M.2.2.1 = RX6) (hfr : 11 ≤ M.2.2.2.1) (hlo : 626 ≤ M.2.2.2.2.1) (hcat : (st.map fun v => v.category).sum ≤ 8) (d : decode M.1 pc = .ok (.invokevirtual 638, 3)) (k : xV (wT D m) K M Q τ1 (pc + 3) loc (.int r :: st)) : xV (wT D m) K M Q τ pc loc (.int x3 :: .int x2 :: .int x1 :: .ref m :: st) :=
  xr_callV (As := [.int x1, .int x2, .int x3]) (rest := st) (met_f_t_isWorkTwo K.2.1 hf) (lw_V q2563 q2565 qs149 q186 q2566) hd_f_t_isWorkTwo ho hfr hlo rfl (fun H hR hK => t_recv H hR hK) rfl hcat d k
abbrev mX6_works : xM := (cX6_works, 6, RX6, 11, 660, (some .int), "works")
def Jt_works_82 (x4 : Int32) (s0 : Int32) (τ : TS) : Option (Int32 × TS) :=
  (f_t_takesBack τ).bind fun τ8 =>
  if x4 = (-1) then
  some ((s0, τ8))
  else
  if s0 = (-1) then
  some ((s0, τ8))
  else
  if x4 < s0 then
  if x4 = 0 then
  some ((tI τ8 73, τ8))
  else
  some ((tI τ8 74, τ8))
  else
  some (((-1), τ8))
theorem ok_Jt_works_82 {D : TD} {m : Nat} {K : xK} {Z : Option Value × TS} {x4 : Int32} {s0 : Int32} {τ : TS} {o_ : (Int32 × TS)} (hf : Jt_works_82 x4 s0 τ = some o_) (kr : ∀ r_ : (Int32 × TS), o_ = r_ → Z = (some (.int r_.1), r_.2)) : xV (wT D m) K mX6_works (xQ (wT D m) K Z) τ 82 [(0, .ref m), (4, .int x4)] [.int s0] := by
  unfold Jt_works_82 at hf
  refine xr_istore (pc := 82) (loc' := [(5, .int s0), (0, .ref m), (4, .int x4)]) dX6_works_82 (by decide) rfl ?_
  refine xr_aload_n (pc := 84) 1 dX6_works_84 rfl rfl ?_
  obtain ⟨τ8, hτ8, hf⟩ := xo_bind hf
  refine call_f_t_takesBack (pc := 85) hτ8 rfl (Nat.le_of_ble_eq_true rfl) (Nat.le_of_ble_eq_true rfl) (Nat.le_of_ble_eq_true rfl) dX6_works_85 ?_
  refine xr_iload (pc := 88) 2 dX6_works_88 rfl ?_
  refine xr_iconst (pc := 90) dX6_works_90 xci_m1 ?_
  refine xr_icmp_eq (pc := 91) 100 dX6_works_91 (by decide) (fun c_ => ?_) (fun c_ => ?_)
  · have hf := xo_pos c_ hf
    refine xr_iload (pc := 100) 0 dX6_works_100 rfl ?_
    rw [kr _ (Option.some.inj hf).symm]
    exact xr_iret (pc := 102) dX6_works_102 rfl
  · have hf := xo_neg c_ hf
    refine xr_iload (pc := 94) 0 dX6_works_94 rfl ?_
    refine xr_iconst (pc := 96) dX6_works_96 xci_m1 ?_
    refine xr_icmp_ne (pc := 97) 103 dX6_works_97 (by decide) (fun c_ => ?_) (fun c_ => ?_)
    · have hf := xo_pos c_ hf
      refine xr_iload (pc := 100) 0 dX6_works_100 rfl ?_
      rw [kr _ (Option.some.inj hf).symm]
      exact xr_iret (pc := 102) dX6_works_102 rfl
    · have hf := xo_neg c_ hf
      refine xr_iload (pc := 103) 2 dX6_works_103 rfl ?_
      refine xr_iload (pc := 105) 0 dX6_works_105 rfl ?_
      refine xr_icmp_lt (pc := 107) 114 dX6_works_107 (by decide) (fun c_ => ?_) (fun c_ => ?_)
      · have hf := xo_pos c_ hf
        refine xr_iload (pc := 114) 2 dX6_works_114 rfl ?_
        refine xr_if_ne (pc := 116) 126 dX6_works_116 (by decide) (fun c_ => ?_) (fun c_ => ?_)
        · have hf := xo_pos c_ hf
          refine xr_aload_n (pc := 119) 1 dX6_works_119 rfl rfl ?_
          refine xt_getI (pc := 120) 73 (by decide) q1819 rfl rfl rfl dX6_works_120 ?_
          refine xr_goto (pc := 123) 130 dX6_works_123 (by decide) ?_
          rw [kr _ (Option.some.inj hf).symm]
          exact xr_iret (pc := 130) dX6_works_130 rfl
        · have hf := xo_neg c_ hf
          refine xr_aload_n (pc := 126) 1 dX6_works_126 rfl rfl ?_
          refine xt_getI (pc := 127) 74 (by decide) q1820 rfl rfl rfl dX6_works_127 ?_
          rw [kr _ (Option.some.inj hf).symm]
          exact xr_iret (pc := 130) dX6_works_130 rfl
      · have hf := xo_neg c_ hf
        refine xr_iconst (pc := 110) dX6_works_110 xci_m1 ?_
        refine xr_goto (pc := 111) 130 dX6_works_111 (by decide) ?_
        rw [kr _ (Option.some.inj hf).symm]
        exact xr_iret (pc := 130) dX6_works_130 rfl
def f_t_works (x1 : Int32) (x2 : Int32) (x3 : Int32) (x4 : Int32) (τ : TS) : Option (Int32 × TS) :=
  xbd (f_t_isCell x1 x2 τ) fun r1 τ1 =>
  if r1 = 0 then
  some (((-1), τ1))
  else
  xbd (f_t_isAhead x3 1 20 τ1) fun r2 τ2 =>
  if r2 = 0 then
  some (((-1), τ2))
  else
  xbd (f_t_isIn x4.toInt64 (-1) 1 τ2) fun r3 τ3 =>
  if r3 = 0 then
  some (((-1), τ3))
  else
  (f_t_putsAside τ3).bind fun τ4 =>
  xbd (f_t_doesRun x1 x2 x3 τ4) fun r5 τ5 =>
  if r5 = 0 then
  xbd (f_t_isWorkOne x1 x2 x3 τ5) fun r6 τ6 =>
  if r6 = 0 then
  xbd (f_t_isWorkTwo x1 x2 x3 τ6) fun r7 τ7 =>
  if r7 = 0 then
  Jt_works_82 x4 (-1) τ7
  else
  Jt_works_82 x4 2 τ7
  else
  Jt_works_82 x4 1 τ6
  else
  Jt_works_82 x4 0 τ5
theorem ok_f_t_works {D : TD} {m : Nat} {K : xK} {Z : Option Value × TS} {x1 : Int32} {x2 : Int32} {x3 : Int32} {x4 : Int32} {τ : TS} {o_ : (Int32 × TS)} (hf : f_t_works x1 x2 x3 x4 τ = some o_) (kr : ∀ r_ : (Int32 × TS), o_ = r_ → Z = (some (.int r_.1), r_.2)) : xV (wT D m) K mX6_works (xQ (wT D m) K Z) τ 0 [(0, .ref m), (1, .int x1), (2, .int x2), (3, .int x3), (4, .int x4)] [] := by
  unfold f_t_works at hf
  refine xr_aload_n (pc := 0) 0 dX6_works_0 rfl rfl ?_
  refine xr_iload_n (pc := 1) 1 dX6_works_1 rfl rfl ?_
  refine xr_iload_n (pc := 2) 2 dX6_works_2 rfl rfl ?_
  obtain ⟨r1, τ1, hτ1, hf⟩ := xo_bd hf
  refine call_f_t_isCell (pc := 3) hτ1 rfl (Nat.le_of_ble_eq_true rfl) (Nat.le_of_ble_eq_true rfl) (Nat.le_of_ble_eq_true rfl) dX6_works_3 ?_
  refine xr_if_eq (pc := 6) 33 dX6_works_6 (by decide) (fun c_ => ?_) (fun c_ => ?_)
  · have hf := xo_pos c_ hf
    refine xr_iconst (pc := 33) dX6_works_33 xci_m1 ?_
    rw [kr _ (Option.some.inj hf).symm]
    exact xr_iret (pc := 34) dX6_works_34 rfl
  · have hf := xo_neg c_ hf
    refine xr_aload_n (pc := 9) 0 dX6_works_9 rfl rfl ?_
    refine xr_iload_n (pc := 10) 3 dX6_works_10 rfl rfl ?_
    refine xr_iconst (pc := 11) dX6_works_11 xci_1 ?_
    refine xr_bipush (pc := 12) dX6_works_12 xcb_20 ?_
    obtain ⟨r2, τ2, hτ2, hf⟩ := xo_bd hf
    refine call_f_t_isAhead (pc := 14) hτ2 rfl (Nat.le_of_ble_eq_true rfl) (Nat.le_of_ble_eq_true rfl) (Nat.le_of_ble_eq_true rfl) dX6_works_14 ?_
    refine xr_if_eq (pc := 17) 33 dX6_works_17 (by decide) (fun c_ => ?_) (fun c_ => ?_)
    · have hf := xo_pos c_ hf
      refine xr_iconst (pc := 33) dX6_works_33 xci_m1 ?_
      rw [kr _ (Option.some.inj hf).symm]
      exact xr_iret (pc := 34) dX6_works_34 rfl
    · have hf := xo_neg c_ hf
      refine xr_iload (pc := 20) 4 dX6_works_20 rfl ?_
      refine xr_i2l (pc := 22) dX6_works_22 ?_
      refine xr_ldc2 (pc := 23) q2550 dX6_works_23 ?_
      refine xr_lconst (pc := 26) dX6_works_26 (by decide : _ = (1 : Int64)) ?_
      obtain ⟨r3, τ3, hτ3, hf⟩ := xo_bd hf
      refine call_f_t_isIn (pc := 27) hτ3 rfl (Nat.le_of_ble_eq_true rfl) (Nat.le_of_ble_eq_true rfl) (Nat.le_of_ble_eq_true rfl) dX6_works_27 ?_
      refine xr_if_ne (pc := 30) 35 dX6_works_30 (by decide) (fun c_ => ?_) (fun c_ => ?_)
      · have hf := xo_pos c_ hf
        refine xr_iconst (pc := 33) dX6_works_33 xci_m1 ?_
        rw [kr _ (Option.some.inj hf).symm]
        exact xr_iret (pc := 34) dX6_works_34 rfl
      · have hf := xo_neg c_ hf
        refine xr_aload_n (pc := 35) 0 dX6_works_35 rfl rfl ?_
        obtain ⟨τ4, hτ4, hf⟩ := xo_bind hf
        refine call_f_t_putsAside (pc := 36) hτ4 rfl (Nat.le_of_ble_eq_true rfl) (Nat.le_of_ble_eq_true rfl) (Nat.le_of_ble_eq_true rfl) dX6_works_36 ?_
        refine xr_aload_n (pc := 39) 0 dX6_works_39 rfl rfl ?_
        refine xr_iload_n (pc := 40) 1 dX6_works_40 rfl rfl ?_
        refine xr_iload_n (pc := 41) 2 dX6_works_41 rfl rfl ?_
        refine xr_iload_n (pc := 42) 3 dX6_works_42 rfl rfl ?_
        obtain ⟨r5, τ5, hτ5, hf⟩ := xo_bd hf
        refine call_f_t_doesRun (pc := 43) hτ5 rfl (Nat.le_of_ble_eq_true rfl) (Nat.le_of_ble_eq_true rfl) (Nat.le_of_ble_eq_true rfl) dX6_works_43 ?_
        refine xr_if_eq (pc := 46) 53 dX6_works_46 (by decide) (fun c_ => ?_) (fun c_ => ?_)
        · have hf := xo_pos c_ hf
          refine xr_aload_n (pc := 53) 0 dX6_works_53 rfl rfl ?_
          refine xr_iload_n (pc := 54) 1 dX6_works_54 rfl rfl ?_
          refine xr_iload_n (pc := 55) 2 dX6_works_55 rfl rfl ?_
          refine xr_iload_n (pc := 56) 3 dX6_works_56 rfl rfl ?_
          obtain ⟨r6, τ6, hτ6, hf⟩ := xo_bd hf
          refine call_f_t_isWorkOne (pc := 57) hτ6 rfl (Nat.le_of_ble_eq_true rfl) (Nat.le_of_ble_eq_true rfl) (Nat.le_of_ble_eq_true rfl) dX6_works_57 ?_
          refine xr_if_eq (pc := 60) 67 dX6_works_60 (by decide) (fun c_ => ?_) (fun c_ => ?_)
          · have hf := xo_pos c_ hf
            refine xr_aload_n (pc := 67) 0 dX6_works_67 rfl rfl ?_
            refine xr_iload_n (pc := 68) 1 dX6_works_68 rfl rfl ?_
            refine xr_iload_n (pc := 69) 2 dX6_works_69 rfl rfl ?_
            refine xr_iload_n (pc := 70) 3 dX6_works_70 rfl rfl ?_
            obtain ⟨r7, τ7, hτ7, hf⟩ := xo_bd hf
            refine call_f_t_isWorkTwo (pc := 71) hτ7 rfl (Nat.le_of_ble_eq_true rfl) (Nat.le_of_ble_eq_true rfl) (Nat.le_of_ble_eq_true rfl) dX6_works_71 ?_
            refine xr_if_eq (pc := 74) 81 dX6_works_74 (by decide) (fun c_ => ?_) (fun c_ => ?_)
            · have hf := xo_pos c_ hf
              refine xr_iconst (pc := 81) dX6_works_81 xci_m1 ?_
              refine xV_sub [0, 4] rfl ?_
              exact ok_Jt_works_82 hf kr
            · have hf := xo_neg c_ hf
              refine xr_iconst (pc := 77) dX6_works_77 xci_2 ?_
              refine xr_goto (pc := 78) 82 dX6_works_78 (by decide) ?_
              refine xV_sub [0, 4] rfl ?_
              exact ok_Jt_works_82 hf kr
          · have hf := xo_neg c_ hf
            refine xr_iconst (pc := 63) dX6_works_63 xci_1 ?_
            refine xr_goto (pc := 64) 82 dX6_works_64 (by decide) ?_
            refine xV_sub [0, 4] rfl ?_
            exact ok_Jt_works_82 hf kr
        · have hf := xo_neg c_ hf
          refine xr_iconst (pc := 49) dX6_works_49 xci_0 ?_
          refine xr_goto (pc := 50) 82 dX6_works_50 (by decide) ?_
          refine xV_sub [0, 4] rfl ?_
          exact ok_Jt_works_82 hf kr
theorem met_f_t_works (l : Launch) {D : TD} {m : Nat} {x1 : Int32} {x2 : Int32} {x3 : Int32} {x4 : Int32} {τ : TS} {o_ : (Int32 × TS)} (hf : f_t_works x1 x2 x3 x4 τ = some o_) : xMet (wT D m) l yX6_works (ws_ yX6_works cX6_works 6 (some .int)) 11 660 0 0 [.ref m, .int x1, .int x2, .int x3, .int x4] τ (some (.int o_.1), o_.2) :=
  xMet_of (by decide) (Nat.le_of_ble_eq_true rfl) KT_moved (fun _ _ => trivial) (fun K _ _ _ => ok_f_t_works hf (fun _ h => by rw [h]))
abbrev mX6_laysHavings : xM := (cX6_laysHavings, 4, RX6, 9, 540, none, "laysHavings")
def Bt_laysHavings_18 (x1 : Int32) (x2 : Int32) (x3 : Int32) (τ : TS) : Option ((Int32 × TS) ⊕ ((TS))) :=
  xbd (f_t_lordMany τ) fun r3 τ3 =>
  if r3 ≤ x3 then
  some (.inr τ3)
  else
  if xin (172 + (2 * x3)) 303 = true then
  if xin x3 5 = true then
  some (.inl (x3 + 1, sA (sA τ3 62 (172 + (2 * x3)).toNatClampNeg (((x2 : Int32) >>> (x3 &&& 31)) &&& 1)) 72 x3.toNatClampNeg 0))
  else none
  else none
theorem ok_Bt_laysHavings_18 {D : TD} {m : Nat} {K : xK} {Z : Option Value × TS} {x1 : Int32} {x2 : Int32} {x3 : Int32} {τ : TS} {o_ : ((Int32 × TS) ⊕ ((TS)))} (hf : Bt_laysHavings_18 x1 x2 x3 τ = some o_) (kc : ∀ s_ : Int32 × TS, o_ = .inl s_ → xV (wT D m) K mX6_laysHavings (xQ (wT D m) K Z) s_.2 18 [(0, .ref m), (1, .int x1), (2, .int x2), (3, .int s_.1)] []) (ke0 : ∀ e_ : TS, o_ = .inr e_ → xV (wT D m) K mX6_laysHavings (xQ (wT D m) K Z) e_ 56 [(0, .ref m), (1, .int x1), (2, .int x2)] []) : xV (wT D m) K mX6_laysHavings (xQ (wT D m) K Z) τ 18 [(0, .ref m), (1, .int x1), (2, .int x2), (3, .int x3)] [] := by
  unfold Bt_laysHavings_18 at hf
  refine xr_iload_n (pc := 18) 3 dX6_laysHavings_18 rfl rfl ?_
  refine xr_aload_n (pc := 19) 0 dX6_laysHavings_19 rfl rfl ?_
  obtain ⟨r3, τ3, hτ3, hf⟩ := xo_bd hf
  refine call_f_t_lordMany (pc := 20) hτ3 rfl (Nat.le_of_ble_eq_true rfl) (Nat.le_of_ble_eq_true rfl) (Nat.le_of_ble_eq_true rfl) dX6_laysHavings_20 ?_
  refine xr_icmp_ge (pc := 23) 56 dX6_laysHavings_23 (by decide) (fun c_ => ?_) (fun c_ => ?_)
  · have hf := xo_pos c_ hf
    refine xV_sub [0, 1, 2] rfl ?_
    exact ke0 _ (Option.some.inj hf).symm
  · have hf := xo_neg c_ hf
    refine xr_aload_n (pc := 26) 0 dX6_laysHavings_26 rfl rfl ?_
    refine xt_getA (pc := 27) 62 (by decide) q1808 rfl rfl rfl dX6_laysHavings_27 ?_
    refine xr_sipush (pc := 30) dX6_laysHavings_30 xcs_172 ?_
    refine xr_iconst (pc := 33) dX6_laysHavings_33 xci_2 ?_
    refine xr_iload_n (pc := 34) 3 dX6_laysHavings_34 rfl rfl ?_
    refine xr_imul (pc := 35) dX6_laysHavings_35 ?_
    refine xr_iadd (pc := 36) dX6_laysHavings_36 ?_
    refine xr_iload_n (pc := 37) 2 dX6_laysHavings_37 rfl rfl ?_
    refine xr_iload_n (pc := 38) 3 dX6_laysHavings_38 rfl rfl ?_
    refine xr_ishr (pc := 39) dX6_laysHavings_39 ?_
    refine xr_iconst (pc := 40) dX6_laysHavings_40 xci_1 ?_
    refine xr_iand (pc := 41) dX6_laysHavings_41 ?_
    obtain ⟨hi_, hf⟩ := xo_if hf
    refine xt_iast (pc := 42) 62 rfl rfl hi_ dX6_laysHavings_42 ?_
    refine xr_aload_n (pc := 43) 0 dX6_laysHavings_43 rfl rfl ?_
    refine xt_getA (pc := 44) 72 (by decide) q1818 rfl rfl rfl dX6_laysHavings_44 ?_
    refine xr_iload_n (pc := 47) 3 dX6_laysHavings_47 rfl rfl ?_
    refine xr_iconst (pc := 48) dX6_laysHavings_48 xci_0 ?_
    obtain ⟨hi_, hf⟩ := xo_if hf
    refine xt_iast (pc := 49) 72 rfl rfl hi_ dX6_laysHavings_49 ?_
    refine xr_iinc (pc := 50) (loc' := [(3, .int (x3 + 1)), (0, .ref m), (1, .int x1), (2, .int x2)]) 3 dX6_laysHavings_50 rfl xci_1 (by decide) rfl ?_
    refine xr_goto (pc := 53) 18 dX6_laysHavings_53 (by decide) ?_
    refine xV_sub [1, 2, 3, 0] rfl ?_
    exact kc _ (Option.some.inj hf).symm
def Bt_laysHavings_63 (x1 : Int32) (x2 : Int32) (x3 : Int32) (τ : TS) : Option ((Int32 × TS) ⊕ ((TS))) :=
  xbd (f_t_lordMany τ) fun r6 τ6 =>
  if r6 ≤ x3 then
  some (.inr τ6)
  else
  if xin x3 5 = true then
  if xin ((5 * x2) + x3) 160 = true then
  some (.inl (x3 + 1, sA τ6 75 ((5 * x2) + x3).toNatClampNeg (tA τ6 72 x3.toNatClampNeg)))
  else none
  else none
theorem ok_Bt_laysHavings_63 {D : TD} {m : Nat} {K : xK} {Z : Option Value × TS} {x1 : Int32} {x2 : Int32} {x3 : Int32} {τ : TS} {o_ : ((Int32 × TS) ⊕ ((TS)))} (hf : Bt_laysHavings_63 x1 x2 x3 τ = some o_) (kc : ∀ s_ : Int32 × TS, o_ = .inl s_ → xV (wT D m) K mX6_laysHavings (xQ (wT D m) K Z) s_.2 63 [(0, .ref m), (1, .int x1), (2, .int x2), (3, .int s_.1)] []) (ke0 : ∀ e_ : TS, o_ = .inr e_ → xV (wT D m) K mX6_laysHavings (xQ (wT D m) K Z) e_ 93 [(0, .ref m), (1, .int x1), (2, .int x2)] []) : xV (wT D m) K mX6_laysHavings (xQ (wT D m) K Z) τ 63 [(0, .ref m), (1, .int x1), (2, .int x2), (3, .int x3)] [] := by
  unfold Bt_laysHavings_63 at hf
  refine xr_iload_n (pc := 63) 3 dX6_laysHavings_63 rfl rfl ?_
  refine xr_aload_n (pc := 64) 0 dX6_laysHavings_64 rfl rfl ?_
  obtain ⟨r6, τ6, hτ6, hf⟩ := xo_bd hf
  refine call_f_t_lordMany (pc := 65) hτ6 rfl (Nat.le_of_ble_eq_true rfl) (Nat.le_of_ble_eq_true rfl) (Nat.le_of_ble_eq_true rfl) dX6_laysHavings_65 ?_
  refine xr_icmp_ge (pc := 68) 93 dX6_laysHavings_68 (by decide) (fun c_ => ?_) (fun c_ => ?_)
  · have hf := xo_pos c_ hf
    refine xV_sub [0, 1, 2] rfl ?_
    exact ke0 _ (Option.some.inj hf).symm
  · have hf := xo_neg c_ hf
    refine xr_aload_n (pc := 71) 0 dX6_laysHavings_71 rfl rfl ?_
    refine xt_getA (pc := 72) 75 (by decide) q1821 rfl rfl rfl dX6_laysHavings_72 ?_
    refine xr_iconst (pc := 75) dX6_laysHavings_75 xci_5 ?_
    refine xr_iload_n (pc := 76) 2 dX6_laysHavings_76 rfl rfl ?_
    refine xr_imul (pc := 77) dX6_laysHavings_77 ?_
    refine xr_iload_n (pc := 78) 3 dX6_laysHavings_78 rfl rfl ?_
    refine xr_iadd (pc := 79) dX6_laysHavings_79 ?_
    refine xr_aload_n (pc := 80) 0 dX6_laysHavings_80 rfl rfl ?_
    refine xt_getA (pc := 81) 72 (by decide) q1818 rfl rfl rfl dX6_laysHavings_81 ?_
    refine xr_iload_n (pc := 84) 3 dX6_laysHavings_84 rfl rfl ?_
    obtain ⟨hi_, hf⟩ := xo_if hf
    refine xt_iald (pc := 85) 72 rfl rfl hi_ dX6_laysHavings_85 ?_
    obtain ⟨hi_, hf⟩ := xo_if hf
    refine xt_iast (pc := 86) 75 rfl rfl hi_ dX6_laysHavings_86 ?_
    refine xr_iinc (pc := 87) (loc' := [(3, .int (x3 + 1)), (0, .ref m), (1, .int x1), (2, .int x2)]) 3 dX6_laysHavings_87 rfl xci_1 (by decide) rfl ?_
    refine xr_goto (pc := 90) 63 dX6_laysHavings_90 (by decide) ?_
    refine xV_sub [1, 2, 3, 0] rfl ?_
    exact kc _ (Option.some.inj hf).symm
def Bt_laysHavings_6 (x1 : Int32) (x2 : Int32) (τ : TS) : Option ((Int32 × TS) ⊕ ((TS))) :=
  xbd (f_t_lordMany τ) fun r2 τ2 =>
  if ((1 : Int32) <<< (r2 &&& 31)) ≤ x2 then
  some (.inr τ2)
  else
  (itr (fun s_ : Int32 × TS => Bt_laysHavings_18 x1 x2 s_.1 s_.2) 4096 (0, τ2)).bind fun b4 =>
  (f_t_seasonsGo x1 b4).bind fun τ5 =>
  (itr (fun s_ : Int32 × TS => Bt_laysHavings_63 x1 x2 s_.1 s_.2) 4096 (0, τ5)).bind fun b7 =>
  (f_t_triesAnew b7).bind fun τ8 =>
  some (.inl (x2 + 1, τ8))
theorem ok_Bt_laysHavings_6 {D : TD} {m : Nat} {K : xK} {Z : Option Value × TS} {x1 : Int32} {x2 : Int32} {τ : TS} {o_ : ((Int32 × TS) ⊕ ((TS)))} (hf : Bt_laysHavings_6 x1 x2 τ = some o_) (kc : ∀ s_ : Int32 × TS, o_ = .inl s_ → xV (wT D m) K mX6_laysHavings (xQ (wT D m) K Z) s_.2 6 [(0, .ref m), (1, .int x1), (2, .int s_.1)] []) (ke0 : ∀ e_ : TS, o_ = .inr e_ → xV (wT D m) K mX6_laysHavings (xQ (wT D m) K Z) e_ 103 [(0, .ref m)] []) : xV (wT D m) K mX6_laysHavings (xQ (wT D m) K Z) τ 6 [(0, .ref m), (1, .int x1), (2, .int x2)] [] := by
  unfold Bt_laysHavings_6 at hf
  refine xr_iload_n (pc := 6) 2 dX6_laysHavings_6 rfl rfl ?_
  refine xr_iconst (pc := 7) dX6_laysHavings_7 xci_1 ?_
  refine xr_aload_n (pc := 8) 0 dX6_laysHavings_8 rfl rfl ?_
  obtain ⟨r2, τ2, hτ2, hf⟩ := xo_bd hf
  refine call_f_t_lordMany (pc := 9) hτ2 rfl (Nat.le_of_ble_eq_true rfl) (Nat.le_of_ble_eq_true rfl) (Nat.le_of_ble_eq_true rfl) dX6_laysHavings_9 ?_
  refine xr_ishl (pc := 12) dX6_laysHavings_12 ?_
  refine xr_icmp_ge (pc := 13) 103 dX6_laysHavings_13 (by decide) (fun c_ => ?_) (fun c_ => ?_)
  · have hf := xo_pos c_ hf
    refine xV_sub [0] rfl ?_
    exact ke0 _ (Option.some.inj hf).symm
  · have hf := xo_neg c_ hf
    refine xr_iconst (pc := 16) dX6_laysHavings_16 xci_0 ?_
    refine xr_istore_n (pc := 17) (loc' := [(3, .int 0), (0, .ref m), (1, .int x1), (2, .int x2)]) dX6_laysHavings_17 rfl (by decide) rfl ?_
    refine xV_sub [1, 2, 3, 0] rfl ?_
    obtain ⟨b4, hb4, hf⟩ := xo_bind hf
    refine itr_rule (P := fun s_ : Int32 × TS => xV (wT D m) K mX6_laysHavings (xQ (wT D m) K Z) s_.2 18 [(0, .ref m), (1, .int x1), (2, .int x2), (3, .int s_.1)] []) (fun s_ o_ hB_ hc_ he_ => ok_Bt_laysHavings_18 hB_ hc_ (fun e_ h_ => ?_)) 4096 _ hb4
    · have e9_ := he_ _ h_
      rw [e9_]
      refine xr_aload_n (pc := 56) 0 dX6_laysHavings_56 rfl rfl ?_
      refine xr_iload_n (pc := 57) 1 dX6_laysHavings_57 rfl rfl ?_
      obtain ⟨τ5, hτ5, hf⟩ := xo_bind hf
      refine call_f_t_seasonsGo (pc := 58) hτ5 rfl (Nat.le_of_ble_eq_true rfl) (Nat.le_of_ble_eq_true rfl) (Nat.le_of_ble_eq_true rfl) dX6_laysHavings_58 ?_
      refine xr_iconst (pc := 61) dX6_laysHavings_61 xci_0 ?_
      refine xr_istore_n (pc := 62) (loc' := [(3, .int 0), (0, .ref m), (1, .int x1), (2, .int x2)]) dX6_laysHavings_62 rfl (by decide) rfl ?_
      refine xV_sub [1, 2, 3, 0] rfl ?_
      obtain ⟨b7, hb7, hf⟩ := xo_bind hf
      refine itr_rule (P := fun s_ : Int32 × TS => xV (wT D m) K mX6_laysHavings (xQ (wT D m) K Z) s_.2 63 [(0, .ref m), (1, .int x1), (2, .int x2), (3, .int s_.1)] []) (fun s_ o_ hB_ hc_ he_ => ok_Bt_laysHavings_63 hB_ hc_ (fun e_ h_ => ?_)) 4096 _ hb7
      · have e9_ := he_ _ h_
        rw [e9_]
        refine xr_aload_n (pc := 93) 0 dX6_laysHavings_93 rfl rfl ?_
        obtain ⟨τ8, hτ8, hf⟩ := xo_bind hf
        refine call_f_t_triesAnew (pc := 94) hτ8 rfl (Nat.le_of_ble_eq_true rfl) (Nat.le_of_ble_eq_true rfl) (Nat.le_of_ble_eq_true rfl) dX6_laysHavings_94 ?_
        refine xr_iinc (pc := 97) (loc' := [(2, .int (x2 + 1)), (0, .ref m), (1, .int x1)]) 2 dX6_laysHavings_97 rfl xci_1 (by decide) rfl ?_
        refine xr_goto (pc := 100) 6 dX6_laysHavings_100 (by decide) ?_
        refine xV_sub [1, 2, 0] rfl ?_
        exact kc _ (Option.some.inj hf).symm
def f_t_laysHavings (x1 : Int32) (τ : TS) : Option TS :=
  (f_t_putsAside τ).bind fun τ1 =>
  (itr (fun s_ : Int32 × TS => Bt_laysHavings_6 x1 s_.1 s_.2) 4096 (0, τ1)).bind fun b9 =>
  (f_t_takesBack b9).bind fun τ10 =>
  some (τ10)
theorem ok_f_t_laysHavings {D : TD} {m : Nat} {K : xK} {Z : Option Value × TS} {x1 : Int32} {τ : TS} {o_ : TS} (hf : f_t_laysHavings x1 τ = some o_) (kr : ∀ r_ : TS, o_ = r_ → Z = (none, r_)) : xV (wT D m) K mX6_laysHavings (xQ (wT D m) K Z) τ 0 [(0, .ref m), (1, .int x1)] [] := by
  unfold f_t_laysHavings at hf
  refine xr_aload_n (pc := 0) 0 dX6_laysHavings_0 rfl rfl ?_
  obtain ⟨τ1, hτ1, hf⟩ := xo_bind hf
  refine call_f_t_putsAside (pc := 1) hτ1 rfl (Nat.le_of_ble_eq_true rfl) (Nat.le_of_ble_eq_true rfl) (Nat.le_of_ble_eq_true rfl) dX6_laysHavings_1 ?_
  refine xr_iconst (pc := 4) dX6_laysHavings_4 xci_0 ?_
  refine xr_istore_n (pc := 5) (loc' := [(2, .int 0), (0, .ref m), (1, .int x1)]) dX6_laysHavings_5 rfl (by decide) rfl ?_
  refine xV_sub [1, 2, 0] rfl ?_
  obtain ⟨b9, hb9, hf⟩ := xo_bind hf
  refine itr_rule (P := fun s_ : Int32 × TS => xV (wT D m) K mX6_laysHavings (xQ (wT D m) K Z) s_.2 6 [(0, .ref m), (1, .int x1), (2, .int s_.1)] []) (fun s_ o_ hB_ hc_ he_ => ok_Bt_laysHavings_6 hB_ hc_ (fun e_ h_ => ?_)) 4096 _ hb9
  · have e9_ := he_ _ h_
    rw [e9_]
    refine xr_aload_n (pc := 103) 0 dX6_laysHavings_103 rfl rfl ?_
    obtain ⟨τ10, hτ10, hf⟩ := xo_bind hf
    refine call_f_t_takesBack (pc := 104) hτ10 rfl (Nat.le_of_ble_eq_true rfl) (Nat.le_of_ble_eq_true rfl) (Nat.le_of_ble_eq_true rfl) dX6_laysHavings_104 ?_
    rw [kr _ (Option.some.inj hf).symm]
    exact xr_vret (pc := 107) dX6_laysHavings_107 rfl
theorem met_f_t_laysHavings (l : Launch) {D : TD} {m : Nat} {x1 : Int32} {τ : TS} {o_ : TS} (hf : f_t_laysHavings x1 τ = some o_) : xMet (wT D m) l yX6_laysHavings (ws_ yX6_laysHavings cX6_laysHavings 4 none) 9 540 0 0 [.ref m, .int x1] τ (none, o_) :=
  xMet_of (by decide) (Nat.le_of_ble_eq_true rfl) KT_moved (fun _ _ => trivial) (fun K _ _ _ => ok_f_t_laysHavings hf (fun _ h => by rw [h]))
theorem hd_f_t_laysHavings : yX6_laysHavings.cls = RX6 ∧ yX6_laysHavings.cls ≠ "java/lang/invoke/MethodHandle" ∧ yX6_laysHavings.cls ≠ "java/lang/invoke/VarHandle" ∧ (parseMethodDescriptor yX6_laysHavings.desc).map (fun d => d.parameters.length) = some 1 := by decide +kernel
theorem call_f_t_laysHavings {D : TD} {m : Nat} {K : xK} {M : xM} {Q : State → Prop} {x1 : Int32} {τ : TS} {pc : Nat} {loc : List (Nat × Value)} {st : List Value} {τ1 : TS} (hf : f_t_laysHavings x1 τ = some τ1) (ho : M.2.2.1 = RX6) (hfr : 10 ≤ M.2.2.2.1) (hlo : 563 ≤ M.2.2.2.2.1) (hcat : (st.map fun v => v.category).sum ≤ 8) (d : decode M.1 pc = .ok (.invokevirtual 641, 3)) (k : xV (wT D m) K M Q τ1 (pc + 3) loc st) : xV (wT D m) K M Q τ pc loc (.int x1 :: .ref m :: st) :=
  xr_callV (As := [.int x1]) (rest := st) (met_f_t_laysHavings K.2.1 hf) (lw_V q2571 q2573 qs150 q186 q2574) hd_f_t_laysHavings ho hfr hlo rfl (fun H hR hK => t_recv H hR hK) rfl hcat d k
abbrev mX6_bits : xM := (cX6_bits, 3, RX6, 0, 0, (some .int), "bits")
def Bt_bits_4 (x1 : Int32) (x2 : Int32) (τ : TS) : Option ((Int32 × Int32 × TS) ⊕ ((Int32 × TS))) :=
  if x2 = 0 then
  some (.inr (x1, τ))
  else
  some (.inl (x1 + 1, x2 &&& (x2 - 1), τ))
theorem ok_Bt_bits_4 {D : TD} {m : Nat} {K : xK} {Z : Option Value × TS} {x1 : Int32} {x2 : Int32} {τ : TS} {o_ : ((Int32 × Int32 × TS) ⊕ ((Int32 × TS)))} (hf : Bt_bits_4 x1 x2 τ = some o_) (kc : ∀ s_ : Int32 × Int32 × TS, o_ = .inl s_ → xV (wT D m) K mX6_bits (xQ (wT D m) K Z) s_.2.2 4 [(1, .int s_.1), (2, .int s_.2.1)] []) (ke0 : ∀ e_ : Int32 × TS, o_ = .inr e_ → xV (wT D m) K mX6_bits (xQ (wT D m) K Z) e_.2 20 [(1, .int e_.1)] []) : xV (wT D m) K mX6_bits (xQ (wT D m) K Z) τ 4 [(1, .int x1), (2, .int x2)] [] := by
  unfold Bt_bits_4 at hf
  refine xr_iload_n (pc := 4) 1 dX6_bits_4 rfl rfl ?_
  refine xr_if_eq (pc := 5) 20 dX6_bits_5 (by decide) (fun c_ => ?_) (fun c_ => ?_)
  · have hf := xo_pos c_ hf
    refine xV_sub [0] rfl ?_
    exact ke0 _ (Option.some.inj hf).symm
  · have hf := xo_neg c_ hf
    refine xr_iinc (pc := 8) (loc' := [(1, .int (x1 + 1)), (2, .int x2)]) 0 dX6_bits_8 rfl xci_1 (by decide) rfl ?_
    refine xr_iload_n (pc := 11) 1 dX6_bits_11 rfl rfl ?_
    refine xr_iload_n (pc := 12) 1 dX6_bits_12 rfl rfl ?_
    refine xr_iconst (pc := 13) dX6_bits_13 xci_1 ?_
    refine xr_isub (pc := 14) dX6_bits_14 ?_
    refine xr_iand (pc := 15) dX6_bits_15 ?_
    refine xr_istore_n (pc := 16) (loc' := [(2, .int (x2 &&& (x2 - 1))), (1, .int (x1 + 1))]) dX6_bits_16 rfl (by decide) rfl ?_
    refine xr_goto (pc := 17) 4 dX6_bits_17 (by decide) ?_
    refine xV_sub [1, 0] rfl ?_
    exact kc _ (Option.some.inj hf).symm
def f_t_bits (x0 : Int32) (τ : TS) : Option (Int32 × TS) :=
  (itr (fun s_ : Int32 × Int32 × TS => Bt_bits_4 s_.1 s_.2.1 s_.2.2) 4096 (0, x0, τ)).bind fun b1 =>
  some ((b1.1, b1.2))
theorem ok_f_t_bits {D : TD} {m : Nat} {K : xK} {Z : Option Value × TS} {x0 : Int32} {τ : TS} {o_ : (Int32 × TS)} (hf : f_t_bits x0 τ = some o_) (kr : ∀ r_ : (Int32 × TS), o_ = r_ → Z = (some (.int r_.1), r_.2)) : xV (wT D m) K mX6_bits (xQ (wT D m) K Z) τ 0 [(0, .int x0)] [] := by
  unfold f_t_bits at hf
  refine xr_iconst (pc := 0) dX6_bits_0 xci_0 ?_
  refine xr_istore_n (pc := 1) (loc' := [(1, .int 0), (0, .int x0)]) dX6_bits_1 rfl (by decide) rfl ?_
  refine xr_iload_n (pc := 2) 1 dX6_bits_2 rfl rfl ?_
  refine xr_istore_n (pc := 3) (loc' := [(2, .int x0), (1, .int 0), (0, .int x0)]) dX6_bits_3 rfl (by decide) rfl ?_
  refine xV_sub [1, 0] rfl ?_
  obtain ⟨b1, hb1, hf⟩ := xo_bind hf
  refine itr_rule (P := fun s_ : Int32 × Int32 × TS => xV (wT D m) K mX6_bits (xQ (wT D m) K Z) s_.2.2 4 [(1, .int s_.1), (2, .int s_.2.1)] []) (fun s_ o_ hB_ hc_ he_ => ok_Bt_bits_4 hB_ hc_ (fun e_ h_ => ?_)) 4096 _ hb1
  · have e9_ := he_ _ h_
    rw [e9_]
    refine xr_iload_n (pc := 20) 0 dX6_bits_20 rfl rfl ?_
    rw [kr _ (Option.some.inj hf).symm]
    exact xr_iret (pc := 21) dX6_bits_21 rfl
theorem met_f_t_bits (l : Launch) {D : TD} {m : Nat} {x0 : Int32} {τ : TS} {o_ : (Int32 × TS)} (hf : f_t_bits x0 τ = some o_) : xMet (wT D m) l yX6_bits (ws_ yX6_bits cX6_bits 3 (some .int)) 0 0 0 0 [.int x0] τ (some (.int o_.1), o_.2) :=
  xMet_of (by decide) (Nat.le_of_ble_eq_true rfl) KT_moved (fun _ _ => trivial) (fun K _ _ _ => ok_f_t_bits hf (fun _ h => by rw [h]))
theorem hd_f_t_bits : yX6_bits.cls ≠ "java/lang/invoke/MethodHandle" ∧ yX6_bits.cls ≠ "java/lang/invoke/VarHandle" ∧ (parseMethodDescriptor yX6_bits.desc).map (fun d => d.parameters.length) = some 1 := by decide +kernel
theorem call_f_t_bits {D : TD} {m : Nat} {K : xK} {M : xM} {Q : State → Prop} {x0 : Int32} {τ : TS} {pc : Nat} {loc : List (Nat × Value)} {st : List Value} {r : Int32} {τ1 : TS} (hf : f_t_bits x0 τ = some (r, τ1)) (ho : M.2.2.1 = RX6) (hfr : 1 ≤ M.2.2.2.1) (hlo : 22 ≤ M.2.2.2.2.1) (hcat : (st.map fun v => v.category).sum ≤ 8) (d : decode M.1 pc = .ok (.invokestatic 644, 3)) (k : xV (wT D m) K M Q τ1 (pc + 3) loc (.int r :: st)) : xV (wT D m) K M Q τ pc loc (.int x0 :: st) :=
  xr_callS (As := [.int x0]) (rest := st) (met_f_t_bits K.2.1 hf) (lw_S q2575 q2576 q186 q2577) hd_f_t_bits ho hfr hlo rfl rfl hcat d k
abbrev mX6_isRest : xM := (cX6_isRest, 3, RX6, 1, 60, (some .boolean), "isRest")
def Bt_isRest_2 (x1 : Int32) (x2 : Int32) (τ : TS) : Option ((Int32 × TS) ⊕ ((TS) ⊕ ((Int32 × TS)))) :=
  xbd (f_t_lordMany τ) fun r1 τ1 =>
  if r1 ≤ x2 then
  some (.inr (.inl τ1))
  else
  if xin ((5 * (x1 ^^^ ((1 : Int32) <<< (x2 &&& 31)))) + x2) 160 = true then
  if xin ((5 * x1) + x2) 160 = true then
  if (tA τ1 75 ((5 * (x1 ^^^ ((1 : Int32) <<< (x2 &&& 31)))) + x2).toNatClampNeg) ≤ (tA τ1 75 ((5 * x1) + x2).toNatClampNeg) then
  some (.inl (x2 + 1, τ1))
  else
  some (.inr (.inr (0, τ1)))
  else none
  else none
theorem ok_Bt_isRest_2 {D : TD} {m : Nat} {K : xK} {Z : Option Value × TS} {x1 : Int32} {x2 : Int32} {τ : TS} {o_ : ((Int32 × TS) ⊕ ((TS) ⊕ ((Int32 × TS))))} (hf : Bt_isRest_2 x1 x2 τ = some o_) (kc : ∀ s_ : Int32 × TS, o_ = .inl s_ → xV (wT D m) K mX6_isRest (xQ (wT D m) K Z) s_.2 2 [(0, .ref m), (1, .int x1), (2, .int s_.1)] []) (ke0 : ∀ e_ : TS, o_ = .inr (.inl e_) → xV (wT D m) K mX6_isRest (xQ (wT D m) K Z) e_ 45 [] []) (kr : ∀ r_ : (Int32 × TS), o_ = .inr (.inr r_) → Z = (some (.int r_.1), r_.2)) : xV (wT D m) K mX6_isRest (xQ (wT D m) K Z) τ 2 [(0, .ref m), (1, .int x1), (2, .int x2)] [] := by
  unfold Bt_isRest_2 at hf
  refine xr_iload_n (pc := 2) 2 dX6_isRest_2 rfl rfl ?_
  refine xr_aload_n (pc := 3) 0 dX6_isRest_3 rfl rfl ?_
  obtain ⟨r1, τ1, hτ1, hf⟩ := xo_bd hf
  refine call_f_t_lordMany (pc := 4) hτ1 rfl (Nat.le_of_ble_eq_true rfl) (Nat.le_of_ble_eq_true rfl) (Nat.le_of_ble_eq_true rfl) dX6_isRest_4 ?_
  refine xr_icmp_ge (pc := 7) 45 dX6_isRest_7 (by decide) (fun c_ => ?_) (fun c_ => ?_)
  · have hf := xo_pos c_ hf
    refine xV_sub [] rfl ?_
    exact ke0 _ (Option.some.inj hf).symm
  · have hf := xo_neg c_ hf
    refine xr_aload_n (pc := 10) 0 dX6_isRest_10 rfl rfl ?_
    refine xt_getA (pc := 11) 75 (by decide) q1821 rfl rfl rfl dX6_isRest_11 ?_
    refine xr_iconst (pc := 14) dX6_isRest_14 xci_5 ?_
    refine xr_iload_n (pc := 15) 1 dX6_isRest_15 rfl rfl ?_
    refine xr_iconst (pc := 16) dX6_isRest_16 xci_1 ?_
    refine xr_iload_n (pc := 17) 2 dX6_isRest_17 rfl rfl ?_
    refine xr_ishl (pc := 18) dX6_isRest_18 ?_
    refine xr_ixor (pc := 19) dX6_isRest_19 ?_
    refine xr_imul (pc := 20) dX6_isRest_20 ?_
    refine xr_iload_n (pc := 21) 2 dX6_isRest_21 rfl rfl ?_
    refine xr_iadd (pc := 22) dX6_isRest_22 ?_
    obtain ⟨hi_, hf⟩ := xo_if hf
    refine xt_iald (pc := 23) 75 rfl rfl hi_ dX6_isRest_23 ?_
    refine xr_aload_n (pc := 24) 0 dX6_isRest_24 rfl rfl ?_
    refine xt_getA (pc := 25) 75 (by decide) q1821 rfl rfl rfl dX6_isRest_25 ?_
    refine xr_iconst (pc := 28) dX6_isRest_28 xci_5 ?_
    refine xr_iload_n (pc := 29) 1 dX6_isRest_29 rfl rfl ?_
    refine xr_imul (pc := 30) dX6_isRest_30 ?_
    refine xr_iload_n (pc := 31) 2 dX6_isRest_31 rfl rfl ?_
    refine xr_iadd (pc := 32) dX6_isRest_32 ?_
    obtain ⟨hi_, hf⟩ := xo_if hf
    refine xt_iald (pc := 33) 75 rfl rfl hi_ dX6_isRest_33 ?_
    refine xr_icmp_le (pc := 34) 39 dX6_isRest_34 (by decide) (fun c_ => ?_) (fun c_ => ?_)
    · have hf := xo_pos c_ hf
      refine xr_iinc (pc := 39) (loc' := [(2, .int (x2 + 1)), (0, .ref m), (1, .int x1)]) 2 dX6_isRest_39 rfl xci_1 (by decide) rfl ?_
      refine xr_goto (pc := 42) 2 dX6_isRest_42 (by decide) ?_
      refine xV_sub [1, 2, 0] rfl ?_
      exact kc _ (Option.some.inj hf).symm
    · have hf := xo_neg c_ hf
      refine xr_iconst (pc := 37) dX6_isRest_37 xci_0 ?_
      rw [kr _ (Option.some.inj hf).symm]
      exact xr_zret (pc := 38) dX6_isRest_38 rfl xz_0
def f_t_isRest (x1 : Int32) (τ : TS) : Option (Int32 × TS) :=
  (itr (fun s_ : Int32 × TS => Bt_isRest_2 x1 s_.1 s_.2) 4096 (0, τ)).bind fun b2 =>
  (Sum.elim (fun e3 => some ((1, e3))) (fun r_ => some r_)) b2
theorem ok_f_t_isRest {D : TD} {m : Nat} {K : xK} {Z : Option Value × TS} {x1 : Int32} {τ : TS} {o_ : (Int32 × TS)} (hf : f_t_isRest x1 τ = some o_) (kr : ∀ r_ : (Int32 × TS), o_ = r_ → Z = (some (.int r_.1), r_.2)) : xV (wT D m) K mX6_isRest (xQ (wT D m) K Z) τ 0 [(0, .ref m), (1, .int x1)] [] := by
  unfold f_t_isRest at hf
  refine xr_iconst (pc := 0) dX6_isRest_0 xci_0 ?_
  refine xr_istore_n (pc := 1) (loc' := [(2, .int 0), (0, .ref m), (1, .int x1)]) dX6_isRest_1 rfl (by decide) rfl ?_
  refine xV_sub [1, 2, 0] rfl ?_
  obtain ⟨b2, hb2, hf⟩ := xo_bind hf
  refine itr_rule (P := fun s_ : Int32 × TS => xV (wT D m) K mX6_isRest (xQ (wT D m) K Z) s_.2 2 [(0, .ref m), (1, .int x1), (2, .int s_.1)] []) (fun s_ o_ hB_ hc_ he_ => ok_Bt_isRest_2 hB_ hc_ (fun e3 h_ => ?_) (fun r_ h_ => ?_)) 4096 _ hb2
  · have e9_ := he_ _ h_
    subst e9_
    have hf := xo_inl hf
    refine xr_iconst (pc := 45) dX6_isRest_45 xci_1 ?_
    rw [kr _ (Option.some.inj hf).symm]
    exact xr_zret (pc := 46) dX6_isRest_46 rfl xz_1
  · have e9_ := he_ _ h_
    subst e9_
    have hf := xo_inr hf
    exact kr _ (Option.some.inj hf).symm
theorem met_f_t_isRest (l : Launch) {D : TD} {m : Nat} {x1 : Int32} {τ : TS} {o_ : (Int32 × TS)} (hf : f_t_isRest x1 τ = some o_) : xMet (wT D m) l yX6_isRest (ws_ yX6_isRest cX6_isRest 3 (some .boolean)) 1 60 0 0 [.ref m, .int x1] τ (some (.int o_.1), o_.2) :=
  xMet_of (by decide) (Nat.le_of_ble_eq_true rfl) KT_moved (fun _ _ => trivial) (fun K _ _ _ => ok_f_t_isRest hf (fun _ h => by rw [h]))
theorem hd_f_t_isRest : yX6_isRest.cls = RX6 ∧ yX6_isRest.cls ≠ "java/lang/invoke/MethodHandle" ∧ yX6_isRest.cls ≠ "java/lang/invoke/VarHandle" ∧ (parseMethodDescriptor yX6_isRest.desc).map (fun d => d.parameters.length) = some 1 := by decide +kernel
theorem call_f_t_isRest {D : TD} {m : Nat} {K : xK} {M : xM} {Q : State → Prop} {x1 : Int32} {τ : TS} {pc : Nat} {loc : List (Nat × Value)} {st : List Value} {r : Int32} {τ1 : TS} (hf : f_t_isRest x1 τ = some (r, τ1)) (ho : M.2.2.1 = RX6) (hfr : 2 ≤ M.2.2.2.1) (hlo : 82 ≤ M.2.2.2.2.1) (hcat : (st.map fun v => v.category).sum ≤ 8) (d : decode M.1 pc = .ok (.invokevirtual 647, 3)) (k : xV (wT D m) K M Q τ1 (pc + 3) loc (.int r :: st)) : xV (wT D m) K M Q τ pc loc (.int x1 :: .ref m :: st) :=
  xr_callV (As := [.int x1]) (rest := st) (met_f_t_isRest K.2.1 hf) (lw_V q2578 q2580 qs151 q186 q2581) hd_f_t_isRest ho hfr hlo rfl (fun H hR hK => t_recv H hR hK) rfl hcat d k
abbrev mX6_rest : xM := (cX6_rest, 4, RX6, 10, 600, (some .int), "rest")
def Jt_rest_58 (x2 : Int32) (x3 : Int32) (τ : TS) : Option ((Int32 × Int32 × TS) ⊕ ((Int32 × TS))) :=
  some (.inl (x2, x3 + 1, τ))
theorem ok_Jt_rest_58 {D : TD} {m : Nat} {K : xK} {Z : Option Value × TS} {x2 : Int32} {x3 : Int32} {τ : TS} {o_ : ((Int32 × Int32 × TS) ⊕ ((Int32 × TS)))} (hf : Jt_rest_58 x2 x3 τ = some o_) (kc : ∀ s_ : Int32 × Int32 × TS, o_ = .inl s_ → xV (wT D m) K mX6_rest (xQ (wT D m) K Z) s_.2.2 22 [(0, .ref m), (2, .int s_.1), (3, .int s_.2.1)] []) (ke0 : ∀ e_ : Int32 × TS, o_ = .inr e_ → xV (wT D m) K mX6_rest (xQ (wT D m) K Z) e_.2 64 [(2, .int e_.1)] []) : xV (wT D m) K mX6_rest (xQ (wT D m) K Z) τ 58 [(0, .ref m), (2, .int x2), (3, .int x3)] [] := by
  unfold Jt_rest_58 at hf
  refine xr_iinc (pc := 58) (loc' := [(3, .int (x3 + 1)), (0, .ref m), (2, .int x2)]) 2 dX6_rest_58 rfl xci_1 (by decide) rfl ?_
  refine xr_goto (pc := 61) 22 dX6_rest_61 (by decide) ?_
  refine xV_sub [1, 2, 0] rfl ?_
  exact kc _ (Option.some.inj hf).symm
def Jt_rest_48 (x2 : Int32) (x3 : Int32) (τ : TS) : Option ((Int32 × Int32 × TS) ⊕ ((Int32 × TS))) :=
  xbd (f_t_isRest x3 τ) fun r4 τ4 =>
  if r4 = 0 then
  Jt_rest_58 x2 x3 τ4
  else
  Jt_rest_58 x3 x3 τ4
theorem ok_Jt_rest_48 {D : TD} {m : Nat} {K : xK} {Z : Option Value × TS} {x2 : Int32} {x3 : Int32} {τ : TS} {o_ : ((Int32 × Int32 × TS) ⊕ ((Int32 × TS)))} (hf : Jt_rest_48 x2 x3 τ = some o_) (kc : ∀ s_ : Int32 × Int32 × TS, o_ = .inl s_ → xV (wT D m) K mX6_rest (xQ (wT D m) K Z) s_.2.2 22 [(0, .ref m), (2, .int s_.1), (3, .int s_.2.1)] []) (ke0 : ∀ e_ : Int32 × TS, o_ = .inr e_ → xV (wT D m) K mX6_rest (xQ (wT D m) K Z) e_.2 64 [(2, .int e_.1)] []) : xV (wT D m) K mX6_rest (xQ (wT D m) K Z) τ 48 [(0, .ref m), (2, .int x2), (3, .int x3)] [] := by
  unfold Jt_rest_48 at hf
  refine xr_aload_n (pc := 48) 0 dX6_rest_48 rfl rfl ?_
  refine xr_iload_n (pc := 49) 2 dX6_rest_49 rfl rfl ?_
  obtain ⟨r4, τ4, hτ4, hf⟩ := xo_bd hf
  refine call_f_t_isRest (pc := 50) hτ4 rfl (Nat.le_of_ble_eq_true rfl) (Nat.le_of_ble_eq_true rfl) (Nat.le_of_ble_eq_true rfl) dX6_rest_50 ?_
  refine xr_if_eq (pc := 53) 58 dX6_rest_53 (by decide) (fun c_ => ?_) (fun c_ => ?_)
  · have hf := xo_pos c_ hf
    exact ok_Jt_rest_58 hf kc ke0
  · have hf := xo_neg c_ hf
    refine xr_iload_n (pc := 56) 2 dX6_rest_56 rfl rfl ?_
    refine xr_istore_n (pc := 57) (loc' := [(2, .int x3), (0, .ref m), (3, .int x3)]) dX6_rest_57 rfl (by decide) rfl ?_
    refine xV_sub [1, 0, 2] rfl ?_
    exact ok_Jt_rest_58 hf kc ke0
def Bt_rest_22 (x2 : Int32) (x3 : Int32) (τ : TS) : Option ((Int32 × Int32 × TS) ⊕ ((Int32 × TS))) :=
  xbd (f_t_lordMany τ) fun r3 τ3 =>
  if ((1 : Int32) <<< (r3 &&& 31)) ≤ x3 then
  some (.inr (x2, τ3))
  else
  if x2 = (-1) then
  Jt_rest_48 x2 x3 τ3
  else
  xbd (f_t_bits x3 τ3) fun r5 τ5 =>
  xbd (f_t_bits x2 τ5) fun r6 τ6 =>
  if r6 ≤ r5 then
  Jt_rest_58 x2 x3 τ6
  else
  Jt_rest_48 x2 x3 τ6
theorem ok_Bt_rest_22 {D : TD} {m : Nat} {K : xK} {Z : Option Value × TS} {x2 : Int32} {x3 : Int32} {τ : TS} {o_ : ((Int32 × Int32 × TS) ⊕ ((Int32 × TS)))} (hf : Bt_rest_22 x2 x3 τ = some o_) (kc : ∀ s_ : Int32 × Int32 × TS, o_ = .inl s_ → xV (wT D m) K mX6_rest (xQ (wT D m) K Z) s_.2.2 22 [(0, .ref m), (2, .int s_.1), (3, .int s_.2.1)] []) (ke0 : ∀ e_ : Int32 × TS, o_ = .inr e_ → xV (wT D m) K mX6_rest (xQ (wT D m) K Z) e_.2 64 [(2, .int e_.1)] []) : xV (wT D m) K mX6_rest (xQ (wT D m) K Z) τ 22 [(0, .ref m), (2, .int x2), (3, .int x3)] [] := by
  unfold Bt_rest_22 at hf
  refine xr_iload_n (pc := 22) 2 dX6_rest_22 rfl rfl ?_
  refine xr_iconst (pc := 23) dX6_rest_23 xci_1 ?_
  refine xr_aload_n (pc := 24) 0 dX6_rest_24 rfl rfl ?_
  obtain ⟨r3, τ3, hτ3, hf⟩ := xo_bd hf
  refine call_f_t_lordMany (pc := 25) hτ3 rfl (Nat.le_of_ble_eq_true rfl) (Nat.le_of_ble_eq_true rfl) (Nat.le_of_ble_eq_true rfl) dX6_rest_25 ?_
  refine xr_ishl (pc := 28) dX6_rest_28 ?_
  refine xr_icmp_ge (pc := 29) 64 dX6_rest_29 (by decide) (fun c_ => ?_) (fun c_ => ?_)
  · have hf := xo_pos c_ hf
    refine xV_sub [1] rfl ?_
    exact ke0 _ (Option.some.inj hf).symm
  · have hf := xo_neg c_ hf
    refine xr_iload_n (pc := 32) 1 dX6_rest_32 rfl rfl ?_
    refine xr_iconst (pc := 33) dX6_rest_33 xci_m1 ?_
    refine xr_icmp_eq (pc := 34) 48 dX6_rest_34 (by decide) (fun c_ => ?_) (fun c_ => ?_)
    · have hf := xo_pos c_ hf
      exact ok_Jt_rest_48 hf kc ke0
    · have hf := xo_neg c_ hf
      refine xr_iload_n (pc := 37) 2 dX6_rest_37 rfl rfl ?_
      obtain ⟨r5, τ5, hτ5, hf⟩ := xo_bd hf
      refine call_f_t_bits (pc := 38) hτ5 rfl (Nat.le_of_ble_eq_true rfl) (Nat.le_of_ble_eq_true rfl) (Nat.le_of_ble_eq_true rfl) dX6_rest_38 ?_
      refine xr_iload_n (pc := 41) 1 dX6_rest_41 rfl rfl ?_
      obtain ⟨r6, τ6, hτ6, hf⟩ := xo_bd hf
      refine call_f_t_bits (pc := 42) hτ6 rfl (Nat.le_of_ble_eq_true rfl) (Nat.le_of_ble_eq_true rfl) (Nat.le_of_ble_eq_true rfl) dX6_rest_42 ?_
      refine xr_icmp_ge (pc := 45) 58 dX6_rest_45 (by decide) (fun c_ => ?_) (fun c_ => ?_)
      · have hf := xo_pos c_ hf
        exact ok_Jt_rest_58 hf kc ke0
      · have hf := xo_neg c_ hf
        exact ok_Jt_rest_48 hf kc ke0
def f_t_rest (x1 : Int32) (τ : TS) : Option (Int32 × TS) :=
  xbd (f_t_isAhead x1 1 30 τ) fun r1 τ1 =>
  if r1 = 0 then
  some (((-1), τ1))
  else
  (f_t_laysHavings x1 τ1).bind fun τ2 =>
  (itr (fun s_ : Int32 × Int32 × TS => Bt_rest_22 s_.1 s_.2.1 s_.2.2) 4096 ((-1), 0, τ2)).bind fun b7 =>
  some ((b7.1, b7.2))
theorem ok_f_t_rest {D : TD} {m : Nat} {K : xK} {Z : Option Value × TS} {x1 : Int32} {τ : TS} {o_ : (Int32 × TS)} (hf : f_t_rest x1 τ = some o_) (kr : ∀ r_ : (Int32 × TS), o_ = r_ → Z = (some (.int r_.1), r_.2)) : xV (wT D m) K mX6_rest (xQ (wT D m) K Z) τ 0 [(0, .ref m), (1, .int x1)] [] := by
  unfold f_t_rest at hf
  refine xr_aload_n (pc := 0) 0 dX6_rest_0 rfl rfl ?_
  refine xr_iload_n (pc := 1) 1 dX6_rest_1 rfl rfl ?_
  refine xr_iconst (pc := 2) dX6_rest_2 xci_1 ?_
  refine xr_bipush (pc := 3) dX6_rest_3 xcb_30 ?_
  obtain ⟨r1, τ1, hτ1, hf⟩ := xo_bd hf
  refine call_f_t_isAhead (pc := 5) hτ1 rfl (Nat.le_of_ble_eq_true rfl) (Nat.le_of_ble_eq_true rfl) (Nat.le_of_ble_eq_true rfl) dX6_rest_5 ?_
  refine xr_if_ne (pc := 8) 13 dX6_rest_8 (by decide) (fun c_ => ?_) (fun c_ => ?_)
  · have hf := xo_pos c_ hf
    refine xr_iconst (pc := 11) dX6_rest_11 xci_m1 ?_
    rw [kr _ (Option.some.inj hf).symm]
    exact xr_iret (pc := 12) dX6_rest_12 rfl
  · have hf := xo_neg c_ hf
    refine xr_aload_n (pc := 13) 0 dX6_rest_13 rfl rfl ?_
    refine xr_iload_n (pc := 14) 1 dX6_rest_14 rfl rfl ?_
    obtain ⟨τ2, hτ2, hf⟩ := xo_bind hf
    refine call_f_t_laysHavings (pc := 15) hτ2 rfl (Nat.le_of_ble_eq_true rfl) (Nat.le_of_ble_eq_true rfl) (Nat.le_of_ble_eq_true rfl) dX6_rest_15 ?_
    refine xr_iconst (pc := 18) dX6_rest_18 xci_m1 ?_
    refine xr_istore_n (pc := 19) (loc' := [(2, .int (-1)), (0, .ref m), (1, .int x1)]) dX6_rest_19 rfl (by decide) rfl ?_
    refine xr_iconst (pc := 20) dX6_rest_20 xci_0 ?_
    refine xr_istore_n (pc := 21) (loc' := [(3, .int 0), (2, .int (-1)), (0, .ref m), (1, .int x1)]) dX6_rest_21 rfl (by decide) rfl ?_
    refine xV_sub [2, 1, 0] rfl ?_
    obtain ⟨b7, hb7, hf⟩ := xo_bind hf
    refine itr_rule (P := fun s_ : Int32 × Int32 × TS => xV (wT D m) K mX6_rest (xQ (wT D m) K Z) s_.2.2 22 [(0, .ref m), (2, .int s_.1), (3, .int s_.2.1)] []) (fun s_ o_ hB_ hc_ he_ => ok_Bt_rest_22 hB_ hc_ (fun e_ h_ => ?_)) 4096 _ hb7
    · have e9_ := he_ _ h_
      rw [e9_]
      refine xr_iload_n (pc := 64) 0 dX6_rest_64 rfl rfl ?_
      rw [kr _ (Option.some.inj hf).symm]
      exact xr_iret (pc := 65) dX6_rest_65 rfl
theorem met_f_t_rest (l : Launch) {D : TD} {m : Nat} {x1 : Int32} {τ : TS} {o_ : (Int32 × TS)} (hf : f_t_rest x1 τ = some o_) : xMet (wT D m) l yX6_rest (ws_ yX6_rest cX6_rest 4 (some .int)) 10 600 0 0 [.ref m, .int x1] τ (some (.int o_.1), o_.2) :=
  xMet_of (by decide) (Nat.le_of_ble_eq_true rfl) KT_moved (fun _ _ => trivial) (fun K _ _ _ => ok_f_t_rest hf (fun _ h => by rw [h]))
abbrev mX6_barge : xM := (cX6_barge, 3, RX6, 1, 60, (some .int), "barge")
def Jt_barge_69 (x2 : Int32) (s0 : Int32) (s1 : Int32) (τ : TS) : Option ((Int32 × Int32 × TS) ⊕ ((Int32 × TS))) :=
  some (.inl (s1 + s0, x2 + 1, τ))
theorem ok_Jt_barge_69 {D : TD} {m : Nat} {K : xK} {Z : Option Value × TS} {x2 : Int32} {s0 : Int32} {s1 : Int32} {τ : TS} {o_ : ((Int32 × Int32 × TS) ⊕ ((Int32 × TS)))} (hf : Jt_barge_69 x2 s0 s1 τ = some o_) (kc : ∀ s_ : Int32 × Int32 × TS, o_ = .inl s_ → xV (wT D m) K mX6_barge (xQ (wT D m) K Z) s_.2.2 16 [(0, .ref m), (1, .int s_.1), (2, .int s_.2.1)] []) (ke0 : ∀ e_ : Int32 × TS, o_ = .inr e_ → xV (wT D m) K mX6_barge (xQ (wT D m) K Z) e_.2 77 [(1, .int e_.1)] []) : xV (wT D m) K mX6_barge (xQ (wT D m) K Z) τ 69 [(0, .ref m), (2, .int x2)] [.int s0, .int s1] := by
  unfold Jt_barge_69 at hf
  refine xr_iadd (pc := 69) dX6_barge_69 ?_
  refine xr_istore_n (pc := 70) (loc' := [(1, .int (s1 + s0)), (0, .ref m), (2, .int x2)]) dX6_barge_70 rfl (by decide) rfl ?_
  refine xr_iinc (pc := 71) (loc' := [(2, .int (x2 + 1)), (1, .int (s1 + s0)), (0, .ref m)]) 2 dX6_barge_71 rfl xci_1 (by decide) rfl ?_
  refine xr_goto (pc := 74) 16 dX6_barge_74 (by decide) ?_
  refine xV_sub [2, 1, 0] rfl ?_
  exact kc _ (Option.some.inj hf).symm
def Bt_barge_16 (x1 : Int32) (x2 : Int32) (τ : TS) : Option ((Int32 × Int32 × TS) ⊕ ((Int32 × TS))) :=
  xbd (f_t_columnMany τ) fun r2 τ2 =>
  if r2 ≤ x2 then
  some (.inr (x1, τ2))
  else
  xbd (f_t_rowOf x2 τ2) fun r3 τ3 =>
  xbd (f_t_rowOf (x2 - 1) τ3) fun r4 τ4 =>
  if r4 ≤ r3 then
  xbd (f_t_rowOf x2 τ4) fun r5 τ5 =>
  xbd (f_t_rowOf (x2 - 1) τ5) fun r6 τ6 =>
  Jt_barge_69 x2 (r5 - r6) x1 τ6
  else
  xbd (f_t_rowOf (x2 - 1) τ4) fun r7 τ7 =>
  xbd (f_t_rowOf x2 τ7) fun r8 τ8 =>
  Jt_barge_69 x2 (r7 - r8) x1 τ8
theorem ok_Bt_barge_16 {D : TD} {m : Nat} {K : xK} {Z : Option Value × TS} {x1 : Int32} {x2 : Int32} {τ : TS} {o_ : ((Int32 × Int32 × TS) ⊕ ((Int32 × TS)))} (hf : Bt_barge_16 x1 x2 τ = some o_) (kc : ∀ s_ : Int32 × Int32 × TS, o_ = .inl s_ → xV (wT D m) K mX6_barge (xQ (wT D m) K Z) s_.2.2 16 [(0, .ref m), (1, .int s_.1), (2, .int s_.2.1)] []) (ke0 : ∀ e_ : Int32 × TS, o_ = .inr e_ → xV (wT D m) K mX6_barge (xQ (wT D m) K Z) e_.2 77 [(1, .int e_.1)] []) : xV (wT D m) K mX6_barge (xQ (wT D m) K Z) τ 16 [(0, .ref m), (1, .int x1), (2, .int x2)] [] := by
  unfold Bt_barge_16 at hf
  refine xr_iload_n (pc := 16) 2 dX6_barge_16 rfl rfl ?_
  refine xr_aload_n (pc := 17) 0 dX6_barge_17 rfl rfl ?_
  obtain ⟨r2, τ2, hτ2, hf⟩ := xo_bd hf
  refine call_f_t_columnMany (pc := 18) hτ2 rfl (Nat.le_of_ble_eq_true rfl) (Nat.le_of_ble_eq_true rfl) (Nat.le_of_ble_eq_true rfl) dX6_barge_18 ?_
  refine xr_icmp_ge (pc := 21) 77 dX6_barge_21 (by decide) (fun c_ => ?_) (fun c_ => ?_)
  · have hf := xo_pos c_ hf
    refine xV_sub [1] rfl ?_
    exact ke0 _ (Option.some.inj hf).symm
  · have hf := xo_neg c_ hf
    refine xr_iload_n (pc := 24) 1 dX6_barge_24 rfl rfl ?_
    refine xr_aload_n (pc := 25) 0 dX6_barge_25 rfl rfl ?_
    refine xr_iload_n (pc := 26) 2 dX6_barge_26 rfl rfl ?_
    obtain ⟨r3, τ3, hτ3, hf⟩ := xo_bd hf
    refine call_f_t_rowOf (pc := 27) hτ3 rfl (Nat.le_of_ble_eq_true rfl) (Nat.le_of_ble_eq_true rfl) (Nat.le_of_ble_eq_true rfl) dX6_barge_27 ?_
    refine xr_aload_n (pc := 30) 0 dX6_barge_30 rfl rfl ?_
    refine xr_iload_n (pc := 31) 2 dX6_barge_31 rfl rfl ?_
    refine xr_iconst (pc := 32) dX6_barge_32 xci_1 ?_
    refine xr_isub (pc := 33) dX6_barge_33 ?_
    obtain ⟨r4, τ4, hτ4, hf⟩ := xo_bd hf
    refine call_f_t_rowOf (pc := 34) hτ4 rfl (Nat.le_of_ble_eq_true rfl) (Nat.le_of_ble_eq_true rfl) (Nat.le_of_ble_eq_true rfl) dX6_barge_34 ?_
    refine xr_icmp_ge (pc := 37) 56 dX6_barge_37 (by decide) (fun c_ => ?_) (fun c_ => ?_)
    · have hf := xo_pos c_ hf
      refine xr_aload_n (pc := 56) 0 dX6_barge_56 rfl rfl ?_
      refine xr_iload_n (pc := 57) 2 dX6_barge_57 rfl rfl ?_
      obtain ⟨r5, τ5, hτ5, hf⟩ := xo_bd hf
      refine call_f_t_rowOf (pc := 58) hτ5 rfl (Nat.le_of_ble_eq_true rfl) (Nat.le_of_ble_eq_true rfl) (Nat.le_of_ble_eq_true rfl) dX6_barge_58 ?_
      refine xr_aload_n (pc := 61) 0 dX6_barge_61 rfl rfl ?_
      refine xr_iload_n (pc := 62) 2 dX6_barge_62 rfl rfl ?_
      refine xr_iconst (pc := 63) dX6_barge_63 xci_1 ?_
      refine xr_isub (pc := 64) dX6_barge_64 ?_
      obtain ⟨r6, τ6, hτ6, hf⟩ := xo_bd hf
      refine call_f_t_rowOf (pc := 65) hτ6 rfl (Nat.le_of_ble_eq_true rfl) (Nat.le_of_ble_eq_true rfl) (Nat.le_of_ble_eq_true rfl) dX6_barge_65 ?_
      refine xr_isub (pc := 68) dX6_barge_68 ?_
      refine xV_sub [0, 2] rfl ?_
      exact ok_Jt_barge_69 hf kc ke0
    · have hf := xo_neg c_ hf
      refine xr_aload_n (pc := 40) 0 dX6_barge_40 rfl rfl ?_
      refine xr_iload_n (pc := 41) 2 dX6_barge_41 rfl rfl ?_
      refine xr_iconst (pc := 42) dX6_barge_42 xci_1 ?_
      refine xr_isub (pc := 43) dX6_barge_43 ?_
      obtain ⟨r7, τ7, hτ7, hf⟩ := xo_bd hf
      refine call_f_t_rowOf (pc := 44) hτ7 rfl (Nat.le_of_ble_eq_true rfl) (Nat.le_of_ble_eq_true rfl) (Nat.le_of_ble_eq_true rfl) dX6_barge_44 ?_
      refine xr_aload_n (pc := 47) 0 dX6_barge_47 rfl rfl ?_
      refine xr_iload_n (pc := 48) 2 dX6_barge_48 rfl rfl ?_
      obtain ⟨r8, τ8, hτ8, hf⟩ := xo_bd hf
      refine call_f_t_rowOf (pc := 49) hτ8 rfl (Nat.le_of_ble_eq_true rfl) (Nat.le_of_ble_eq_true rfl) (Nat.le_of_ble_eq_true rfl) dX6_barge_49 ?_
      refine xr_isub (pc := 52) dX6_barge_52 ?_
      refine xr_goto (pc := 53) 69 dX6_barge_53 (by decide) ?_
      refine xV_sub [0, 2] rfl ?_
      exact ok_Jt_barge_69 hf kc ke0
def f_t_barge (τ : TS) : Option (Int32 × TS) :=
  if (tI τ 60) = 0 then
  some (((-1), τ))
  else
  xbd (f_t_columnMany τ) fun r1 τ1 =>
  (itr (fun s_ : Int32 × Int32 × TS => Bt_barge_16 s_.1 s_.2.1 s_.2.2) 4096 (r1, 1, τ1)).bind fun b9 =>
  some ((b9.1, b9.2))
theorem ok_f_t_barge {D : TD} {m : Nat} {K : xK} {Z : Option Value × TS} {τ : TS} {o_ : (Int32 × TS)} (hf : f_t_barge τ = some o_) (kr : ∀ r_ : (Int32 × TS), o_ = r_ → Z = (some (.int r_.1), r_.2)) : xV (wT D m) K mX6_barge (xQ (wT D m) K Z) τ 0 [(0, .ref m)] [] := by
  unfold f_t_barge at hf
  refine xr_aload_n (pc := 0) 0 dX6_barge_0 rfl rfl ?_
  refine xt_getI (pc := 1) 60 (by decide) q1806 rfl rfl rfl dX6_barge_1 ?_
  refine xr_if_ne (pc := 4) 9 dX6_barge_4 (by decide) (fun c_ => ?_) (fun c_ => ?_)
  · have hf := xo_pos c_ hf
    refine xr_iconst (pc := 7) dX6_barge_7 xci_m1 ?_
    rw [kr _ (Option.some.inj hf).symm]
    exact xr_iret (pc := 8) dX6_barge_8 rfl
  · have hf := xo_neg c_ hf
    refine xr_aload_n (pc := 9) 0 dX6_barge_9 rfl rfl ?_
    obtain ⟨r1, τ1, hτ1, hf⟩ := xo_bd hf
    refine call_f_t_columnMany (pc := 10) hτ1 rfl (Nat.le_of_ble_eq_true rfl) (Nat.le_of_ble_eq_true rfl) (Nat.le_of_ble_eq_true rfl) dX6_barge_10 ?_
    refine xr_istore_n (pc := 13) (loc' := [(1, .int r1), (0, .ref m)]) dX6_barge_13 rfl (by decide) rfl ?_
    refine xr_iconst (pc := 14) dX6_barge_14 xci_1 ?_
    refine xr_istore_n (pc := 15) (loc' := [(2, .int 1), (1, .int r1), (0, .ref m)]) dX6_barge_15 rfl (by decide) rfl ?_
    refine xV_sub [2, 1, 0] rfl ?_
    obtain ⟨b9, hb9, hf⟩ := xo_bind hf
    refine itr_rule (P := fun s_ : Int32 × Int32 × TS => xV (wT D m) K mX6_barge (xQ (wT D m) K Z) s_.2.2 16 [(0, .ref m), (1, .int s_.1), (2, .int s_.2.1)] []) (fun s_ o_ hB_ hc_ he_ => ok_Bt_barge_16 hB_ hc_ (fun e_ h_ => ?_)) 4096 _ hb9
    · have e9_ := he_ _ h_
      rw [e9_]
      refine xr_iload_n (pc := 77) 0 dX6_barge_77 rfl rfl ?_
      rw [kr _ (Option.some.inj hf).symm]
      exact xr_iret (pc := 78) dX6_barge_78 rfl
theorem met_f_t_barge (l : Launch) {D : TD} {m : Nat} {τ : TS} {o_ : (Int32 × TS)} (hf : f_t_barge τ = some o_) : xMet (wT D m) l yX6_barge (ws_ yX6_barge cX6_barge 3 (some .int)) 1 60 0 0 [.ref m] τ (some (.int o_.1), o_.2) :=
  xMet_of (by decide) (Nat.le_of_ble_eq_true rfl) KT_moved (fun _ _ => trivial) (fun K _ _ _ => ok_f_t_barge hf (fun _ h => by rw [h]))
theorem hd_f_t_barge : yX6_barge.cls = RX6 ∧ yX6_barge.cls ≠ "java/lang/invoke/MethodHandle" ∧ yX6_barge.cls ≠ "java/lang/invoke/VarHandle" ∧ (parseMethodDescriptor yX6_barge.desc).map (fun d => d.parameters.length) = some 0 := by decide +kernel
theorem call_f_t_barge {D : TD} {m : Nat} {K : xK} {M : xM} {Q : State → Prop} {τ : TS} {pc : Nat} {loc : List (Nat × Value)} {st : List Value} {r : Int32} {τ1 : TS} (hf : f_t_barge τ = some (r, τ1)) (ho : M.2.2.1 = RX6) (hfr : 2 ≤ M.2.2.2.1) (hlo : 82 ≤ M.2.2.2.2.1) (hcat : (st.map fun v => v.category).sum ≤ 8) (d : decode M.1 pc = .ok (.invokevirtual 650, 3)) (k : xV (wT D m) K M Q τ1 (pc + 3) loc (.int r :: st)) : xV (wT D m) K M Q τ pc loc (.ref m :: st) :=
  xr_callV (As := []) (rest := st) (met_f_t_barge K.2.1 hf) (lw_V q2590 q2583 q2584 q186 q2585) hd_f_t_barge ho hfr hlo rfl (fun H hR hK => t_recv H hR hK) rfl hcat d k
abbrev mX6_halfOf : xM := (cX6_halfOf, 2, RX6, 2, 120, (some .int), "halfOf")
def f_t_halfOf (x1 : Int32) (τ : TS) : Option (Int32 × TS) :=
  xbd (f_t_beforeOf x1 τ) fun r1 τ1 =>
  xbd (f_t_behindOf x1 τ1) fun r2 τ2 =>
  some (((r1 + r2) / 2, τ2))
theorem ok_f_t_halfOf {D : TD} {m : Nat} {K : xK} {Z : Option Value × TS} {x1 : Int32} {τ : TS} {o_ : (Int32 × TS)} (hf : f_t_halfOf x1 τ = some o_) (kr : ∀ r_ : (Int32 × TS), o_ = r_ → Z = (some (.int r_.1), r_.2)) : xV (wT D m) K mX6_halfOf (xQ (wT D m) K Z) τ 0 [(0, .ref m), (1, .int x1)] [] := by
  unfold f_t_halfOf at hf
  refine xr_aload_n (pc := 0) 0 dX6_halfOf_0 rfl rfl ?_
  refine xr_iload_n (pc := 1) 1 dX6_halfOf_1 rfl rfl ?_
  obtain ⟨r1, τ1, hτ1, hf⟩ := xo_bd hf
  refine call_f_t_beforeOf (pc := 2) hτ1 rfl (Nat.le_of_ble_eq_true rfl) (Nat.le_of_ble_eq_true rfl) (Nat.le_of_ble_eq_true rfl) dX6_halfOf_2 ?_
  refine xr_aload_n (pc := 5) 0 dX6_halfOf_5 rfl rfl ?_
  refine xr_iload_n (pc := 6) 1 dX6_halfOf_6 rfl rfl ?_
  obtain ⟨r2, τ2, hτ2, hf⟩ := xo_bd hf
  refine call_f_t_behindOf (pc := 7) hτ2 rfl (Nat.le_of_ble_eq_true rfl) (Nat.le_of_ble_eq_true rfl) (Nat.le_of_ble_eq_true rfl) dX6_halfOf_7 ?_
  refine xr_iadd (pc := 10) dX6_halfOf_10 ?_
  refine xr_iconst (pc := 11) dX6_halfOf_11 xci_2 ?_
  refine xr_idiv (pc := 12) dX6_halfOf_12 (by decide) ?_
  rw [kr _ (Option.some.inj hf).symm]
  exact xr_iret (pc := 13) dX6_halfOf_13 rfl
theorem met_f_t_halfOf (l : Launch) {D : TD} {m : Nat} {x1 : Int32} {τ : TS} {o_ : (Int32 × TS)} (hf : f_t_halfOf x1 τ = some o_) : xMet (wT D m) l yX6_halfOf (ws_ yX6_halfOf cX6_halfOf 2 (some .int)) 2 120 0 0 [.ref m, .int x1] τ (some (.int o_.1), o_.2) :=
  xMet_of (by decide) (Nat.le_of_ble_eq_true rfl) KT_moved (fun _ _ => trivial) (fun K _ _ _ => ok_f_t_halfOf hf (fun _ h => by rw [h]))
theorem hd_f_t_halfOf : yX6_halfOf.cls = RX6 ∧ yX6_halfOf.cls ≠ "java/lang/invoke/MethodHandle" ∧ yX6_halfOf.cls ≠ "java/lang/invoke/VarHandle" ∧ (parseMethodDescriptor yX6_halfOf.desc).map (fun d => d.parameters.length) = some 1 := by decide +kernel
theorem call_f_t_halfOf {D : TD} {m : Nat} {K : xK} {M : xM} {Q : State → Prop} {x1 : Int32} {τ : TS} {pc : Nat} {loc : List (Nat × Value)} {st : List Value} {r : Int32} {τ1 : TS} (hf : f_t_halfOf x1 τ = some (r, τ1)) (ho : M.2.2.1 = RX6) (hfr : 3 ≤ M.2.2.2.1) (hlo : 141 ≤ M.2.2.2.2.1) (hcat : (st.map fun v => v.category).sum ≤ 8) (d : decode M.1 pc = .ok (.invokevirtual 653, 3)) (k : xV (wT D m) K M Q τ1 (pc + 3) loc (.int r :: st)) : xV (wT D m) K M Q τ pc loc (.int x1 :: .ref m :: st) :=
  xr_callV (As := [.int x1]) (rest := st) (met_f_t_halfOf K.2.1 hf) (lw_V q2591 q2593 qs152 q186 q2594) hd_f_t_halfOf ho hfr hlo rfl (fun H hR hK => t_recv H hR hK) rfl hcat d k
abbrev mX6_cuts : xM := (cX6_cuts, 6, RX6, 3, 180, (some .int), "cuts")
def Jt_cuts_78 (x1 : Int32) (x2 : Int32) (x3 : Int32) (τ : TS) : Option ((Int32 × Int32 × Int32 × TS) ⊕ ((Int32 × TS))) :=
  some (.inl (x1, x2, x3 + 1, τ))
theorem ok_Jt_cuts_78 {D : TD} {m : Nat} {K : xK} {Z : Option Value × TS} {x1 : Int32} {x2 : Int32} {x3 : Int32} {τ : TS} {o_ : ((Int32 × Int32 × Int32 × TS) ⊕ ((Int32 × TS)))} (hf : Jt_cuts_78 x1 x2 x3 τ = some o_) (kc : ∀ s_ : Int32 × Int32 × Int32 × TS, o_ = .inl s_ → xV (wT D m) K mX6_cuts (xQ (wT D m) K Z) s_.2.2.2 18 [(0, .ref m), (1, .int s_.1), (2, .int s_.2.1), (3, .int s_.2.2.1)] []) (ke0 : ∀ e_ : Int32 × TS, o_ = .inr e_ → xV (wT D m) K mX6_cuts (xQ (wT D m) K Z) e_.2 84 [(2, .int e_.1)] []) : xV (wT D m) K mX6_cuts (xQ (wT D m) K Z) τ 78 [(0, .ref m), (1, .int x1), (2, .int x2), (3, .int x3)] [] := by
  unfold Jt_cuts_78 at hf
  refine xr_iinc (pc := 78) (loc' := [(3, .int (x3 + 1)), (0, .ref m), (1, .int x1), (2, .int x2)]) 3 dX6_cuts_78 rfl xci_1 (by decide) rfl ?_
  refine xr_goto (pc := 81) 18 dX6_cuts_81 (by decide) ?_
  refine xV_sub [1, 2, 3, 0] rfl ?_
  exact kc _ (Option.some.inj hf).symm
def Bt_cuts_18 (x1 : Int32) (x2 : Int32) (x3 : Int32) (τ : TS) : Option ((Int32 × Int32 × Int32 × TS) ⊕ ((Int32 × TS))) :=
  xbd (f_t_columnMany τ) fun r2 τ2 =>
  if (r2 - 1) ≤ x3 then
  some (.inr (x2, τ2))
  else
  xbd (f_t_rowOf x3 τ2) fun r3 τ3 =>
  xbd (f_t_halfOf x3 τ3) fun r4 τ4 =>
  if xin (2 + x3) 303 = true then
  xbd (f_t_barge (sA τ4 62 (2 + x3).toNatClampNeg r4)) fun r5 τ5 =>
  if xin (2 + x3) 303 = true then
  if r5 < x1 then
  Jt_cuts_78 r5 x3 x3 (sA τ5 62 (2 + x3).toNatClampNeg r3)
  else
  Jt_cuts_78 x1 x2 x3 (sA τ5 62 (2 + x3).toNatClampNeg r3)
  else none
  else none
theorem ok_Bt_cuts_18 {D : TD} {m : Nat} {K : xK} {Z : Option Value × TS} {x1 : Int32} {x2 : Int32} {x3 : Int32} {τ : TS} {o_ : ((Int32 × Int32 × Int32 × TS) ⊕ ((Int32 × TS)))} (hf : Bt_cuts_18 x1 x2 x3 τ = some o_) (kc : ∀ s_ : Int32 × Int32 × Int32 × TS, o_ = .inl s_ → xV (wT D m) K mX6_cuts (xQ (wT D m) K Z) s_.2.2.2 18 [(0, .ref m), (1, .int s_.1), (2, .int s_.2.1), (3, .int s_.2.2.1)] []) (ke0 : ∀ e_ : Int32 × TS, o_ = .inr e_ → xV (wT D m) K mX6_cuts (xQ (wT D m) K Z) e_.2 84 [(2, .int e_.1)] []) : xV (wT D m) K mX6_cuts (xQ (wT D m) K Z) τ 18 [(0, .ref m), (1, .int x1), (2, .int x2), (3, .int x3)] [] := by
  unfold Bt_cuts_18 at hf
  refine xr_iload_n (pc := 18) 3 dX6_cuts_18 rfl rfl ?_
  refine xr_aload_n (pc := 19) 0 dX6_cuts_19 rfl rfl ?_
  obtain ⟨r2, τ2, hτ2, hf⟩ := xo_bd hf
  refine call_f_t_columnMany (pc := 20) hτ2 rfl (Nat.le_of_ble_eq_true rfl) (Nat.le_of_ble_eq_true rfl) (Nat.le_of_ble_eq_true rfl) dX6_cuts_20 ?_
  refine xr_iconst (pc := 23) dX6_cuts_23 xci_1 ?_
  refine xr_isub (pc := 24) dX6_cuts_24 ?_
  refine xr_icmp_ge (pc := 25) 84 dX6_cuts_25 (by decide) (fun c_ => ?_) (fun c_ => ?_)
  · have hf := xo_pos c_ hf
    refine xV_sub [2] rfl ?_
    exact ke0 _ (Option.some.inj hf).symm
  · have hf := xo_neg c_ hf
    refine xr_aload_n (pc := 28) 0 dX6_cuts_28 rfl rfl ?_
    refine xr_iload_n (pc := 29) 3 dX6_cuts_29 rfl rfl ?_
    obtain ⟨r3, τ3, hτ3, hf⟩ := xo_bd hf
    refine call_f_t_rowOf (pc := 30) hτ3 rfl (Nat.le_of_ble_eq_true rfl) (Nat.le_of_ble_eq_true rfl) (Nat.le_of_ble_eq_true rfl) dX6_cuts_30 ?_
    refine xr_istore (pc := 33) (loc' := [(4, .int r3), (0, .ref m), (1, .int x1), (2, .int x2), (3, .int x3)]) dX6_cuts_33 (by decide) rfl ?_
    refine xr_aload_n (pc := 35) 1 dX6_cuts_35 rfl rfl ?_
    refine xt_getA (pc := 36) 62 (by decide) q1808 rfl rfl rfl dX6_cuts_36 ?_
    refine xr_iconst (pc := 39) dX6_cuts_39 xci_2 ?_
    refine xr_iload_n (pc := 40) 4 dX6_cuts_40 rfl rfl ?_
    refine xr_iadd (pc := 41) dX6_cuts_41 ?_
    refine xr_aload_n (pc := 42) 1 dX6_cuts_42 rfl rfl ?_
    refine xr_iload_n (pc := 43) 4 dX6_cuts_43 rfl rfl ?_
    obtain ⟨r4, τ4, hτ4, hf⟩ := xo_bd hf
    refine call_f_t_halfOf (pc := 44) hτ4 rfl (Nat.le_of_ble_eq_true rfl) (Nat.le_of_ble_eq_true rfl) (Nat.le_of_ble_eq_true rfl) dX6_cuts_44 ?_
    obtain ⟨hi_, hf⟩ := xo_if hf
    refine xt_iast (pc := 47) 62 rfl rfl hi_ dX6_cuts_47 ?_
    refine xr_aload_n (pc := 48) 1 dX6_cuts_48 rfl rfl ?_
    obtain ⟨r5, τ5, hτ5, hf⟩ := xo_bd hf
    refine call_f_t_barge (pc := 49) hτ5 rfl (Nat.le_of_ble_eq_true rfl) (Nat.le_of_ble_eq_true rfl) (Nat.le_of_ble_eq_true rfl) dX6_cuts_49 ?_
    refine xr_istore (pc := 52) (loc' := [(5, .int r5), (4, .int r3), (0, .ref m), (1, .int x1), (2, .int x2), (3, .int x3)]) dX6_cuts_52 (by decide) rfl ?_
    refine xr_aload_n (pc := 54) 2 dX6_cuts_54 rfl rfl ?_
    refine xt_getA (pc := 55) 62 (by decide) q1808 rfl rfl rfl dX6_cuts_55 ?_
    refine xr_iconst (pc := 58) dX6_cuts_58 xci_2 ?_
    refine xr_iload_n (pc := 59) 5 dX6_cuts_59 rfl rfl ?_
    refine xr_iadd (pc := 60) dX6_cuts_60 ?_
    refine xr_iload (pc := 61) 1 dX6_cuts_61 rfl ?_
    obtain ⟨hi_, hf⟩ := xo_if hf
    refine xt_iast (pc := 63) 62 rfl rfl hi_ dX6_cuts_63 ?_
    refine xr_iload (pc := 64) 0 dX6_cuts_64 rfl ?_
    refine xr_iload_n (pc := 66) 3 dX6_cuts_66 rfl rfl ?_
    refine xr_icmp_lt (pc := 67) 73 dX6_cuts_67 (by decide) (fun c_ => ?_) (fun c_ => ?_)
    · have hf := xo_pos c_ hf
      refine xr_iload (pc := 73) 0 dX6_cuts_73 rfl ?_
      refine xr_istore_n (pc := 75) (loc' := [(1, .int r5), (5, .int r5), (4, .int r3), (0, .ref m), (2, .int x2), (3, .int x3)]) dX6_cuts_75 rfl (by decide) rfl ?_
      refine xr_iload_n (pc := 76) 5 dX6_cuts_76 rfl rfl ?_
      refine xr_istore_n (pc := 77) (loc' := [(2, .int x3), (1, .int r5), (5, .int r5), (4, .int r3), (0, .ref m), (3, .int x3)]) dX6_cuts_77 rfl (by decide) rfl ?_
      refine xV_sub [4, 1, 0, 5] rfl ?_
      exact ok_Jt_cuts_78 hf kc ke0
    · have hf := xo_neg c_ hf
      refine xr_goto (pc := 70) 78 dX6_cuts_70 (by decide) ?_
      refine xV_sub [2, 3, 4, 5] rfl ?_
      exact ok_Jt_cuts_78 hf kc ke0
def f_t_cuts (τ : TS) : Option (Int32 × TS) :=
  if (tI τ 60) = 0 then
  some (((-1), τ))
  else
  xbd (f_t_barge τ) fun r1 τ1 =>
  (itr (fun s_ : Int32 × Int32 × Int32 × TS => Bt_cuts_18 s_.1 s_.2.1 s_.2.2.1 s_.2.2.2) 4096 (r1, (-1), 1, τ1)).bind fun b6 =>
  some ((b6.1, b6.2))
theorem ok_f_t_cuts {D : TD} {m : Nat} {K : xK} {Z : Option Value × TS} {τ : TS} {o_ : (Int32 × TS)} (hf : f_t_cuts τ = some o_) (kr : ∀ r_ : (Int32 × TS), o_ = r_ → Z = (some (.int r_.1), r_.2)) : xV (wT D m) K mX6_cuts (xQ (wT D m) K Z) τ 0 [(0, .ref m)] [] := by
  unfold f_t_cuts at hf
  refine xr_aload_n (pc := 0) 0 dX6_cuts_0 rfl rfl ?_
  refine xt_getI (pc := 1) 60 (by decide) q1806 rfl rfl rfl dX6_cuts_1 ?_
  refine xr_if_ne (pc := 4) 9 dX6_cuts_4 (by decide) (fun c_ => ?_) (fun c_ => ?_)
  · have hf := xo_pos c_ hf
    refine xr_iconst (pc := 7) dX6_cuts_7 xci_m1 ?_
    rw [kr _ (Option.some.inj hf).symm]
    exact xr_iret (pc := 8) dX6_cuts_8 rfl
  · have hf := xo_neg c_ hf
    refine xr_aload_n (pc := 9) 0 dX6_cuts_9 rfl rfl ?_
    obtain ⟨r1, τ1, hτ1, hf⟩ := xo_bd hf
    refine call_f_t_barge (pc := 10) hτ1 rfl (Nat.le_of_ble_eq_true rfl) (Nat.le_of_ble_eq_true rfl) (Nat.le_of_ble_eq_true rfl) dX6_cuts_10 ?_
    refine xr_istore_n (pc := 13) (loc' := [(1, .int r1), (0, .ref m)]) dX6_cuts_13 rfl (by decide) rfl ?_
    refine xr_iconst (pc := 14) dX6_cuts_14 xci_m1 ?_
    refine xr_istore_n (pc := 15) (loc' := [(2, .int (-1)), (1, .int r1), (0, .ref m)]) dX6_cuts_15 rfl (by decide) rfl ?_
    refine xr_iconst (pc := 16) dX6_cuts_16 xci_1 ?_
    refine xr_istore_n (pc := 17) (loc' := [(3, .int 1), (2, .int (-1)), (1, .int r1), (0, .ref m)]) dX6_cuts_17 rfl (by decide) rfl ?_
    refine xV_sub [3, 2, 1, 0] rfl ?_
    obtain ⟨b6, hb6, hf⟩ := xo_bind hf
    refine itr_rule (P := fun s_ : Int32 × Int32 × Int32 × TS => xV (wT D m) K mX6_cuts (xQ (wT D m) K Z) s_.2.2.2 18 [(0, .ref m), (1, .int s_.1), (2, .int s_.2.1), (3, .int s_.2.2.1)] []) (fun s_ o_ hB_ hc_ he_ => ok_Bt_cuts_18 hB_ hc_ (fun e_ h_ => ?_)) 4096 _ hb6
    · have e9_ := he_ _ h_
      rw [e9_]
      refine xr_iload_n (pc := 84) 0 dX6_cuts_84 rfl rfl ?_
      rw [kr _ (Option.some.inj hf).symm]
      exact xr_iret (pc := 85) dX6_cuts_85 rfl
theorem met_f_t_cuts (l : Launch) {D : TD} {m : Nat} {τ : TS} {o_ : (Int32 × TS)} (hf : f_t_cuts τ = some o_) : xMet (wT D m) l yX6_cuts (ws_ yX6_cuts cX6_cuts 6 (some .int)) 3 180 0 0 [.ref m] τ (some (.int o_.1), o_.2) :=
  xMet_of (by decide) (Nat.le_of_ble_eq_true rfl) KT_moved (fun _ _ => trivial) (fun K _ _ _ => ok_f_t_cuts hf (fun _ h => by rw [h]))
abbrev mX6_isReach : xM := (cX6_isReach, 3, RX6, 1, 60, (some .boolean), "isReach")
def f_t_isReach (x1 : Int32) (x2 : Int32) (τ : TS) : Option (Int32 × TS) :=
  if xin 5 6 = true then
  if xin 5 6 = true then
  xbd (f_t_isIn ((x1 - x2).toInt64) ((-(tA τ 45 (5 : Int32).toNatClampNeg)).toInt64) ((tA τ 45 (5 : Int32).toNatClampNeg).toInt64) τ) fun r1 τ1 =>
  some ((r1 &&& 1, τ1))
  else none
  else none
theorem ok_f_t_isReach {D : TD} {m : Nat} {K : xK} {Z : Option Value × TS} {x1 : Int32} {x2 : Int32} {τ : TS} {o_ : (Int32 × TS)} (hf : f_t_isReach x1 x2 τ = some o_) (kr : ∀ r_ : (Int32 × TS), o_ = r_ → Z = (some (.int r_.1), r_.2)) : xV (wT D m) K mX6_isReach (xQ (wT D m) K Z) τ 0 [(0, .ref m), (1, .int x1), (2, .int x2)] [] := by
  unfold f_t_isReach at hf
  refine xr_iload_n (pc := 0) 1 dX6_isReach_0 rfl rfl ?_
  refine xr_iload_n (pc := 1) 2 dX6_isReach_1 rfl rfl ?_
  refine xr_isub (pc := 2) dX6_isReach_2 ?_
  refine xr_i2l (pc := 3) dX6_isReach_3 ?_
  refine xr_aload_n (pc := 4) 0 dX6_isReach_4 rfl rfl ?_
  refine xt_getA (pc := 5) 45 (by decide) q1791 rfl rfl rfl dX6_isReach_5 ?_
  refine xr_iconst (pc := 8) dX6_isReach_8 xci_5 ?_
  obtain ⟨hi_, hf⟩ := xo_if hf
  refine xt_iald (pc := 9) 45 rfl rfl hi_ dX6_isReach_9 ?_
  refine xr_ineg (pc := 10) dX6_isReach_10 ?_
  refine xr_i2l (pc := 11) dX6_isReach_11 ?_
  refine xr_aload_n (pc := 12) 0 dX6_isReach_12 rfl rfl ?_
  refine xt_getA (pc := 13) 45 (by decide) q1791 rfl rfl rfl dX6_isReach_13 ?_
  refine xr_iconst (pc := 16) dX6_isReach_16 xci_5 ?_
  obtain ⟨hi_, hf⟩ := xo_if hf
  refine xt_iald (pc := 17) 45 rfl rfl hi_ dX6_isReach_17 ?_
  refine xr_i2l (pc := 18) dX6_isReach_18 ?_
  obtain ⟨r1, τ1, hτ1, hf⟩ := xo_bd hf
  refine call_f_t_isIn (pc := 19) hτ1 rfl (Nat.le_of_ble_eq_true rfl) (Nat.le_of_ble_eq_true rfl) (Nat.le_of_ble_eq_true rfl) dX6_isReach_19 ?_
  rw [kr _ (Option.some.inj hf).symm]
  exact xr_zret (pc := 22) dX6_isReach_22 rfl rfl
theorem met_f_t_isReach (l : Launch) {D : TD} {m : Nat} {x1 : Int32} {x2 : Int32} {τ : TS} {o_ : (Int32 × TS)} (hf : f_t_isReach x1 x2 τ = some o_) : xMet (wT D m) l yX6_isReach (ws_ yX6_isReach cX6_isReach 3 (some .boolean)) 1 60 0 0 [.ref m, .int x1, .int x2] τ (some (.int o_.1), o_.2) :=
  xMet_of (by decide) (Nat.le_of_ble_eq_true rfl) KT_moved (fun _ _ => trivial) (fun K _ _ _ => ok_f_t_isReach hf (fun _ h => by rw [h]))
theorem hd_f_t_isReach : yX6_isReach.cls = RX6 ∧ yX6_isReach.cls ≠ "java/lang/invoke/MethodHandle" ∧ yX6_isReach.cls ≠ "java/lang/invoke/VarHandle" ∧ (parseMethodDescriptor yX6_isReach.desc).map (fun d => d.parameters.length) = some 2 := by decide +kernel
theorem call_f_t_isReach {D : TD} {m : Nat} {K : xK} {M : xM} {Q : State → Prop} {x1 : Int32} {x2 : Int32} {τ : TS} {pc : Nat} {loc : List (Nat × Value)} {st : List Value} {r : Int32} {τ1 : TS} (hf : f_t_isReach x1 x2 τ = some (r, τ1)) (ho : M.2.2.1 = RX6) (hfr : 2 ≤ M.2.2.2.1) (hlo : 82 ≤ M.2.2.2.2.1) (hcat : (st.map fun v => v.category).sum ≤ 8) (d : decode M.1 pc = .ok (.invokevirtual 656, 3)) (k : xV (wT D m) K M Q τ1 (pc + 3) loc (.int r :: st)) : xV (wT D m) K M Q τ pc loc (.int x2 :: .int x1 :: .ref m :: st) :=
  xr_callV (As := [.int x1, .int x2]) (rest := st) (met_f_t_isReach K.2.1 hf) (lw_V q2607 q2609 qs155 q186 q2610) hd_f_t_isReach ho hfr hlo rfl (fun H hR hK => t_recv H hR hK) rfl hcat d k
abbrev mX6_dreamsOf : xM := (cX6_dreamsOf, 8, RX6, 6, 360, none, "dreamsOf")
def Jt_dreamsOf_173 (x1 : Int32) (x2 : Int32) (x3 : Int32) (x4 : Int32) (x5 : Int32) (x6 : Int32) (τ : TS) : Option ((Int32 × TS) ⊕ ((TS))) :=
  some (.inl (x6 + 1, τ))
theorem ok_Jt_dreamsOf_173 {D : TD} {m : Nat} {K : xK} {Z : Option Value × TS} {x1 : Int32} {x2 : Int32} {x3 : Int32} {x4 : Int32} {x5 : Int32} {x6 : Int32} {τ : TS} {o_ : ((Int32 × TS) ⊕ ((TS)))} (hf : Jt_dreamsOf_173 x1 x2 x3 x4 x5 x6 τ = some o_) (kc : ∀ s_ : Int32 × TS, o_ = .inl s_ → xV (wT D m) K mX6_dreamsOf (xQ (wT D m) K Z) s_.2 66 [(0, .ref m), (1, .int x1), (2, .int x2), (3, .int x3), (4, .int x4), (5, .int x5), (6, .int s_.1)] []) (ke0 : ∀ e_ : TS, o_ = .inr e_ → xV (wT D m) K mX6_dreamsOf (xQ (wT D m) K Z) e_ 179 [] []) : xV (wT D m) K mX6_dreamsOf (xQ (wT D m) K Z) τ 173 [(0, .ref m), (1, .int x1), (2, .int x2), (3, .int x3), (4, .int x4), (5, .int x5), (6, .int x6)] [] := by
  unfold Jt_dreamsOf_173 at hf
  refine xr_iinc (pc := 173) (loc' := [(6, .int (x6 + 1)), (0, .ref m), (1, .int x1), (2, .int x2), (3, .int x3), (4, .int x4), (5, .int x5)]) 6 dX6_dreamsOf_173 rfl xci_1 (by decide) rfl ?_
  refine xr_goto (pc := 176) 66 dX6_dreamsOf_176 (by decide) ?_
  refine xV_sub [1, 2, 3, 4, 5, 6, 0] rfl ?_
  exact kc _ (Option.some.inj hf).symm
def Jt_dreamsOf_155 (x1 : Int32) (x2 : Int32) (x3 : Int32) (x4 : Int32) (x5 : Int32) (x6 : Int32) (x7 : Int32) (τ : TS) : Option ((Int32 × TS) ⊕ ((TS))) :=
  if xin x4 640 = true then
  if xin x4 640 = true then
  Jt_dreamsOf_173 x1 x2 x3 x4 x5 x6 (sA (sA τ 76 x4.toNatClampNeg x7) 77 x4.toNatClampNeg x6)
  else none
  else none
theorem ok_Jt_dreamsOf_155 {D : TD} {m : Nat} {K : xK} {Z : Option Value × TS} {x1 : Int32} {x2 : Int32} {x3 : Int32} {x4 : Int32} {x5 : Int32} {x6 : Int32} {x7 : Int32} {τ : TS} {o_ : ((Int32 × TS) ⊕ ((TS)))} (hf : Jt_dreamsOf_155 x1 x2 x3 x4 x5 x6 x7 τ = some o_) (kc : ∀ s_ : Int32 × TS, o_ = .inl s_ → xV (wT D m) K mX6_dreamsOf (xQ (wT D m) K Z) s_.2 66 [(0, .ref m), (1, .int x1), (2, .int x2), (3, .int x3), (4, .int x4), (5, .int x5), (6, .int s_.1)] []) (ke0 : ∀ e_ : TS, o_ = .inr e_ → xV (wT D m) K mX6_dreamsOf (xQ (wT D m) K Z) e_ 179 [] []) : xV (wT D m) K mX6_dreamsOf (xQ (wT D m) K Z) τ 155 [(0, .ref m), (1, .int x1), (2, .int x2), (3, .int x3), (4, .int x4), (5, .int x5), (6, .int x6), (7, .int x7)] [] := by
  unfold Jt_dreamsOf_155 at hf
  refine xr_aload_n (pc := 155) 0 dX6_dreamsOf_155 rfl rfl ?_
  refine xt_getA (pc := 156) 76 (by decide) q1822 rfl rfl rfl dX6_dreamsOf_156 ?_
  refine xr_iload (pc := 159) 4 dX6_dreamsOf_159 rfl ?_
  refine xr_iload (pc := 161) 7 dX6_dreamsOf_161 rfl ?_
  obtain ⟨hi_, hf⟩ := xo_if hf
  refine xt_iast (pc := 163) 76 rfl rfl hi_ dX6_dreamsOf_163 ?_
  refine xr_aload_n (pc := 164) 0 dX6_dreamsOf_164 rfl rfl ?_
  refine xt_getA (pc := 165) 77 (by decide) q1823 rfl rfl rfl dX6_dreamsOf_165 ?_
  refine xr_iload (pc := 168) 4 dX6_dreamsOf_168 rfl ?_
  refine xr_iload (pc := 170) 6 dX6_dreamsOf_170 rfl ?_
  obtain ⟨hi_, hf⟩ := xo_if hf
  refine xt_iast (pc := 172) 77 rfl rfl hi_ dX6_dreamsOf_172 ?_
  refine xV_sub [0, 1, 2, 3, 4, 5, 6] rfl ?_
  exact ok_Jt_dreamsOf_173 hf kc ke0
def Jt_dreamsOf_106 (x1 : Int32) (x2 : Int32) (x3 : Int32) (x4 : Int32) (x5 : Int32) (x6 : Int32) (s0 : Int32) (τ : TS) : Option ((Int32 × TS) ⊕ ((TS))) :=
  if xin ((((64 * x1) + 64) + (8 * x3)) + x6) 640 = true then
  if xin x4 640 = true then
  if (tA τ 77 x4.toNatClampNeg) = (-1) then
  Jt_dreamsOf_155 x1 x2 x3 x4 x5 x6 (s0 + (tA τ 76 ((((64 * x1) + 64) + (8 * x3)) + x6).toNatClampNeg)) τ
  else
  if xin x4 640 = true then
  if (tA τ 76 x4.toNatClampNeg) < (s0 + (tA τ 76 ((((64 * x1) + 64) + (8 * x3)) + x6).toNatClampNeg)) then
  Jt_dreamsOf_155 x1 x2 x3 x4 x5 x6 (s0 + (tA τ 76 ((((64 * x1) + 64) + (8 * x3)) + x6).toNatClampNeg)) τ
  else
  Jt_dreamsOf_173 x1 x2 x3 x4 x5 x6 τ
  else none
  else none
  else none
theorem ok_Jt_dreamsOf_106 {D : TD} {m : Nat} {K : xK} {Z : Option Value × TS} {x1 : Int32} {x2 : Int32} {x3 : Int32} {x4 : Int32} {x5 : Int32} {x6 : Int32} {s0 : Int32} {τ : TS} {o_ : ((Int32 × TS) ⊕ ((TS)))} (hf : Jt_dreamsOf_106 x1 x2 x3 x4 x5 x6 s0 τ = some o_) (kc : ∀ s_ : Int32 × TS, o_ = .inl s_ → xV (wT D m) K mX6_dreamsOf (xQ (wT D m) K Z) s_.2 66 [(0, .ref m), (1, .int x1), (2, .int x2), (3, .int x3), (4, .int x4), (5, .int x5), (6, .int s_.1)] []) (ke0 : ∀ e_ : TS, o_ = .inr e_ → xV (wT D m) K mX6_dreamsOf (xQ (wT D m) K Z) e_ 179 [] []) : xV (wT D m) K mX6_dreamsOf (xQ (wT D m) K Z) τ 106 [(0, .ref m), (1, .int x1), (2, .int x2), (3, .int x3), (4, .int x4), (5, .int x5), (6, .int x6)] [.int s0] := by
  unfold Jt_dreamsOf_106 at hf
  refine xr_aload_n (pc := 106) 0 dX6_dreamsOf_106 rfl rfl ?_
  refine xt_getA (pc := 107) 76 (by decide) q1822 rfl rfl rfl dX6_dreamsOf_107 ?_
  refine xr_bipush (pc := 110) dX6_dreamsOf_110 xcb_64 ?_
  refine xr_iload_n (pc := 112) 1 dX6_dreamsOf_112 rfl rfl ?_
  refine xr_imul (pc := 113) dX6_dreamsOf_113 ?_
  refine xr_bipush (pc := 114) dX6_dreamsOf_114 xcb_64 ?_
  refine xr_iadd (pc := 116) dX6_dreamsOf_116 ?_
  refine xr_bipush (pc := 117) dX6_dreamsOf_117 xcb_8 ?_
  refine xr_iload_n (pc := 119) 3 dX6_dreamsOf_119 rfl rfl ?_
  refine xr_imul (pc := 120) dX6_dreamsOf_120 ?_
  refine xr_iadd (pc := 121) dX6_dreamsOf_121 ?_
  refine xr_iload (pc := 122) 6 dX6_dreamsOf_122 rfl ?_
  refine xr_iadd (pc := 124) dX6_dreamsOf_124 ?_
  obtain ⟨hi_, hf⟩ := xo_if hf
  refine xt_iald (pc := 125) 76 rfl rfl hi_ dX6_dreamsOf_125 ?_
  refine xr_iadd (pc := 126) dX6_dreamsOf_126 ?_
  refine xr_istore (pc := 127) (loc' := [(7, .int (s0 + (tA τ 76 ((((64 * x1) + 64) + (8 * x3)) + x6).toNatClampNeg))), (0, .ref m), (1, .int x1), (2, .int x2), (3, .int x3), (4, .int x4), (5, .int x5), (6, .int x6)]) dX6_dreamsOf_127 (by decide) rfl ?_
  refine xr_aload_n (pc := 129) 1 dX6_dreamsOf_129 rfl rfl ?_
  refine xt_getA (pc := 130) 77 (by decide) q1823 rfl rfl rfl dX6_dreamsOf_130 ?_
  refine xr_iload (pc := 133) 5 dX6_dreamsOf_133 rfl ?_
  obtain ⟨hi_, hf⟩ := xo_if hf
  refine xt_iald (pc := 135) 77 rfl rfl hi_ dX6_dreamsOf_135 ?_
  refine xr_iconst (pc := 136) dX6_dreamsOf_136 xci_m1 ?_
  refine xr_icmp_eq (pc := 137) 155 dX6_dreamsOf_137 (by decide) (fun c_ => ?_) (fun c_ => ?_)
  · have hf := xo_pos c_ hf
    refine xV_sub [1, 2, 3, 4, 5, 6, 7, 0] rfl ?_
    exact ok_Jt_dreamsOf_155 hf kc ke0
  · have hf := xo_neg c_ hf
    refine xr_iload (pc := 140) 0 dX6_dreamsOf_140 rfl ?_
    refine xr_aload_n (pc := 142) 1 dX6_dreamsOf_142 rfl rfl ?_
    refine xt_getA (pc := 143) 76 (by decide) q1822 rfl rfl rfl dX6_dreamsOf_143 ?_
    refine xr_iload (pc := 146) 5 dX6_dreamsOf_146 rfl ?_
    obtain ⟨hi_, hf⟩ := xo_if hf
    refine xt_iald (pc := 148) 76 rfl rfl hi_ dX6_dreamsOf_148 ?_
    refine xr_icmp_gt (pc := 149) 155 dX6_dreamsOf_149 (by decide) (fun c_ => ?_) (fun c_ => ?_)
    · have hf := xo_pos c_ hf
      refine xV_sub [1, 2, 3, 4, 5, 6, 7, 0] rfl ?_
      exact ok_Jt_dreamsOf_155 hf kc ke0
    · have hf := xo_neg c_ hf
      refine xr_goto (pc := 152) 173 dX6_dreamsOf_152 (by decide) ?_
      refine xV_sub [1, 2, 3, 4, 5, 6, 7] rfl ?_
      exact ok_Jt_dreamsOf_173 hf kc ke0
def Bt_dreamsOf_66 (x1 : Int32) (x2 : Int32) (x3 : Int32) (x4 : Int32) (x5 : Int32) (x6 : Int32) (τ : TS) : Option ((Int32 × TS) ⊕ ((TS))) :=
  xbd (f_t_rowsMany τ) fun r4 τ4 =>
  if r4 ≤ x6 then
  some (.inr τ4)
  else
  xbd (f_t_isReach x3 x6 τ4) fun r5 τ5 =>
  if r5 = 0 then
  Jt_dreamsOf_173 x1 x2 x3 x4 x5 x6 τ5
  else
  xbd (f_t_isBendBy x1 x2 x3 x6 τ5) fun r6 τ6 =>
  if r6 = 0 then
  Jt_dreamsOf_106 x1 x2 x3 x4 x5 x6 0 τ6
  else
  Jt_dreamsOf_106 x1 x2 x3 x4 x5 x6 x5 τ6
theorem ok_Bt_dreamsOf_66 {D : TD} {m : Nat} {K : xK} {Z : Option Value × TS} {x1 : Int32} {x2 : Int32} {x3 : Int32} {x4 : Int32} {x5 : Int32} {x6 : Int32} {τ : TS} {o_ : ((Int32 × TS) ⊕ ((TS)))} (hf : Bt_dreamsOf_66 x1 x2 x3 x4 x5 x6 τ = some o_) (kc : ∀ s_ : Int32 × TS, o_ = .inl s_ → xV (wT D m) K mX6_dreamsOf (xQ (wT D m) K Z) s_.2 66 [(0, .ref m), (1, .int x1), (2, .int x2), (3, .int x3), (4, .int x4), (5, .int x5), (6, .int s_.1)] []) (ke0 : ∀ e_ : TS, o_ = .inr e_ → xV (wT D m) K mX6_dreamsOf (xQ (wT D m) K Z) e_ 179 [] []) : xV (wT D m) K mX6_dreamsOf (xQ (wT D m) K Z) τ 66 [(0, .ref m), (1, .int x1), (2, .int x2), (3, .int x3), (4, .int x4), (5, .int x5), (6, .int x6)] [] := by
  unfold Bt_dreamsOf_66 at hf
  refine xr_iload (pc := 66) 6 dX6_dreamsOf_66 rfl ?_
  refine xr_aload_n (pc := 68) 0 dX6_dreamsOf_68 rfl rfl ?_
  obtain ⟨r4, τ4, hτ4, hf⟩ := xo_bd hf
  refine call_f_t_rowsMany (pc := 69) hτ4 rfl (Nat.le_of_ble_eq_true rfl) (Nat.le_of_ble_eq_true rfl) (Nat.le_of_ble_eq_true rfl) dX6_dreamsOf_69 ?_
  refine xr_icmp_ge (pc := 72) 179 dX6_dreamsOf_72 (by decide) (fun c_ => ?_) (fun c_ => ?_)
  · have hf := xo_pos c_ hf
    refine xV_sub [] rfl ?_
    exact ke0 _ (Option.some.inj hf).symm
  · have hf := xo_neg c_ hf
    refine xr_aload_n (pc := 75) 0 dX6_dreamsOf_75 rfl rfl ?_
    refine xr_iload_n (pc := 76) 3 dX6_dreamsOf_76 rfl rfl ?_
    refine xr_iload (pc := 77) 6 dX6_dreamsOf_77 rfl ?_
    obtain ⟨r5, τ5, hτ5, hf⟩ := xo_bd hf
    refine call_f_t_isReach (pc := 79) hτ5 rfl (Nat.le_of_ble_eq_true rfl) (Nat.le_of_ble_eq_true rfl) (Nat.le_of_ble_eq_true rfl) dX6_dreamsOf_79 ?_
    refine xr_if_ne (pc := 82) 88 dX6_dreamsOf_82 (by decide) (fun c_ => ?_) (fun c_ => ?_)
    · have hf := xo_pos c_ hf
      refine xr_goto (pc := 85) 173 dX6_dreamsOf_85 (by decide) ?_
      exact ok_Jt_dreamsOf_173 hf kc ke0
    · have hf := xo_neg c_ hf
      refine xr_aload_n (pc := 88) 0 dX6_dreamsOf_88 rfl rfl ?_
      refine xr_iload_n (pc := 89) 1 dX6_dreamsOf_89 rfl rfl ?_
      refine xr_iload_n (pc := 90) 2 dX6_dreamsOf_90 rfl rfl ?_
      refine xr_iload_n (pc := 91) 3 dX6_dreamsOf_91 rfl rfl ?_
      refine xr_iload (pc := 92) 6 dX6_dreamsOf_92 rfl ?_
      obtain ⟨r6, τ6, hτ6, hf⟩ := xo_bd hf
      refine call_f_t_isBendBy (pc := 94) hτ6 rfl (Nat.le_of_ble_eq_true rfl) (Nat.le_of_ble_eq_true rfl) (Nat.le_of_ble_eq_true rfl) dX6_dreamsOf_94 ?_
      refine xr_if_eq (pc := 97) 105 dX6_dreamsOf_97 (by decide) (fun c_ => ?_) (fun c_ => ?_)
      · have hf := xo_pos c_ hf
        refine xr_iconst (pc := 105) dX6_dreamsOf_105 xci_0 ?_
        exact ok_Jt_dreamsOf_106 hf kc ke0
      · have hf := xo_neg c_ hf
        refine xr_iload (pc := 100) 5 dX6_dreamsOf_100 rfl ?_
        refine xr_goto (pc := 102) 106 dX6_dreamsOf_102 (by decide) ?_
        exact ok_Jt_dreamsOf_106 hf kc ke0
def f_t_dreamsOf (x1 : Int32) (x2 : Int32) (x3 : Int32) (τ : TS) : Option TS :=
  xbd (f_t_payOf x1 τ) fun r1 τ1 =>
  if xin (((64 * x1) + (8 * x2)) + x3) 640 = true then
  xbd (f_t_columnMany (sA τ1 77 (((64 * x1) + (8 * x2)) + x3).toNatClampNeg (-1))) fun r2 τ2 =>
  if x1 = (r2 - 1) then
  xbd (f_t_isBendBy x1 x2 x3 x3 τ2) fun r3 τ3 =>
  if r3 = 0 then
  if xin (((64 * x1) + (8 * x2)) + x3) 640 = true then
  some (sA τ3 76 (((64 * x1) + (8 * x2)) + x3).toNatClampNeg 0)
  else none
  else
  if xin (((64 * x1) + (8 * x2)) + x3) 640 = true then
  some (sA τ3 76 (((64 * x1) + (8 * x2)) + x3).toNatClampNeg r1)
  else none
  else
  (itr (fun s_ : Int32 × TS => Bt_dreamsOf_66 x1 x2 x3 (((64 * x1) + (8 * x2)) + x3) r1 s_.1 s_.2) 4096 (0, τ2)).bind fun b7 =>
  some (b7)
  else none
theorem ok_f_t_dreamsOf {D : TD} {m : Nat} {K : xK} {Z : Option Value × TS} {x1 : Int32} {x2 : Int32} {x3 : Int32} {τ : TS} {o_ : TS} (hf : f_t_dreamsOf x1 x2 x3 τ = some o_) (kr : ∀ r_ : TS, o_ = r_ → Z = (none, r_)) : xV (wT D m) K mX6_dreamsOf (xQ (wT D m) K Z) τ 0 [(0, .ref m), (1, .int x1), (2, .int x2), (3, .int x3)] [] := by
  unfold f_t_dreamsOf at hf
  refine xr_bipush (pc := 0) dX6_dreamsOf_0 xcb_64 ?_
  refine xr_iload_n (pc := 2) 1 dX6_dreamsOf_2 rfl rfl ?_
  refine xr_imul (pc := 3) dX6_dreamsOf_3 ?_
  refine xr_bipush (pc := 4) dX6_dreamsOf_4 xcb_8 ?_
  refine xr_iload_n (pc := 6) 2 dX6_dreamsOf_6 rfl rfl ?_
  refine xr_imul (pc := 7) dX6_dreamsOf_7 ?_
  refine xr_iadd (pc := 8) dX6_dreamsOf_8 ?_
  refine xr_iload_n (pc := 9) 3 dX6_dreamsOf_9 rfl rfl ?_
  refine xr_iadd (pc := 10) dX6_dreamsOf_10 ?_
  refine xr_istore (pc := 11) (loc' := [(4, .int (((64 * x1) + (8 * x2)) + x3)), (0, .ref m), (1, .int x1), (2, .int x2), (3, .int x3)]) dX6_dreamsOf_11 (by decide) rfl ?_
  refine xr_aload_n (pc := 13) 1 dX6_dreamsOf_13 rfl rfl ?_
  refine xr_iload_n (pc := 14) 2 dX6_dreamsOf_14 rfl rfl ?_
  obtain ⟨r1, τ1, hτ1, hf⟩ := xo_bd hf
  refine call_f_t_payOf (pc := 15) hτ1 rfl (Nat.le_of_ble_eq_true rfl) (Nat.le_of_ble_eq_true rfl) (Nat.le_of_ble_eq_true rfl) dX6_dreamsOf_15 ?_
  refine xr_istore (pc := 18) (loc' := [(5, .int r1), (4, .int (((64 * x1) + (8 * x2)) + x3)), (0, .ref m), (1, .int x1), (2, .int x2), (3, .int x3)]) dX6_dreamsOf_18 (by decide) rfl ?_
  refine xr_aload_n (pc := 20) 2 dX6_dreamsOf_20 rfl rfl ?_
  refine xt_getA (pc := 21) 77 (by decide) q1823 rfl rfl rfl dX6_dreamsOf_21 ?_
  refine xr_iload (pc := 24) 1 dX6_dreamsOf_24 rfl ?_
  refine xr_iconst (pc := 26) dX6_dreamsOf_26 xci_m1 ?_
  obtain ⟨hi_, hf⟩ := xo_if hf
  refine xt_iast (pc := 27) 77 rfl rfl hi_ dX6_dreamsOf_27 ?_
  refine xr_iload_n (pc := 28) 3 dX6_dreamsOf_28 rfl rfl ?_
  refine xr_aload_n (pc := 29) 2 dX6_dreamsOf_29 rfl rfl ?_
  obtain ⟨r2, τ2, hτ2, hf⟩ := xo_bd hf
  refine call_f_t_columnMany (pc := 30) hτ2 rfl (Nat.le_of_ble_eq_true rfl) (Nat.le_of_ble_eq_true rfl) (Nat.le_of_ble_eq_true rfl) dX6_dreamsOf_30 ?_
  refine xr_iconst (pc := 33) dX6_dreamsOf_33 xci_1 ?_
  refine xr_isub (pc := 34) dX6_dreamsOf_34 ?_
  refine xr_icmp_ne (pc := 35) 63 dX6_dreamsOf_35 (by decide) (fun c_ => ?_) (fun c_ => ?_)
  · have hf := xo_pos c_ hf
    refine xr_aload_n (pc := 38) 2 dX6_dreamsOf_38 rfl rfl ?_
    refine xt_getA (pc := 39) 76 (by decide) q1822 rfl rfl rfl dX6_dreamsOf_39 ?_
    refine xr_iload (pc := 42) 1 dX6_dreamsOf_42 rfl ?_
    refine xr_aload_n (pc := 44) 2 dX6_dreamsOf_44 rfl rfl ?_
    refine xr_iload_n (pc := 45) 3 dX6_dreamsOf_45 rfl rfl ?_
    refine xr_iload_n (pc := 46) 4 dX6_dreamsOf_46 rfl rfl ?_
    refine xr_iload_n (pc := 47) 5 dX6_dreamsOf_47 rfl rfl ?_
    refine xr_iload_n (pc := 48) 5 dX6_dreamsOf_48 rfl rfl ?_
    obtain ⟨r3, τ3, hτ3, hf⟩ := xo_bd hf
    refine call_f_t_isBendBy (pc := 49) hτ3 rfl (Nat.le_of_ble_eq_true rfl) (Nat.le_of_ble_eq_true rfl) (Nat.le_of_ble_eq_true rfl) dX6_dreamsOf_49 ?_
    refine xr_if_eq (pc := 52) 60 dX6_dreamsOf_52 (by decide) (fun c_ => ?_) (fun c_ => ?_)
    · have hf := xo_pos c_ hf
      refine xr_iconst (pc := 60) dX6_dreamsOf_60 xci_0 ?_
      obtain ⟨hi_, hf⟩ := xo_if hf
      refine xt_iast (pc := 61) 76 rfl rfl hi_ dX6_dreamsOf_61 ?_
      rw [kr _ (Option.some.inj hf).symm]
      exact xr_vret (pc := 62) dX6_dreamsOf_62 rfl
    · have hf := xo_neg c_ hf
      refine xr_iload (pc := 55) 0 dX6_dreamsOf_55 rfl ?_
      refine xr_goto (pc := 57) 61 dX6_dreamsOf_57 (by decide) ?_
      obtain ⟨hi_, hf⟩ := xo_if hf
      refine xt_iast (pc := 61) 76 rfl rfl hi_ dX6_dreamsOf_61 ?_
      rw [kr _ (Option.some.inj hf).symm]
      exact xr_vret (pc := 62) dX6_dreamsOf_62 rfl
  · have hf := xo_neg c_ hf
    refine xr_iconst (pc := 63) dX6_dreamsOf_63 xci_0 ?_
    refine xr_istore (pc := 64) (loc' := [(6, .int 0), (5, .int r1), (4, .int (((64 * x1) + (8 * x2)) + x3)), (0, .ref m), (1, .int x1), (2, .int x2), (3, .int x3)]) dX6_dreamsOf_64 (by decide) rfl ?_
    refine xV_sub [3, 4, 5, 6, 2, 1, 0] rfl ?_
    obtain ⟨b7, hb7, hf⟩ := xo_bind hf
    refine itr_rule (P := fun s_ : Int32 × TS => xV (wT D m) K mX6_dreamsOf (xQ (wT D m) K Z) s_.2 66 [(0, .ref m), (1, .int x1), (2, .int x2), (3, .int x3), (4, .int (((64 * x1) + (8 * x2)) + x3)), (5, .int r1), (6, .int s_.1)] []) (fun s_ o_ hB_ hc_ he_ => ok_Bt_dreamsOf_66 hB_ hc_ (fun e_ h_ => ?_)) 4096 _ hb7
    · have e9_ := he_ _ h_
      rw [e9_]
      rw [kr _ (Option.some.inj hf).symm]
      exact xr_vret (pc := 179) dX6_dreamsOf_179 rfl
theorem met_f_t_dreamsOf (l : Launch) {D : TD} {m : Nat} {x1 : Int32} {x2 : Int32} {x3 : Int32} {τ : TS} {o_ : TS} (hf : f_t_dreamsOf x1 x2 x3 τ = some o_) : xMet (wT D m) l yX6_dreamsOf (ws_ yX6_dreamsOf cX6_dreamsOf 8 none) 6 360 0 0 [.ref m, .int x1, .int x2, .int x3] τ (none, o_) :=
  xMet_of (by decide) (Nat.le_of_ble_eq_true rfl) KT_moved (fun _ _ => trivial) (fun K _ _ _ => ok_f_t_dreamsOf hf (fun _ h => by rw [h]))
theorem hd_f_t_dreamsOf : yX6_dreamsOf.cls = RX6 ∧ yX6_dreamsOf.cls ≠ "java/lang/invoke/MethodHandle" ∧ yX6_dreamsOf.cls ≠ "java/lang/invoke/VarHandle" ∧ (parseMethodDescriptor yX6_dreamsOf.desc).map (fun d => d.parameters.length) = some 3 := by decide +kernel
theorem call_f_t_dreamsOf {D : TD} {m : Nat} {K : xK} {M : xM} {Q : State → Prop} {x1 : Int32} {x2 : Int32} {x3 : Int32} {τ : TS} {pc : Nat} {loc : List (Nat × Value)} {st : List Value} {τ1 : TS} (hf : f_t_dreamsOf x1 x2 x3 τ = some τ1) (ho : M.2.2.1 = RX6) (hfr : 7 ≤ M.2.2.2.1) (hlo : 387 ≤ M.2.2.2.2.1) (hcat : (st.map fun v => v.category).sum ≤ 8) (d : decode M.1 pc = .ok (.invokevirtual 659, 3)) (k : xV (wT D m) K M Q τ1 (pc + 3) loc st) : xV (wT D m) K M Q τ pc loc (.int x3 :: .int x2 :: .int x1 :: .ref m :: st) :=
  xr_callV (As := [.int x1, .int x2, .int x3]) (rest := st) (met_f_t_dreamsOf K.2.1 hf) (lw_V q2603 q2605 qs154 q186 q2606) hd_f_t_dreamsOf ho hfr hlo rfl (fun H hR hK => t_recv H hR hK) rfl hcat d k
abbrev mX6_dreamPays : xM := (cX6_dreamPays, 6, RX6, 7, 420, (some .int), "dreamPays")
def Bt_dreamPays_23 (x1 : Int32) (x2 : Int32) (x3 : Int32) (τ : TS) : Option ((Int32 × TS) ⊕ ((TS))) :=
  xbd (f_t_rowsMany τ) fun r3 τ3 =>
  if r3 ≤ x3 then
  some (.inr τ3)
  else
  (f_t_dreamsOf x1 x2 x3 τ3).bind fun τ4 =>
  some (.inl (x3 + 1, τ4))
theorem ok_Bt_dreamPays_23 {D : TD} {m : Nat} {K : xK} {Z : Option Value × TS} {x1 : Int32} {x2 : Int32} {x3 : Int32} {τ : TS} {o_ : ((Int32 × TS) ⊕ ((TS)))} (hf : Bt_dreamPays_23 x1 x2 x3 τ = some o_) (kc : ∀ s_ : Int32 × TS, o_ = .inl s_ → xV (wT D m) K mX6_dreamPays (xQ (wT D m) K Z) s_.2 23 [(0, .ref m), (1, .int x1), (2, .int x2), (3, .int s_.1)] []) (ke0 : ∀ e_ : TS, o_ = .inr e_ → xV (wT D m) K mX6_dreamPays (xQ (wT D m) K Z) e_ 44 [(0, .ref m), (1, .int x1), (2, .int x2)] []) : xV (wT D m) K mX6_dreamPays (xQ (wT D m) K Z) τ 23 [(0, .ref m), (1, .int x1), (2, .int x2), (3, .int x3)] [] := by
  unfold Bt_dreamPays_23 at hf
  refine xr_iload_n (pc := 23) 3 dX6_dreamPays_23 rfl rfl ?_
  refine xr_aload_n (pc := 24) 0 dX6_dreamPays_24 rfl rfl ?_
  obtain ⟨r3, τ3, hτ3, hf⟩ := xo_bd hf
  refine call_f_t_rowsMany (pc := 25) hτ3 rfl (Nat.le_of_ble_eq_true rfl) (Nat.le_of_ble_eq_true rfl) (Nat.le_of_ble_eq_true rfl) dX6_dreamPays_25 ?_
  refine xr_icmp_ge (pc := 28) 44 dX6_dreamPays_28 (by decide) (fun c_ => ?_) (fun c_ => ?_)
  · have hf := xo_pos c_ hf
    refine xV_sub [0, 1, 2] rfl ?_
    exact ke0 _ (Option.some.inj hf).symm
  · have hf := xo_neg c_ hf
    refine xr_aload_n (pc := 31) 0 dX6_dreamPays_31 rfl rfl ?_
    refine xr_iload_n (pc := 32) 1 dX6_dreamPays_32 rfl rfl ?_
    refine xr_iload_n (pc := 33) 2 dX6_dreamPays_33 rfl rfl ?_
    refine xr_iload_n (pc := 34) 3 dX6_dreamPays_34 rfl rfl ?_
    obtain ⟨τ4, hτ4, hf⟩ := xo_bind hf
    refine call_f_t_dreamsOf (pc := 35) hτ4 rfl (Nat.le_of_ble_eq_true rfl) (Nat.le_of_ble_eq_true rfl) (Nat.le_of_ble_eq_true rfl) dX6_dreamPays_35 ?_
    refine xr_iinc (pc := 38) (loc' := [(3, .int (x3 + 1)), (0, .ref m), (1, .int x1), (2, .int x2)]) 3 dX6_dreamPays_38 rfl xci_1 (by decide) rfl ?_
    refine xr_goto (pc := 41) 23 dX6_dreamPays_41 (by decide) ?_
    refine xV_sub [1, 2, 3, 0] rfl ?_
    exact kc _ (Option.some.inj hf).symm
def Bt_dreamPays_13 (x1 : Int32) (x2 : Int32) (τ : TS) : Option ((Int32 × TS) ⊕ ((TS))) :=
  xbd (f_t_rowsMany τ) fun r2 τ2 =>
  if r2 ≤ x2 then
  some (.inr τ2)
  else
  (itr (fun s_ : Int32 × TS => Bt_dreamPays_23 x1 x2 s_.1 s_.2) 4096 (0, τ2)).bind fun b5 =>
  some (.inl (x2 + 1, b5))
theorem ok_Bt_dreamPays_13 {D : TD} {m : Nat} {K : xK} {Z : Option Value × TS} {x1 : Int32} {x2 : Int32} {τ : TS} {o_ : ((Int32 × TS) ⊕ ((TS)))} (hf : Bt_dreamPays_13 x1 x2 τ = some o_) (kc : ∀ s_ : Int32 × TS, o_ = .inl s_ → xV (wT D m) K mX6_dreamPays (xQ (wT D m) K Z) s_.2 13 [(0, .ref m), (1, .int x1), (2, .int s_.1)] []) (ke0 : ∀ e_ : TS, o_ = .inr e_ → xV (wT D m) K mX6_dreamPays (xQ (wT D m) K Z) e_ 50 [(0, .ref m), (1, .int x1)] []) : xV (wT D m) K mX6_dreamPays (xQ (wT D m) K Z) τ 13 [(0, .ref m), (1, .int x1), (2, .int x2)] [] := by
  unfold Bt_dreamPays_13 at hf
  refine xr_iload_n (pc := 13) 2 dX6_dreamPays_13 rfl rfl ?_
  refine xr_aload_n (pc := 14) 0 dX6_dreamPays_14 rfl rfl ?_
  obtain ⟨r2, τ2, hτ2, hf⟩ := xo_bd hf
  refine call_f_t_rowsMany (pc := 15) hτ2 rfl (Nat.le_of_ble_eq_true rfl) (Nat.le_of_ble_eq_true rfl) (Nat.le_of_ble_eq_true rfl) dX6_dreamPays_15 ?_
  refine xr_icmp_ge (pc := 18) 50 dX6_dreamPays_18 (by decide) (fun c_ => ?_) (fun c_ => ?_)
  · have hf := xo_pos c_ hf
    refine xV_sub [0, 1] rfl ?_
    exact ke0 _ (Option.some.inj hf).symm
  · have hf := xo_neg c_ hf
    refine xr_iconst (pc := 21) dX6_dreamPays_21 xci_0 ?_
    refine xr_istore_n (pc := 22) (loc' := [(3, .int 0), (0, .ref m), (1, .int x1), (2, .int x2)]) dX6_dreamPays_22 rfl (by decide) rfl ?_
    refine xV_sub [1, 2, 3, 0] rfl ?_
    obtain ⟨b5, hb5, hf⟩ := xo_bind hf
    refine itr_rule (P := fun s_ : Int32 × TS => xV (wT D m) K mX6_dreamPays (xQ (wT D m) K Z) s_.2 23 [(0, .ref m), (1, .int x1), (2, .int x2), (3, .int s_.1)] []) (fun s_ o_ hB_ hc_ he_ => ok_Bt_dreamPays_23 hB_ hc_ (fun e_ h_ => ?_)) 4096 _ hb5
    · have e9_ := he_ _ h_
      rw [e9_]
      refine xr_iinc (pc := 44) (loc' := [(2, .int (x2 + 1)), (0, .ref m), (1, .int x1)]) 2 dX6_dreamPays_44 rfl xci_1 (by decide) rfl ?_
      refine xr_goto (pc := 47) 13 dX6_dreamPays_47 (by decide) ?_
      refine xV_sub [1, 2, 0] rfl ?_
      exact kc _ (Option.some.inj hf).symm
def Bt_dreamPays_7 (x1 : Int32) (τ : TS) : Option ((Int32 × TS) ⊕ ((TS))) :=
  if x1 ≤ 0 then
  some (.inr τ)
  else
  (itr (fun s_ : Int32 × TS => Bt_dreamPays_13 x1 s_.1 s_.2) 4096 (0, τ)).bind fun b6 =>
  some (.inl (x1 + (-1), b6))
theorem ok_Bt_dreamPays_7 {D : TD} {m : Nat} {K : xK} {Z : Option Value × TS} {x1 : Int32} {τ : TS} {o_ : ((Int32 × TS) ⊕ ((TS)))} (hf : Bt_dreamPays_7 x1 τ = some o_) (kc : ∀ s_ : Int32 × TS, o_ = .inl s_ → xV (wT D m) K mX6_dreamPays (xQ (wT D m) K Z) s_.2 7 [(0, .ref m), (1, .int s_.1)] []) (ke0 : ∀ e_ : TS, o_ = .inr e_ → xV (wT D m) K mX6_dreamPays (xQ (wT D m) K Z) e_ 56 [(0, .ref m)] []) : xV (wT D m) K mX6_dreamPays (xQ (wT D m) K Z) τ 7 [(0, .ref m), (1, .int x1)] [] := by
  unfold Bt_dreamPays_7 at hf
  refine xr_iload_n (pc := 7) 1 dX6_dreamPays_7 rfl rfl ?_
  refine xr_if_le (pc := 8) 56 dX6_dreamPays_8 (by decide) (fun c_ => ?_) (fun c_ => ?_)
  · have hf := xo_pos c_ hf
    refine xV_sub [0] rfl ?_
    exact ke0 _ (Option.some.inj hf).symm
  · have hf := xo_neg c_ hf
    refine xr_iconst (pc := 11) dX6_dreamPays_11 xci_0 ?_
    refine xr_istore_n (pc := 12) (loc' := [(2, .int 0), (0, .ref m), (1, .int x1)]) dX6_dreamPays_12 rfl (by decide) rfl ?_
    refine xV_sub [1, 2, 0] rfl ?_
    obtain ⟨b6, hb6, hf⟩ := xo_bind hf
    refine itr_rule (P := fun s_ : Int32 × TS => xV (wT D m) K mX6_dreamPays (xQ (wT D m) K Z) s_.2 13 [(0, .ref m), (1, .int x1), (2, .int s_.1)] []) (fun s_ o_ hB_ hc_ he_ => ok_Bt_dreamPays_13 hB_ hc_ (fun e_ h_ => ?_)) 4096 _ hb6
    · have e9_ := he_ _ h_
      rw [e9_]
      refine xr_iinc (pc := 50) (loc' := [(1, .int (x1 + (-1))), (0, .ref m)]) 1 dX6_dreamPays_50 rfl xci_m1 (by decide) rfl ?_
      refine xr_goto (pc := 53) 7 dX6_dreamPays_53 (by decide) ?_
      refine xV_sub [1, 0] rfl ?_
      exact kc _ (Option.some.inj hf).symm
def Jt_dreamPays_103 (x1 : Int32) (x2 : Int32) (τ : TS) : Option ((Int32 × Int32 × TS) ⊕ ((Int32 × TS))) :=
  some (.inl (x1, x2 + 1, τ))
theorem ok_Jt_dreamPays_103 {D : TD} {m : Nat} {K : xK} {Z : Option Value × TS} {x1 : Int32} {x2 : Int32} {τ : TS} {o_ : ((Int32 × Int32 × TS) ⊕ ((Int32 × TS)))} (hf : Jt_dreamPays_103 x1 x2 τ = some o_) (kc : ∀ s_ : Int32 × Int32 × TS, o_ = .inl s_ → xV (wT D m) K mX6_dreamPays (xQ (wT D m) K Z) s_.2.2 60 [(0, .ref m), (1, .int s_.1), (2, .int s_.2.1)] []) (ke0 : ∀ e_ : Int32 × TS, o_ = .inr e_ → xV (wT D m) K mX6_dreamPays (xQ (wT D m) K Z) e_.2 109 [(0, .ref m), (1, .int e_.1)] []) : xV (wT D m) K mX6_dreamPays (xQ (wT D m) K Z) τ 103 [(0, .ref m), (1, .int x1), (2, .int x2)] [] := by
  unfold Jt_dreamPays_103 at hf
  refine xr_iinc (pc := 103) (loc' := [(2, .int (x2 + 1)), (0, .ref m), (1, .int x1)]) 2 dX6_dreamPays_103 rfl xci_1 (by decide) rfl ?_
  refine xr_goto (pc := 106) 60 dX6_dreamPays_106 (by decide) ?_
  refine xV_sub [1, 2, 0] rfl ?_
  exact kc _ (Option.some.inj hf).symm
def Jt_dreamPays_101 (x2 : Int32) (τ : TS) : Option ((Int32 × Int32 × TS) ⊕ ((Int32 × TS))) :=
  Jt_dreamPays_103 x2 x2 τ
theorem ok_Jt_dreamPays_101 {D : TD} {m : Nat} {K : xK} {Z : Option Value × TS} {x2 : Int32} {τ : TS} {o_ : ((Int32 × Int32 × TS) ⊕ ((Int32 × TS)))} (hf : Jt_dreamPays_101 x2 τ = some o_) (kc : ∀ s_ : Int32 × Int32 × TS, o_ = .inl s_ → xV (wT D m) K mX6_dreamPays (xQ (wT D m) K Z) s_.2.2 60 [(0, .ref m), (1, .int s_.1), (2, .int s_.2.1)] []) (ke0 : ∀ e_ : Int32 × TS, o_ = .inr e_ → xV (wT D m) K mX6_dreamPays (xQ (wT D m) K Z) e_.2 109 [(0, .ref m), (1, .int e_.1)] []) : xV (wT D m) K mX6_dreamPays (xQ (wT D m) K Z) τ 101 [(0, .ref m), (2, .int x2)] [] := by
  unfold Jt_dreamPays_101 at hf
  refine xr_iload_n (pc := 101) 1 dX6_dreamPays_101 rfl rfl ?_
  refine xr_istore_n (pc := 102) (loc' := [(1, .int x2), (0, .ref m), (2, .int x2)]) dX6_dreamPays_102 rfl (by decide) rfl ?_
  refine xV_sub [1, 0, 2] rfl ?_
  exact ok_Jt_dreamPays_103 hf kc ke0
def Bt_dreamPays_60 (x1 : Int32) (x2 : Int32) (τ : TS) : Option ((Int32 × Int32 × TS) ⊕ ((Int32 × TS))) :=
  xbd (f_t_rowsMany τ) fun r8 τ8 =>
  if r8 ≤ x2 then
  some (.inr (x1, τ8))
  else
  (f_t_dreamsOf 0 x2 x2 τ8).bind fun τ9 =>
  if x1 = (-1) then
  Jt_dreamPays_101 x2 τ9
  else
  if xin (9 * x2) 640 = true then
  if xin (9 * x1) 640 = true then
  if (tA τ9 76 (9 * x2).toNatClampNeg) ≤ (tA τ9 76 (9 * x1).toNatClampNeg) then
  Jt_dreamPays_103 x1 x2 τ9
  else
  Jt_dreamPays_101 x2 τ9
  else none
  else none
theorem ok_Bt_dreamPays_60 {D : TD} {m : Nat} {K : xK} {Z : Option Value × TS} {x1 : Int32} {x2 : Int32} {τ : TS} {o_ : ((Int32 × Int32 × TS) ⊕ ((Int32 × TS)))} (hf : Bt_dreamPays_60 x1 x2 τ = some o_) (kc : ∀ s_ : Int32 × Int32 × TS, o_ = .inl s_ → xV (wT D m) K mX6_dreamPays (xQ (wT D m) K Z) s_.2.2 60 [(0, .ref m), (1, .int s_.1), (2, .int s_.2.1)] []) (ke0 : ∀ e_ : Int32 × TS, o_ = .inr e_ → xV (wT D m) K mX6_dreamPays (xQ (wT D m) K Z) e_.2 109 [(0, .ref m), (1, .int e_.1)] []) : xV (wT D m) K mX6_dreamPays (xQ (wT D m) K Z) τ 60 [(0, .ref m), (1, .int x1), (2, .int x2)] [] := by
  unfold Bt_dreamPays_60 at hf
  refine xr_iload_n (pc := 60) 2 dX6_dreamPays_60 rfl rfl ?_
  refine xr_aload_n (pc := 61) 0 dX6_dreamPays_61 rfl rfl ?_
  obtain ⟨r8, τ8, hτ8, hf⟩ := xo_bd hf
  refine call_f_t_rowsMany (pc := 62) hτ8 rfl (Nat.le_of_ble_eq_true rfl) (Nat.le_of_ble_eq_true rfl) (Nat.le_of_ble_eq_true rfl) dX6_dreamPays_62 ?_
  refine xr_icmp_ge (pc := 65) 109 dX6_dreamPays_65 (by decide) (fun c_ => ?_) (fun c_ => ?_)
  · have hf := xo_pos c_ hf
    refine xV_sub [0, 1] rfl ?_
    exact ke0 _ (Option.some.inj hf).symm
  · have hf := xo_neg c_ hf
    refine xr_aload_n (pc := 68) 0 dX6_dreamPays_68 rfl rfl ?_
    refine xr_iconst (pc := 69) dX6_dreamPays_69 xci_0 ?_
    refine xr_iload_n (pc := 70) 2 dX6_dreamPays_70 rfl rfl ?_
    refine xr_iload_n (pc := 71) 2 dX6_dreamPays_71 rfl rfl ?_
    obtain ⟨τ9, hτ9, hf⟩ := xo_bind hf
    refine call_f_t_dreamsOf (pc := 72) hτ9 rfl (Nat.le_of_ble_eq_true rfl) (Nat.le_of_ble_eq_true rfl) (Nat.le_of_ble_eq_true rfl) dX6_dreamPays_72 ?_
    refine xr_iload_n (pc := 75) 1 dX6_dreamPays_75 rfl rfl ?_
    refine xr_iconst (pc := 76) dX6_dreamPays_76 xci_m1 ?_
    refine xr_icmp_eq (pc := 77) 101 dX6_dreamPays_77 (by decide) (fun c_ => ?_) (fun c_ => ?_)
    · have hf := xo_pos c_ hf
      refine xV_sub [0, 2] rfl ?_
      exact ok_Jt_dreamPays_101 hf kc ke0
    · have hf := xo_neg c_ hf
      refine xr_aload_n (pc := 80) 0 dX6_dreamPays_80 rfl rfl ?_
      refine xt_getA (pc := 81) 76 (by decide) q1822 rfl rfl rfl dX6_dreamPays_81 ?_
      refine xr_bipush (pc := 84) dX6_dreamPays_84 xcb_9 ?_
      refine xr_iload_n (pc := 86) 2 dX6_dreamPays_86 rfl rfl ?_
      refine xr_imul (pc := 87) dX6_dreamPays_87 ?_
      obtain ⟨hi_, hf⟩ := xo_if hf
      refine xt_iald (pc := 88) 76 rfl rfl hi_ dX6_dreamPays_88 ?_
      refine xr_aload_n (pc := 89) 0 dX6_dreamPays_89 rfl rfl ?_
      refine xt_getA (pc := 90) 76 (by decide) q1822 rfl rfl rfl dX6_dreamPays_90 ?_
      refine xr_bipush (pc := 93) dX6_dreamPays_93 xcb_9 ?_
      refine xr_iload_n (pc := 95) 1 dX6_dreamPays_95 rfl rfl ?_
      refine xr_imul (pc := 96) dX6_dreamPays_96 ?_
      obtain ⟨hi_, hf⟩ := xo_if hf
      refine xt_iald (pc := 97) 76 rfl rfl hi_ dX6_dreamPays_97 ?_
      refine xr_icmp_le (pc := 98) 103 dX6_dreamPays_98 (by decide) (fun c_ => ?_) (fun c_ => ?_)
      · have hf := xo_pos c_ hf
        exact ok_Jt_dreamPays_103 hf kc ke0
      · have hf := xo_neg c_ hf
        refine xV_sub [0, 2] rfl ?_
        exact ok_Jt_dreamPays_101 hf kc ke0
def Bt_dreamPays_116 (x1 : Int32) (x2 : Int32) (x3 : Int32) (x4 : Int32) (τ : TS) : Option ((Int32 × Int32 × Int32 × TS) ⊕ ((TS))) :=
  xbd (f_t_columnMany τ) fun r11 τ11 =>
  if r11 ≤ x4 then
  some (.inr τ11)
  else
  if xin x4 10 = true then
  if xin (((64 * x4) + (8 * x2)) + x3) 640 = true then
  some (.inl (x3, tA (sA τ11 78 x4.toNatClampNeg x3) 77 (((64 * x4) + (8 * x2)) + x3).toNatClampNeg, x4 + 1, sA τ11 78 x4.toNatClampNeg x3))
  else none
  else none
theorem ok_Bt_dreamPays_116 {D : TD} {m : Nat} {K : xK} {Z : Option Value × TS} {x1 : Int32} {x2 : Int32} {x3 : Int32} {x4 : Int32} {τ : TS} {o_ : ((Int32 × Int32 × Int32 × TS) ⊕ ((TS)))} (hf : Bt_dreamPays_116 x1 x2 x3 x4 τ = some o_) (kc : ∀ s_ : Int32 × Int32 × Int32 × TS, o_ = .inl s_ → xV (wT D m) K mX6_dreamPays (xQ (wT D m) K Z) s_.2.2.2 116 [(0, .ref m), (1, .int x1), (2, .int s_.1), (3, .int s_.2.1), (4, .int s_.2.2.1)] []) (ke0 : ∀ e_ : TS, o_ = .inr e_ → xV (wT D m) K mX6_dreamPays (xQ (wT D m) K Z) e_ 163 [(0, .ref m), (1, .int x1)] []) : xV (wT D m) K mX6_dreamPays (xQ (wT D m) K Z) τ 116 [(0, .ref m), (1, .int x1), (2, .int x2), (3, .int x3), (4, .int x4)] [] := by
  unfold Bt_dreamPays_116 at hf
  refine xr_iload (pc := 116) 4 dX6_dreamPays_116 rfl ?_
  refine xr_aload_n (pc := 118) 0 dX6_dreamPays_118 rfl rfl ?_
  obtain ⟨r11, τ11, hτ11, hf⟩ := xo_bd hf
  refine call_f_t_columnMany (pc := 119) hτ11 rfl (Nat.le_of_ble_eq_true rfl) (Nat.le_of_ble_eq_true rfl) (Nat.le_of_ble_eq_true rfl) dX6_dreamPays_119 ?_
  refine xr_icmp_ge (pc := 122) 163 dX6_dreamPays_122 (by decide) (fun c_ => ?_) (fun c_ => ?_)
  · have hf := xo_pos c_ hf
    refine xV_sub [0, 1] rfl ?_
    exact ke0 _ (Option.some.inj hf).symm
  · have hf := xo_neg c_ hf
    refine xr_aload_n (pc := 125) 0 dX6_dreamPays_125 rfl rfl ?_
    refine xt_getA (pc := 126) 78 (by decide) q1824 rfl rfl rfl dX6_dreamPays_126 ?_
    refine xr_iload (pc := 129) 4 dX6_dreamPays_129 rfl ?_
    refine xr_iload_n (pc := 131) 3 dX6_dreamPays_131 rfl rfl ?_
    obtain ⟨hi_, hf⟩ := xo_if hf
    refine xt_iast (pc := 132) 78 rfl rfl hi_ dX6_dreamPays_132 ?_
    refine xr_aload_n (pc := 133) 0 dX6_dreamPays_133 rfl rfl ?_
    refine xt_getA (pc := 134) 77 (by decide) q1823 rfl rfl rfl dX6_dreamPays_134 ?_
    refine xr_bipush (pc := 137) dX6_dreamPays_137 xcb_64 ?_
    refine xr_iload (pc := 139) 4 dX6_dreamPays_139 rfl ?_
    refine xr_imul (pc := 141) dX6_dreamPays_141 ?_
    refine xr_bipush (pc := 142) dX6_dreamPays_142 xcb_8 ?_
    refine xr_iload_n (pc := 144) 2 dX6_dreamPays_144 rfl rfl ?_
    refine xr_imul (pc := 145) dX6_dreamPays_145 ?_
    refine xr_iadd (pc := 146) dX6_dreamPays_146 ?_
    refine xr_iload_n (pc := 147) 3 dX6_dreamPays_147 rfl rfl ?_
    refine xr_iadd (pc := 148) dX6_dreamPays_148 ?_
    obtain ⟨hi_, hf⟩ := xo_if hf
    refine xt_iald (pc := 149) 77 rfl rfl hi_ dX6_dreamPays_149 ?_
    refine xr_istore (pc := 150) (loc' := [(5, .int (tA (sA τ11 78 x4.toNatClampNeg x3) 77 (((64 * x4) + (8 * x2)) + x3).toNatClampNeg)), (0, .ref m), (1, .int x1), (2, .int x2), (3, .int x3), (4, .int x4)]) dX6_dreamPays_150 (by decide) rfl ?_
    refine xr_iload_n (pc := 152) 4 dX6_dreamPays_152 rfl rfl ?_
    refine xr_istore_n (pc := 153) (loc' := [(2, .int x3), (5, .int (tA (sA τ11 78 x4.toNatClampNeg x3) 77 (((64 * x4) + (8 * x2)) + x3).toNatClampNeg)), (0, .ref m), (1, .int x1), (3, .int x3), (4, .int x4)]) dX6_dreamPays_153 rfl (by decide) rfl ?_
    refine xr_iload (pc := 154) 1 dX6_dreamPays_154 rfl ?_
    refine xr_istore_n (pc := 156) (loc' := [(3, .int (tA (sA τ11 78 x4.toNatClampNeg x3) 77 (((64 * x4) + (8 * x2)) + x3).toNatClampNeg)), (2, .int x3), (5, .int (tA (sA τ11 78 x4.toNatClampNeg x3) 77 (((64 * x4) + (8 * x2)) + x3).toNatClampNeg)), (0, .ref m), (1, .int x1), (4, .int x4)]) dX6_dreamPays_156 rfl (by decide) rfl ?_
    refine xr_iinc (pc := 157) (loc' := [(4, .int (x4 + 1)), (3, .int (tA (sA τ11 78 x4.toNatClampNeg x3) 77 (((64 * x4) + (8 * x2)) + x3).toNatClampNeg)), (2, .int x3), (5, .int (tA (sA τ11 78 x4.toNatClampNeg x3) 77 (((64 * x4) + (8 * x2)) + x3).toNatClampNeg)), (0, .ref m), (1, .int x1)]) 5 dX6_dreamPays_157 rfl xci_1 (by decide) rfl ?_
    refine xr_goto (pc := 160) 116 dX6_dreamPays_160 (by decide) ?_
    refine xV_sub [4, 5, 2, 1, 0] rfl ?_
    exact kc _ (Option.some.inj hf).symm
def f_t_dreamPays (τ : TS) : Option (Int32 × TS) :=
  xbd (f_t_columnMany τ) fun r1 τ1 =>
  (itr (fun s_ : Int32 × TS => Bt_dreamPays_7 s_.1 s_.2) 4096 (r1 - 1, τ1)).bind fun b7 =>
  (itr (fun s_ : Int32 × Int32 × TS => Bt_dreamPays_60 s_.1 s_.2.1 s_.2.2) 4096 ((-1), 0, b7)).bind fun b10 =>
  (itr (fun s_ : Int32 × Int32 × Int32 × TS => Bt_dreamPays_116 b10.1 s_.1 s_.2.1 s_.2.2.1 s_.2.2.2) 4096 (b10.1, b10.1, 0, b10.2)).bind fun b12 =>
  if xin (9 * b10.1) 640 = true then
  some ((tA b12 76 (9 * b10.1).toNatClampNeg, b12))
  else none
theorem ok_f_t_dreamPays {D : TD} {m : Nat} {K : xK} {Z : Option Value × TS} {τ : TS} {o_ : (Int32 × TS)} (hf : f_t_dreamPays τ = some o_) (kr : ∀ r_ : (Int32 × TS), o_ = r_ → Z = (some (.int r_.1), r_.2)) : xV (wT D m) K mX6_dreamPays (xQ (wT D m) K Z) τ 0 [(0, .ref m)] [] := by
  unfold f_t_dreamPays at hf
  refine xr_aload_n (pc := 0) 0 dX6_dreamPays_0 rfl rfl ?_
  obtain ⟨r1, τ1, hτ1, hf⟩ := xo_bd hf
  refine call_f_t_columnMany (pc := 1) hτ1 rfl (Nat.le_of_ble_eq_true rfl) (Nat.le_of_ble_eq_true rfl) (Nat.le_of_ble_eq_true rfl) dX6_dreamPays_1 ?_
  refine xr_iconst (pc := 4) dX6_dreamPays_4 xci_1 ?_
  refine xr_isub (pc := 5) dX6_dreamPays_5 ?_
  refine xr_istore_n (pc := 6) (loc' := [(1, .int (r1 - 1)), (0, .ref m)]) dX6_dreamPays_6 rfl (by decide) rfl ?_
  refine xV_sub [1, 0] rfl ?_
  obtain ⟨b7, hb7, hf⟩ := xo_bind hf
  refine itr_rule (P := fun s_ : Int32 × TS => xV (wT D m) K mX6_dreamPays (xQ (wT D m) K Z) s_.2 7 [(0, .ref m), (1, .int s_.1)] []) (fun s_ o_ hB_ hc_ he_ => ok_Bt_dreamPays_7 hB_ hc_ (fun e_ h_ => ?_)) 4096 _ hb7
  · have e9_ := he_ _ h_
    rw [e9_]
    refine xr_iconst (pc := 56) dX6_dreamPays_56 xci_m1 ?_
    refine xr_istore_n (pc := 57) (loc' := [(1, .int (-1)), (0, .ref m)]) dX6_dreamPays_57 rfl (by decide) rfl ?_
    refine xr_iconst (pc := 58) dX6_dreamPays_58 xci_0 ?_
    refine xr_istore_n (pc := 59) (loc' := [(2, .int 0), (1, .int (-1)), (0, .ref m)]) dX6_dreamPays_59 rfl (by decide) rfl ?_
    refine xV_sub [2, 1, 0] rfl ?_
    obtain ⟨b10, hb10, hf⟩ := xo_bind hf
    refine itr_rule (P := fun s_ : Int32 × Int32 × TS => xV (wT D m) K mX6_dreamPays (xQ (wT D m) K Z) s_.2.2 60 [(0, .ref m), (1, .int s_.1), (2, .int s_.2.1)] []) (fun s_ o_ hB_ hc_ he_ => ok_Bt_dreamPays_60 hB_ hc_ (fun e_ h_ => ?_)) 4096 _ hb10
    · have e9_ := he_ _ h_
      rw [e9_]
      refine xr_iload_n (pc := 109) 1 dX6_dreamPays_109 rfl rfl ?_
      refine xr_istore_n (pc := 110) (loc' := [(2, .int b10.1), (0, .ref m), (1, .int b10.1)]) dX6_dreamPays_110 rfl (by decide) rfl ?_
      refine xr_iload_n (pc := 111) 2 dX6_dreamPays_111 rfl rfl ?_
      refine xr_istore_n (pc := 112) (loc' := [(3, .int b10.1), (2, .int b10.1), (0, .ref m), (1, .int b10.1)]) dX6_dreamPays_112 rfl (by decide) rfl ?_
      refine xr_iconst (pc := 113) dX6_dreamPays_113 xci_0 ?_
      refine xr_istore (pc := 114) (loc' := [(4, .int 0), (3, .int b10.1), (2, .int b10.1), (0, .ref m), (1, .int b10.1)]) dX6_dreamPays_114 (by decide) rfl ?_
      refine xV_sub [3, 4, 2, 1, 0] rfl ?_
      obtain ⟨b12, hb12, hf⟩ := xo_bind hf
      refine itr_rule (P := fun s_ : Int32 × Int32 × Int32 × TS => xV (wT D m) K mX6_dreamPays (xQ (wT D m) K Z) s_.2.2.2 116 [(0, .ref m), (1, .int b10.1), (2, .int s_.1), (3, .int s_.2.1), (4, .int s_.2.2.1)] []) (fun s_ o_ hB_ hc_ he_ => ok_Bt_dreamPays_116 hB_ hc_ (fun e_ h_ => ?_)) 4096 _ hb12
      · have e9_ := he_ _ h_
        rw [e9_]
        refine xr_aload_n (pc := 163) 0 dX6_dreamPays_163 rfl rfl ?_
        refine xt_getA (pc := 164) 76 (by decide) q1822 rfl rfl rfl dX6_dreamPays_164 ?_
        refine xr_bipush (pc := 167) dX6_dreamPays_167 xcb_9 ?_
        refine xr_iload_n (pc := 169) 1 dX6_dreamPays_169 rfl rfl ?_
        refine xr_imul (pc := 170) dX6_dreamPays_170 ?_
        obtain ⟨hi_, hf⟩ := xo_if hf
        refine xt_iald (pc := 171) 76 rfl rfl hi_ dX6_dreamPays_171 ?_
        rw [kr _ (Option.some.inj hf).symm]
        exact xr_iret (pc := 172) dX6_dreamPays_172 rfl
theorem met_f_t_dreamPays (l : Launch) {D : TD} {m : Nat} {τ : TS} {o_ : (Int32 × TS)} (hf : f_t_dreamPays τ = some o_) : xMet (wT D m) l yX6_dreamPays (ws_ yX6_dreamPays cX6_dreamPays 6 (some .int)) 7 420 0 0 [.ref m] τ (some (.int o_.1), o_.2) :=
  xMet_of (by decide) (Nat.le_of_ble_eq_true rfl) KT_moved (fun _ _ => trivial) (fun K _ _ _ => ok_f_t_dreamPays hf (fun _ h => by rw [h]))
theorem hd_f_t_dreamPays : yX6_dreamPays.cls = RX6 ∧ yX6_dreamPays.cls ≠ "java/lang/invoke/MethodHandle" ∧ yX6_dreamPays.cls ≠ "java/lang/invoke/VarHandle" ∧ (parseMethodDescriptor yX6_dreamPays.desc).map (fun d => d.parameters.length) = some 0 := by decide +kernel
theorem call_f_t_dreamPays {D : TD} {m : Nat} {K : xK} {M : xM} {Q : State → Prop} {τ : TS} {pc : Nat} {loc : List (Nat × Value)} {st : List Value} {r : Int32} {τ1 : TS} (hf : f_t_dreamPays τ = some (r, τ1)) (ho : M.2.2.1 = RX6) (hfr : 8 ≤ M.2.2.2.1) (hlo : 445 ≤ M.2.2.2.2.1) (hcat : (st.map fun v => v.category).sum ≤ 8) (d : decode M.1 pc = .ok (.invokevirtual 663, 3)) (k : xV (wT D m) K M Q τ1 (pc + 3) loc (.int r :: st)) : xV (wT D m) K M Q τ pc loc (.ref m :: st) :=
  xr_callV (As := []) (rest := st) (met_f_t_dreamPays K.2.1 hf) (lw_V q2599 q2601 qs153 q186 q2602) hd_f_t_dreamPays ho hfr hlo rfl (fun H hR hK => t_recv H hR hK) rfl hcat d k
abbrev mX6_dream : xM := (cX6_dream, 3, RX6, 8, 480, (some .int), "dream")
def Jt_dream_23 (x1 : Int32) (τ : TS) : Option (Int32 × TS) :=
  xbd (f_t_dreamPays τ) fun r1 τ1 =>
  if x1 = (-1) then
  some ((r1, τ1))
  else
  if xin x1 10 = true then
  some ((tA τ1 78 x1.toNatClampNeg, τ1))
  else none
theorem ok_Jt_dream_23 {D : TD} {m : Nat} {K : xK} {Z : Option Value × TS} {x1 : Int32} {τ : TS} {o_ : (Int32 × TS)} (hf : Jt_dream_23 x1 τ = some o_) (kr : ∀ r_ : (Int32 × TS), o_ = r_ → Z = (some (.int r_.1), r_.2)) : xV (wT D m) K mX6_dream (xQ (wT D m) K Z) τ 23 [(0, .ref m), (1, .int x1)] [] := by
  unfold Jt_dream_23 at hf
  refine xr_aload_n (pc := 23) 0 dX6_dream_23 rfl rfl ?_
  obtain ⟨r1, τ1, hτ1, hf⟩ := xo_bd hf
  refine call_f_t_dreamPays (pc := 24) hτ1 rfl (Nat.le_of_ble_eq_true rfl) (Nat.le_of_ble_eq_true rfl) (Nat.le_of_ble_eq_true rfl) dX6_dream_24 ?_
  refine xr_istore_n (pc := 27) (loc' := [(2, .int r1), (0, .ref m), (1, .int x1)]) dX6_dream_27 rfl (by decide) rfl ?_
  refine xr_iload_n (pc := 28) 2 dX6_dream_28 rfl rfl ?_
  refine xr_iconst (pc := 29) dX6_dream_29 xci_m1 ?_
  refine xr_icmp_ne (pc := 30) 37 dX6_dream_30 (by decide) (fun c_ => ?_) (fun c_ => ?_)
  · have hf := xo_pos c_ hf
    refine xr_iload_n (pc := 33) 0 dX6_dream_33 rfl rfl ?_
    refine xr_goto (pc := 34) 43 dX6_dream_34 (by decide) ?_
    rw [kr _ (Option.some.inj hf).symm]
    exact xr_iret (pc := 43) dX6_dream_43 rfl
  · have hf := xo_neg c_ hf
    refine xr_aload_n (pc := 37) 1 dX6_dream_37 rfl rfl ?_
    refine xt_getA (pc := 38) 78 (by decide) q1824 rfl rfl rfl dX6_dream_38 ?_
    refine xr_iload_n (pc := 41) 2 dX6_dream_41 rfl rfl ?_
    obtain ⟨hi_, hf⟩ := xo_if hf
    refine xt_iald (pc := 42) 78 rfl rfl hi_ dX6_dream_42 ?_
    rw [kr _ (Option.some.inj hf).symm]
    exact xr_iret (pc := 43) dX6_dream_43 rfl
def f_t_dream (x1 : Int32) (τ : TS) : Option (Int32 × TS) :=
  if (tI τ 60) = 0 then
  some (((-1), τ))
  else
  if x1 = (-1) then
  Jt_dream_23 x1 τ
  else
  xbd (f_t_isColumn x1.toInt64 τ) fun r2 τ2 =>
  if r2 = 0 then
  some (((-1), τ2))
  else
  Jt_dream_23 x1 τ2
theorem ok_f_t_dream {D : TD} {m : Nat} {K : xK} {Z : Option Value × TS} {x1 : Int32} {τ : TS} {o_ : (Int32 × TS)} (hf : f_t_dream x1 τ = some o_) (kr : ∀ r_ : (Int32 × TS), o_ = r_ → Z = (some (.int r_.1), r_.2)) : xV (wT D m) K mX6_dream (xQ (wT D m) K Z) τ 0 [(0, .ref m), (1, .int x1)] [] := by
  unfold f_t_dream at hf
  refine xr_aload_n (pc := 0) 0 dX6_dream_0 rfl rfl ?_
  refine xt_getI (pc := 1) 60 (by decide) q1806 rfl rfl rfl dX6_dream_1 ?_
  refine xr_if_eq (pc := 4) 21 dX6_dream_4 (by decide) (fun c_ => ?_) (fun c_ => ?_)
  · have hf := xo_pos c_ hf
    refine xr_iconst (pc := 21) dX6_dream_21 xci_m1 ?_
    rw [kr _ (Option.some.inj hf).symm]
    exact xr_iret (pc := 22) dX6_dream_22 rfl
  · have hf := xo_neg c_ hf
    refine xr_iload_n (pc := 7) 1 dX6_dream_7 rfl rfl ?_
    refine xr_iconst (pc := 8) dX6_dream_8 xci_m1 ?_
    refine xr_icmp_eq (pc := 9) 23 dX6_dream_9 (by decide) (fun c_ => ?_) (fun c_ => ?_)
    · have hf := xo_pos c_ hf
      exact ok_Jt_dream_23 hf kr
    · have hf := xo_neg c_ hf
      refine xr_aload_n (pc := 12) 0 dX6_dream_12 rfl rfl ?_
      refine xr_iload_n (pc := 13) 1 dX6_dream_13 rfl rfl ?_
      refine xr_i2l (pc := 14) dX6_dream_14 ?_
      obtain ⟨r2, τ2, hτ2, hf⟩ := xo_bd hf
      refine call_f_t_isColumn (pc := 15) hτ2 rfl (Nat.le_of_ble_eq_true rfl) (Nat.le_of_ble_eq_true rfl) (Nat.le_of_ble_eq_true rfl) dX6_dream_15 ?_
      refine xr_if_ne (pc := 18) 23 dX6_dream_18 (by decide) (fun c_ => ?_) (fun c_ => ?_)
      · have hf := xo_pos c_ hf
        refine xr_iconst (pc := 21) dX6_dream_21 xci_m1 ?_
        rw [kr _ (Option.some.inj hf).symm]
        exact xr_iret (pc := 22) dX6_dream_22 rfl
      · have hf := xo_neg c_ hf
        exact ok_Jt_dream_23 hf kr
theorem met_f_t_dream (l : Launch) {D : TD} {m : Nat} {x1 : Int32} {τ : TS} {o_ : (Int32 × TS)} (hf : f_t_dream x1 τ = some o_) : xMet (wT D m) l yX6_dream (ws_ yX6_dream cX6_dream 3 (some .int)) 8 480 0 0 [.ref m, .int x1] τ (some (.int o_.1), o_.2) :=
  xMet_of (by decide) (Nat.le_of_ble_eq_true rfl) KT_moved (fun _ _ => trivial) (fun K _ _ _ => ok_f_t_dream hf (fun _ h => by rw [h]))
abbrev mX6_refuses : xM := (cX6_refuses, 2, RX6, 0, 0, (some .int), "refuses")
def f_t_refuses (x1 : Int32) (τ : TS) : Option (Int32 × TS) :=
  if xin x1 6 = true then
  if xin x1 6 = true then
  some (((-1), sA τ 9 x1.toNatClampNeg ((tA τ 9 x1.toNatClampNeg) + 1)))
  else none
  else none
theorem ok_f_t_refuses {D : TD} {m : Nat} {K : xK} {Z : Option Value × TS} {x1 : Int32} {τ : TS} {o_ : (Int32 × TS)} (hf : f_t_refuses x1 τ = some o_) (kr : ∀ r_ : (Int32 × TS), o_ = r_ → Z = (some (.int r_.1), r_.2)) : xV (wT D m) K mX6_refuses (xQ (wT D m) K Z) τ 0 [(0, .ref m), (1, .int x1)] [] := by
  unfold f_t_refuses at hf
  refine xr_aload_n (pc := 0) 0 dX6_refuses_0 rfl rfl ?_
  refine xt_getA (pc := 1) 9 (by decide) q1755 rfl rfl rfl dX6_refuses_1 ?_
  refine xr_iload_n (pc := 4) 1 dX6_refuses_4 rfl rfl ?_
  refine xr_dup2_11 (pc := 5) dX6_refuses_5 rfl rfl ?_
  obtain ⟨hi_, hf⟩ := xo_if hf
  refine xt_iald (pc := 6) 9 rfl rfl hi_ dX6_refuses_6 ?_
  refine xr_iconst (pc := 7) dX6_refuses_7 xci_1 ?_
  refine xr_iadd (pc := 8) dX6_refuses_8 ?_
  obtain ⟨hi_, hf⟩ := xo_if hf
  refine xt_iast (pc := 9) 9 rfl rfl hi_ dX6_refuses_9 ?_
  refine xr_iconst (pc := 10) dX6_refuses_10 xci_m1 ?_
  rw [kr _ (Option.some.inj hf).symm]
  exact xr_iret (pc := 11) dX6_refuses_11 rfl
theorem met_f_t_refuses (l : Launch) {D : TD} {m : Nat} {x1 : Int32} {τ : TS} {o_ : (Int32 × TS)} (hf : f_t_refuses x1 τ = some o_) : xMet (wT D m) l yX6_refuses (ws_ yX6_refuses cX6_refuses 2 (some .int)) 0 0 0 0 [.ref m, .int x1] τ (some (.int o_.1), o_.2) :=
  xMet_of (by decide) (Nat.le_of_ble_eq_true rfl) KT_moved (fun _ _ => trivial) (fun K _ _ _ => ok_f_t_refuses hf (fun _ h => by rw [h]))
theorem hd_f_t_refuses : yX6_refuses.cls = RX6 ∧ yX6_refuses.cls ≠ "java/lang/invoke/MethodHandle" ∧ yX6_refuses.cls ≠ "java/lang/invoke/VarHandle" ∧ (parseMethodDescriptor yX6_refuses.desc).map (fun d => d.parameters.length) = some 1 := by decide +kernel
theorem call_f_t_refuses {D : TD} {m : Nat} {K : xK} {M : xM} {Q : State → Prop} {x1 : Int32} {τ : TS} {pc : Nat} {loc : List (Nat × Value)} {st : List Value} {r : Int32} {τ1 : TS} (hf : f_t_refuses x1 τ = some (r, τ1)) (ho : M.2.2.1 = RX6) (hfr : 1 ≤ M.2.2.2.1) (hlo : 21 ≤ M.2.2.2.2.1) (hcat : (st.map fun v => v.category).sum ≤ 8) (d : decode M.1 pc = .ok (.invokevirtual 666, 3)) (k : xV (wT D m) K M Q τ1 (pc + 3) loc (.int r :: st)) : xV (wT D m) K M Q τ pc loc (.int x1 :: .ref m :: st) :=
  xr_callV (As := [.int x1]) (rest := st) (met_f_t_refuses K.2.1 hf) (lw_V q2615 q2617 qs156 q186 q2618) hd_f_t_refuses ho hfr hlo rfl (fun H hR hK => t_recv H hR hK) rfl hcat d k
abbrev mX6_see : xM := (cX6_see, 4, RX6, 3, 180, (some .int), "see")
def Jt_see_91 (x1 : Int32) (x3 : Int32) (s0 : Int32) (τ : TS) : Option ((Int32 × Int32 × TS) ⊕ ((Int32 × TS))) :=
  some (.inl (s0, x3 + 3, τ))
theorem ok_Jt_see_91 {D : TD} {m : Nat} {K : xK} {Z : Option Value × TS} {x1 : Int32} {x3 : Int32} {s0 : Int32} {τ : TS} {o_ : ((Int32 × Int32 × TS) ⊕ ((Int32 × TS)))} (hf : Jt_see_91 x1 x3 s0 τ = some o_) (kc : ∀ s_ : Int32 × Int32 × TS, o_ = .inl s_ → xV (wT D m) K mX6_see (xQ (wT D m) K Z) s_.2.2 43 [(0, .ref m), (1, .int x1), (2, .int s_.1), (3, .int s_.2.1)] []) (ke0 : ∀ e_ : Int32 × TS, o_ = .inr e_ → xV (wT D m) K mX6_see (xQ (wT D m) K Z) e_.2 98 [(0, .ref m), (1, .int x1), (2, .int e_.1)] []) : xV (wT D m) K mX6_see (xQ (wT D m) K Z) τ 91 [(0, .ref m), (1, .int x1), (3, .int x3)] [.int s0] := by
  unfold Jt_see_91 at hf
  refine xr_istore_n (pc := 91) (loc' := [(2, .int s0), (0, .ref m), (1, .int x1), (3, .int x3)]) dX6_see_91 rfl (by decide) rfl ?_
  refine xr_iinc (pc := 92) (loc' := [(3, .int (x3 + 3)), (2, .int s0), (0, .ref m), (1, .int x1)]) 3 dX6_see_92 rfl xci_3 (by decide) rfl ?_
  refine xr_goto (pc := 95) 43 dX6_see_95 (by decide) ?_
  refine xV_sub [2, 3, 1, 0] rfl ?_
  exact kc _ (Option.some.inj hf).symm
def Jt_see_90 (x1 : Int32) (x3 : Int32) (τ : TS) : Option ((Int32 × Int32 × TS) ⊕ ((Int32 × TS))) :=
  Jt_see_91 x1 x3 0 τ
theorem ok_Jt_see_90 {D : TD} {m : Nat} {K : xK} {Z : Option Value × TS} {x1 : Int32} {x3 : Int32} {τ : TS} {o_ : ((Int32 × Int32 × TS) ⊕ ((Int32 × TS)))} (hf : Jt_see_90 x1 x3 τ = some o_) (kc : ∀ s_ : Int32 × Int32 × TS, o_ = .inl s_ → xV (wT D m) K mX6_see (xQ (wT D m) K Z) s_.2.2 43 [(0, .ref m), (1, .int x1), (2, .int s_.1), (3, .int s_.2.1)] []) (ke0 : ∀ e_ : Int32 × TS, o_ = .inr e_ → xV (wT D m) K mX6_see (xQ (wT D m) K Z) e_.2 98 [(0, .ref m), (1, .int x1), (2, .int e_.1)] []) : xV (wT D m) K mX6_see (xQ (wT D m) K Z) τ 90 [(0, .ref m), (1, .int x1), (3, .int x3)] [] := by
  unfold Jt_see_90 at hf
  refine xr_iconst (pc := 90) dX6_see_90 xci_0 ?_
  exact ok_Jt_see_91 hf kc ke0
def Bt_see_43 (x1 : Int32) (x2 : Int32) (x3 : Int32) (τ : TS) : Option ((Int32 × Int32 × TS) ⊕ ((Int32 × TS))) :=
  if x1 ≤ x3 then
  some (.inr (x2, τ))
  else
  if x2 = 0 then
  some (.inr (x2, τ))
  else
  if xin x3 1600 = true then
  if 30 < (tA τ 0 x3.toNatClampNeg) then
  Jt_see_90 x1 x3 τ
  else
  if xin (x3 + 1) 1600 = true then
  if xin (x3 + 2) 1600 = true then
  xbd (f_t_isCell (tA τ 0 (x3 + 1).toNatClampNeg) (tA τ 0 (x3 + 2).toNatClampNeg) τ) fun r1 τ1 =>
  if r1 = 0 then
  Jt_see_90 x1 x3 τ1
  else
  Jt_see_91 x1 x3 1 τ1
  else none
  else none
  else none
theorem ok_Bt_see_43 {D : TD} {m : Nat} {K : xK} {Z : Option Value × TS} {x1 : Int32} {x2 : Int32} {x3 : Int32} {τ : TS} {o_ : ((Int32 × Int32 × TS) ⊕ ((Int32 × TS)))} (hf : Bt_see_43 x1 x2 x3 τ = some o_) (kc : ∀ s_ : Int32 × Int32 × TS, o_ = .inl s_ → xV (wT D m) K mX6_see (xQ (wT D m) K Z) s_.2.2 43 [(0, .ref m), (1, .int x1), (2, .int s_.1), (3, .int s_.2.1)] []) (ke0 : ∀ e_ : Int32 × TS, o_ = .inr e_ → xV (wT D m) K mX6_see (xQ (wT D m) K Z) e_.2 98 [(0, .ref m), (1, .int x1), (2, .int e_.1)] []) : xV (wT D m) K mX6_see (xQ (wT D m) K Z) τ 43 [(0, .ref m), (1, .int x1), (2, .int x2), (3, .int x3)] [] := by
  unfold Bt_see_43 at hf
  refine xr_iload_n (pc := 43) 3 dX6_see_43 rfl rfl ?_
  refine xr_iload_n (pc := 44) 1 dX6_see_44 rfl rfl ?_
  refine xr_icmp_ge (pc := 45) 98 dX6_see_45 (by decide) (fun c_ => ?_) (fun c_ => ?_)
  · have hf := xo_pos c_ hf
    refine xV_sub [0, 1, 2] rfl ?_
    exact ke0 _ (Option.some.inj hf).symm
  · have hf := xo_neg c_ hf
    refine xr_iload_n (pc := 48) 2 dX6_see_48 rfl rfl ?_
    refine xr_if_eq (pc := 49) 98 dX6_see_49 (by decide) (fun c_ => ?_) (fun c_ => ?_)
    · have hf := xo_pos c_ hf
      refine xV_sub [0, 1, 2] rfl ?_
      exact ke0 _ (Option.some.inj hf).symm
    · have hf := xo_neg c_ hf
      refine xr_aload_n (pc := 52) 0 dX6_see_52 rfl rfl ?_
      refine xt_getA (pc := 53) 0 (by decide) q1746 rfl rfl rfl dX6_see_53 ?_
      refine xr_iload_n (pc := 56) 3 dX6_see_56 rfl rfl ?_
      obtain ⟨hi_, hf⟩ := xo_if hf
      refine xt_iald (pc := 57) 0 rfl rfl hi_ dX6_see_57 ?_
      refine xr_bipush (pc := 58) dX6_see_58 xcb_30 ?_
      refine xr_icmp_gt (pc := 60) 90 dX6_see_60 (by decide) (fun c_ => ?_) (fun c_ => ?_)
      · have hf := xo_pos c_ hf
        refine xV_sub [0, 1, 3] rfl ?_
        exact ok_Jt_see_90 hf kc ke0
      · have hf := xo_neg c_ hf
        refine xr_aload_n (pc := 63) 0 dX6_see_63 rfl rfl ?_
        refine xr_aload_n (pc := 64) 0 dX6_see_64 rfl rfl ?_
        refine xt_getA (pc := 65) 0 (by decide) q1746 rfl rfl rfl dX6_see_65 ?_
        refine xr_iload_n (pc := 68) 3 dX6_see_68 rfl rfl ?_
        refine xr_iconst (pc := 69) dX6_see_69 xci_1 ?_
        refine xr_iadd (pc := 70) dX6_see_70 ?_
        obtain ⟨hi_, hf⟩ := xo_if hf
        refine xt_iald (pc := 71) 0 rfl rfl hi_ dX6_see_71 ?_
        refine xr_aload_n (pc := 72) 0 dX6_see_72 rfl rfl ?_
        refine xt_getA (pc := 73) 0 (by decide) q1746 rfl rfl rfl dX6_see_73 ?_
        refine xr_iload_n (pc := 76) 3 dX6_see_76 rfl rfl ?_
        refine xr_iconst (pc := 77) dX6_see_77 xci_2 ?_
        refine xr_iadd (pc := 78) dX6_see_78 ?_
        obtain ⟨hi_, hf⟩ := xo_if hf
        refine xt_iald (pc := 79) 0 rfl rfl hi_ dX6_see_79 ?_
        obtain ⟨r1, τ1, hτ1, hf⟩ := xo_bd hf
        refine call_f_t_isCell (pc := 80) hτ1 rfl (Nat.le_of_ble_eq_true rfl) (Nat.le_of_ble_eq_true rfl) (Nat.le_of_ble_eq_true rfl) dX6_see_80 ?_
        refine xr_if_eq (pc := 83) 90 dX6_see_83 (by decide) (fun c_ => ?_) (fun c_ => ?_)
        · have hf := xo_pos c_ hf
          refine xV_sub [0, 1, 3] rfl ?_
          exact ok_Jt_see_90 hf kc ke0
        · have hf := xo_neg c_ hf
          refine xr_iconst (pc := 86) dX6_see_86 xci_1 ?_
          refine xr_goto (pc := 87) 91 dX6_see_87 (by decide) ?_
          refine xV_sub [0, 1, 3] rfl ?_
          exact ok_Jt_see_91 hf kc ke0
def Bt_see_110 (x1 : Int32) (x3 : Int32) (τ : TS) : Option ((Int32 × TS) ⊕ ((TS))) :=
  if x1 ≤ x3 then
  some (.inr τ)
  else
  if xin x3 1600 = true then
  if xin x3 48 = true then
  some (.inl (x3 + 1, sA τ 80 x3.toNatClampNeg (tA τ 0 x3.toNatClampNeg)))
  else none
  else none
theorem ok_Bt_see_110 {D : TD} {m : Nat} {K : xK} {Z : Option Value × TS} {x1 : Int32} {x3 : Int32} {τ : TS} {o_ : ((Int32 × TS) ⊕ ((TS)))} (hf : Bt_see_110 x1 x3 τ = some o_) (kc : ∀ s_ : Int32 × TS, o_ = .inl s_ → xV (wT D m) K mX6_see (xQ (wT D m) K Z) s_.2 110 [(0, .ref m), (1, .int x1), (3, .int s_.1)] []) (ke0 : ∀ e_ : TS, o_ = .inr e_ → xV (wT D m) K mX6_see (xQ (wT D m) K Z) e_ 133 [(0, .ref m), (1, .int x1)] []) : xV (wT D m) K mX6_see (xQ (wT D m) K Z) τ 110 [(0, .ref m), (1, .int x1), (3, .int x3)] [] := by
  unfold Bt_see_110 at hf
  refine xr_iload_n (pc := 110) 2 dX6_see_110 rfl rfl ?_
  refine xr_iload_n (pc := 111) 1 dX6_see_111 rfl rfl ?_
  refine xr_icmp_ge (pc := 112) 133 dX6_see_112 (by decide) (fun c_ => ?_) (fun c_ => ?_)
  · have hf := xo_pos c_ hf
    refine xV_sub [0, 1] rfl ?_
    exact ke0 _ (Option.some.inj hf).symm
  · have hf := xo_neg c_ hf
    refine xr_aload_n (pc := 115) 0 dX6_see_115 rfl rfl ?_
    refine xt_getA (pc := 116) 80 (by decide) q1826 rfl rfl rfl dX6_see_116 ?_
    refine xr_iload_n (pc := 119) 2 dX6_see_119 rfl rfl ?_
    refine xr_aload_n (pc := 120) 0 dX6_see_120 rfl rfl ?_
    refine xt_getA (pc := 121) 0 (by decide) q1746 rfl rfl rfl dX6_see_121 ?_
    refine xr_iload_n (pc := 124) 2 dX6_see_124 rfl rfl ?_
    obtain ⟨hi_, hf⟩ := xo_if hf
    refine xt_iald (pc := 125) 0 rfl rfl hi_ dX6_see_125 ?_
    obtain ⟨hi_, hf⟩ := xo_if hf
    refine xt_iast (pc := 126) 80 rfl rfl hi_ dX6_see_126 ?_
    refine xr_iinc (pc := 127) (loc' := [(3, .int (x3 + 1)), (0, .ref m), (1, .int x1)]) 2 dX6_see_127 rfl xci_1 (by decide) rfl ?_
    refine xr_goto (pc := 130) 110 dX6_see_130 (by decide) ?_
    refine xV_sub [1, 2, 0] rfl ?_
    exact kc _ (Option.some.inj hf).symm
def Jt_see_98 (x1 : Int32) (x2 : Int32) (τ : TS) : Option (Int32 × TS) :=
  if x2 = 0 then
  xbd (f_t_refuses 1 τ) fun r3 τ3 =>
  some ((r3, τ3))
  else
  (itr (fun s_ : Int32 × TS => Bt_see_110 x1 s_.1 s_.2) 4096 (0, τ)).bind fun b4 =>
  some ((tI (sI b4 79 (x1 / 3)) 79, sI b4 79 (x1 / 3)))
theorem ok_Jt_see_98 {D : TD} {m : Nat} {K : xK} {Z : Option Value × TS} {x1 : Int32} {x2 : Int32} {τ : TS} {o_ : (Int32 × TS)} (hf : Jt_see_98 x1 x2 τ = some o_) (kr : ∀ r_ : (Int32 × TS), o_ = r_ → Z = (some (.int r_.1), r_.2)) : xV (wT D m) K mX6_see (xQ (wT D m) K Z) τ 98 [(0, .ref m), (1, .int x1), (2, .int x2)] [] := by
  unfold Jt_see_98 at hf
  refine xr_iload_n (pc := 98) 2 dX6_see_98 rfl rfl ?_
  refine xr_if_ne (pc := 99) 108 dX6_see_99 (by decide) (fun c_ => ?_) (fun c_ => ?_)
  · have hf := xo_pos c_ hf
    refine xr_aload_n (pc := 102) 0 dX6_see_102 rfl rfl ?_
    refine xr_iconst (pc := 103) dX6_see_103 xci_1 ?_
    obtain ⟨r3, τ3, hτ3, hf⟩ := xo_bd hf
    refine call_f_t_refuses (pc := 104) hτ3 rfl (Nat.le_of_ble_eq_true rfl) (Nat.le_of_ble_eq_true rfl) (Nat.le_of_ble_eq_true rfl) dX6_see_104 ?_
    rw [kr _ (Option.some.inj hf).symm]
    exact xr_iret (pc := 107) dX6_see_107 rfl
  · have hf := xo_neg c_ hf
    refine xr_iconst (pc := 108) dX6_see_108 xci_0 ?_
    refine xr_istore_n (pc := 109) (loc' := [(3, .int 0), (0, .ref m), (1, .int x1), (2, .int x2)]) dX6_see_109 rfl (by decide) rfl ?_
    refine xV_sub [1, 2, 0] rfl ?_
    obtain ⟨b4, hb4, hf⟩ := xo_bind hf
    refine itr_rule (P := fun s_ : Int32 × TS => xV (wT D m) K mX6_see (xQ (wT D m) K Z) s_.2 110 [(0, .ref m), (1, .int x1), (3, .int s_.1)] []) (fun s_ o_ hB_ hc_ he_ => ok_Bt_see_110 hB_ hc_ (fun e_ h_ => ?_)) 4096 _ hb4
    · have e9_ := he_ _ h_
      rw [e9_]
      refine xr_aload_n (pc := 133) 0 dX6_see_133 rfl rfl ?_
      refine xr_iload_n (pc := 134) 1 dX6_see_134 rfl rfl ?_
      refine xr_iconst (pc := 135) dX6_see_135 xci_3 ?_
      refine xr_idiv (pc := 136) dX6_see_136 (by decide) ?_
      refine xt_putI (pc := 137) 79 (by decide) q1825 rfl rfl rfl (by decide +kernel) rfl dX6_see_137 ?_
      refine xr_aload_n (pc := 140) 0 dX6_see_140 rfl rfl ?_
      refine xt_getI (pc := 141) 79 (by decide) q1825 rfl rfl rfl dX6_see_141 ?_
      rw [kr _ (Option.some.inj hf).symm]
      exact xr_iret (pc := 144) dX6_see_144 rfl
def Jt_see_40 (x1 : Int32) (s0 : Int32) (τ : TS) : Option (Int32 × TS) :=
  (itr (fun s_ : Int32 × Int32 × TS => Bt_see_43 x1 s_.1 s_.2.1 s_.2.2) 4096 (s0, 0, τ)).bind fun b2 =>
  Jt_see_98 x1 b2.1 b2.2
theorem ok_Jt_see_40 {D : TD} {m : Nat} {K : xK} {Z : Option Value × TS} {x1 : Int32} {s0 : Int32} {τ : TS} {o_ : (Int32 × TS)} (hf : Jt_see_40 x1 s0 τ = some o_) (kr : ∀ r_ : (Int32 × TS), o_ = r_ → Z = (some (.int r_.1), r_.2)) : xV (wT D m) K mX6_see (xQ (wT D m) K Z) τ 40 [(0, .ref m), (1, .int x1)] [.int s0] := by
  unfold Jt_see_40 at hf
  refine xr_istore_n (pc := 40) (loc' := [(2, .int s0), (0, .ref m), (1, .int x1)]) dX6_see_40 rfl (by decide) rfl ?_
  refine xr_iconst (pc := 41) dX6_see_41 xci_0 ?_
  refine xr_istore_n (pc := 42) (loc' := [(3, .int 0), (2, .int s0), (0, .ref m), (1, .int x1)]) dX6_see_42 rfl (by decide) rfl ?_
  refine xV_sub [2, 3, 1, 0] rfl ?_
  obtain ⟨b2, hb2, hf⟩ := xo_bind hf
  refine itr_rule (P := fun s_ : Int32 × Int32 × TS => xV (wT D m) K mX6_see (xQ (wT D m) K Z) s_.2.2 43 [(0, .ref m), (1, .int x1), (2, .int s_.1), (3, .int s_.2.1)] []) (fun s_ o_ hB_ hc_ he_ => ok_Bt_see_43 hB_ hc_ (fun e_ h_ => ?_)) 4096 _ hb2
  · have e9_ := he_ _ h_
    rw [e9_]
    exact ok_Jt_see_98 hf kr
def Jt_see_39 (x1 : Int32) (τ : TS) : Option (Int32 × TS) :=
  Jt_see_40 x1 0 τ
theorem ok_Jt_see_39 {D : TD} {m : Nat} {K : xK} {Z : Option Value × TS} {x1 : Int32} {τ : TS} {o_ : (Int32 × TS)} (hf : Jt_see_39 x1 τ = some o_) (kr : ∀ r_ : (Int32 × TS), o_ = r_ → Z = (some (.int r_.1), r_.2)) : xV (wT D m) K mX6_see (xQ (wT D m) K Z) τ 39 [(0, .ref m), (1, .int x1)] [] := by
  unfold Jt_see_39 at hf
  refine xr_iconst (pc := 39) dX6_see_39 xci_0 ?_
  exact ok_Jt_see_40 hf kr
def f_t_see (τ : TS) : Option (Int32 × TS) :=
  if (tI (sI τ 1 0) 60) = 0 then
  Jt_see_39 (tI τ 1) (sI τ 1 0)
  else
  if (tI τ 1) ≤ 0 then
  Jt_see_39 (tI τ 1) (sI τ 1 0)
  else
  if ((tI τ 1) - (tI τ 1) / 3 * 3) = 0 then
  if 16 < ((tI τ 1) / 3) then
  Jt_see_39 (tI τ 1) (sI τ 1 0)
  else
  Jt_see_40 (tI τ 1) 1 (sI τ 1 0)
  else
  Jt_see_39 (tI τ 1) (sI τ 1 0)
theorem ok_f_t_see {D : TD} {m : Nat} {K : xK} {Z : Option Value × TS} {τ : TS} {o_ : (Int32 × TS)} (hf : f_t_see τ = some o_) (kr : ∀ r_ : (Int32 × TS), o_ = r_ → Z = (some (.int r_.1), r_.2)) : xV (wT D m) K mX6_see (xQ (wT D m) K Z) τ 0 [(0, .ref m)] [] := by
  unfold f_t_see at hf
  refine xr_aload_n (pc := 0) 0 dX6_see_0 rfl rfl ?_
  refine xt_getI (pc := 1) 1 (by decide) q1747 rfl rfl rfl dX6_see_1 ?_
  refine xr_istore_n (pc := 4) (loc' := [(1, .int (tI τ 1)), (0, .ref m)]) dX6_see_4 rfl (by decide) rfl ?_
  refine xr_aload_n (pc := 5) 1 dX6_see_5 rfl rfl ?_
  refine xr_iconst (pc := 6) dX6_see_6 xci_0 ?_
  refine xt_putI (pc := 7) 1 (by decide) q1747 rfl rfl rfl (by decide +kernel) rfl dX6_see_7 ?_
  refine xr_aload_n (pc := 10) 1 dX6_see_10 rfl rfl ?_
  refine xt_getI (pc := 11) 60 (by decide) q1806 rfl rfl rfl dX6_see_11 ?_
  refine xr_if_eq (pc := 14) 39 dX6_see_14 (by decide) (fun c_ => ?_) (fun c_ => ?_)
  · have hf := xo_pos c_ hf
    refine xV_sub [1, 0] rfl ?_
    exact ok_Jt_see_39 hf kr
  · have hf := xo_neg c_ hf
    refine xr_iload_n (pc := 17) 0 dX6_see_17 rfl rfl ?_
    refine xr_if_le (pc := 18) 39 dX6_see_18 (by decide) (fun c_ => ?_) (fun c_ => ?_)
    · have hf := xo_pos c_ hf
      refine xV_sub [1, 0] rfl ?_
      exact ok_Jt_see_39 hf kr
    · have hf := xo_neg c_ hf
      refine xr_iload_n (pc := 21) 0 dX6_see_21 rfl rfl ?_
      refine xr_iconst (pc := 22) dX6_see_22 xci_3 ?_
      refine xr_irem (pc := 23) dX6_see_23 (by decide) ?_
      refine xr_if_ne (pc := 24) 39 dX6_see_24 (by decide) (fun c_ => ?_) (fun c_ => ?_)
      · have hf := xo_pos c_ hf
        refine xr_iload_n (pc := 27) 0 dX6_see_27 rfl rfl ?_
        refine xr_iconst (pc := 28) dX6_see_28 xci_3 ?_
        refine xr_idiv (pc := 29) dX6_see_29 (by decide) ?_
        refine xr_bipush (pc := 30) dX6_see_30 xcb_16 ?_
        refine xr_icmp_gt (pc := 32) 39 dX6_see_32 (by decide) (fun c_ => ?_) (fun c_ => ?_)
        · have hf := xo_pos c_ hf
          refine xV_sub [1, 0] rfl ?_
          exact ok_Jt_see_39 hf kr
        · have hf := xo_neg c_ hf
          refine xr_iconst (pc := 35) dX6_see_35 xci_1 ?_
          refine xr_goto (pc := 36) 40 dX6_see_36 (by decide) ?_
          refine xV_sub [1, 0] rfl ?_
          exact ok_Jt_see_40 hf kr
      · have hf := xo_neg c_ hf
        refine xV_sub [1, 0] rfl ?_
        exact ok_Jt_see_39 hf kr
theorem met_f_t_see (l : Launch) {D : TD} {m : Nat} {τ : TS} {o_ : (Int32 × TS)} (hf : f_t_see τ = some o_) : xMet (wT D m) l yX6_see (ws_ yX6_see cX6_see 4 (some .int)) 3 180 0 0 [.ref m] τ (some (.int o_.1), o_.2) :=
  xMet_of (by decide) (Nat.le_of_ble_eq_true rfl) KT_moved (fun _ _ => trivial) (fun K _ _ _ => ok_f_t_see hf (fun _ h => by rw [h]))
abbrev mX6_isAsSeen : xM := (cX6_isAsSeen, 3, RX6, 1, 60, (some .boolean), "isAsSeen")
def Jt_isAsSeen_63 (x1 : Int32) (x2 : Int32) (τ : TS) : Option ((Int32 × TS) ⊕ ((TS) ⊕ ((Int32 × TS)))) :=
  some (.inl (x2 + 1, τ))
theorem ok_Jt_isAsSeen_63 {D : TD} {m : Nat} {K : xK} {Z : Option Value × TS} {x1 : Int32} {x2 : Int32} {τ : TS} {o_ : ((Int32 × TS) ⊕ ((TS) ⊕ ((Int32 × TS))))} (hf : Jt_isAsSeen_63 x1 x2 τ = some o_) (kc : ∀ s_ : Int32 × TS, o_ = .inl s_ → xV (wT D m) K mX6_isAsSeen (xQ (wT D m) K Z) s_.2 2 [(0, .ref m), (1, .int x1), (2, .int s_.1)] []) (ke0 : ∀ e_ : TS, o_ = .inr (.inl e_) → xV (wT D m) K mX6_isAsSeen (xQ (wT D m) K Z) e_ 69 [] []) (kr : ∀ r_ : (Int32 × TS), o_ = .inr (.inr r_) → Z = (some (.int r_.1), r_.2)) : xV (wT D m) K mX6_isAsSeen (xQ (wT D m) K Z) τ 63 [(0, .ref m), (1, .int x1), (2, .int x2)] [] := by
  unfold Jt_isAsSeen_63 at hf
  refine xr_iinc (pc := 63) (loc' := [(2, .int (x2 + 1)), (0, .ref m), (1, .int x1)]) 2 dX6_isAsSeen_63 rfl xci_1 (by decide) rfl ?_
  refine xr_goto (pc := 66) 2 dX6_isAsSeen_66 (by decide) ?_
  refine xV_sub [1, 2, 0] rfl ?_
  exact kc _ (Option.some.inj hf).symm
def Bt_isAsSeen_2 (x1 : Int32) (x2 : Int32) (τ : TS) : Option ((Int32 × TS) ⊕ ((TS) ⊕ ((Int32 × TS)))) :=
  if (tI τ 79) ≤ x2 then
  some (.inr (.inl τ))
  else
  if xin (3 * x2) 48 = true then
  if (tA τ 80 (3 * x2).toNatClampNeg) = x1 then
  if xin 0 303 = true then
  if 999 < (tA τ 62 (0 : Int32).toNatClampNeg) then
  some (.inr (.inr (0, τ)))
  else
  if xin ((3 * x2) + 1) 48 = true then
  xbd (f_t_rowOf (tA τ 80 ((3 * x2) + 1).toNatClampNeg) τ) fun r1 τ1 =>
  if xin ((3 * x2) + 2) 48 = true then
  if r1 = (tA τ1 80 ((3 * x2) + 2).toNatClampNeg) then
  Jt_isAsSeen_63 x1 x2 τ1
  else
  some (.inr (.inr (0, τ1)))
  else none
  else none
  else none
  else
  Jt_isAsSeen_63 x1 x2 τ
  else none
theorem ok_Bt_isAsSeen_2 {D : TD} {m : Nat} {K : xK} {Z : Option Value × TS} {x1 : Int32} {x2 : Int32} {τ : TS} {o_ : ((Int32 × TS) ⊕ ((TS) ⊕ ((Int32 × TS))))} (hf : Bt_isAsSeen_2 x1 x2 τ = some o_) (kc : ∀ s_ : Int32 × TS, o_ = .inl s_ → xV (wT D m) K mX6_isAsSeen (xQ (wT D m) K Z) s_.2 2 [(0, .ref m), (1, .int x1), (2, .int s_.1)] []) (ke0 : ∀ e_ : TS, o_ = .inr (.inl e_) → xV (wT D m) K mX6_isAsSeen (xQ (wT D m) K Z) e_ 69 [] []) (kr : ∀ r_ : (Int32 × TS), o_ = .inr (.inr r_) → Z = (some (.int r_.1), r_.2)) : xV (wT D m) K mX6_isAsSeen (xQ (wT D m) K Z) τ 2 [(0, .ref m), (1, .int x1), (2, .int x2)] [] := by
  unfold Bt_isAsSeen_2 at hf
  refine xr_iload_n (pc := 2) 2 dX6_isAsSeen_2 rfl rfl ?_
  refine xr_aload_n (pc := 3) 0 dX6_isAsSeen_3 rfl rfl ?_
  refine xt_getI (pc := 4) 79 (by decide) q1825 rfl rfl rfl dX6_isAsSeen_4 ?_
  refine xr_icmp_ge (pc := 7) 69 dX6_isAsSeen_7 (by decide) (fun c_ => ?_) (fun c_ => ?_)
  · have hf := xo_pos c_ hf
    refine xV_sub [] rfl ?_
    exact ke0 _ (Option.some.inj hf).symm
  · have hf := xo_neg c_ hf
    refine xr_aload_n (pc := 10) 0 dX6_isAsSeen_10 rfl rfl ?_
    refine xt_getA (pc := 11) 80 (by decide) q1826 rfl rfl rfl dX6_isAsSeen_11 ?_
    refine xr_iconst (pc := 14) dX6_isAsSeen_14 xci_3 ?_
    refine xr_iload_n (pc := 15) 2 dX6_isAsSeen_15 rfl rfl ?_
    refine xr_imul (pc := 16) dX6_isAsSeen_16 ?_
    obtain ⟨hi_, hf⟩ := xo_if hf
    refine xt_iald (pc := 17) 80 rfl rfl hi_ dX6_isAsSeen_17 ?_
    refine xr_iload_n (pc := 18) 1 dX6_isAsSeen_18 rfl rfl ?_
    refine xr_icmp_ne (pc := 19) 63 dX6_isAsSeen_19 (by decide) (fun c_ => ?_) (fun c_ => ?_)
    · have hf := xo_pos c_ hf
      refine xr_aload_n (pc := 22) 0 dX6_isAsSeen_22 rfl rfl ?_
      refine xt_getA (pc := 23) 62 (by decide) q1808 rfl rfl rfl dX6_isAsSeen_23 ?_
      refine xr_iconst (pc := 26) dX6_isAsSeen_26 xci_0 ?_
      obtain ⟨hi_, hf⟩ := xo_if hf
      refine xt_iald (pc := 27) 62 rfl rfl hi_ dX6_isAsSeen_27 ?_
      refine xr_sipush (pc := 28) dX6_isAsSeen_28 xcs_999 ?_
      refine xr_icmp_gt (pc := 31) 61 dX6_isAsSeen_31 (by decide) (fun c_ => ?_) (fun c_ => ?_)
      · have hf := xo_pos c_ hf
        refine xr_iconst (pc := 61) dX6_isAsSeen_61 xci_0 ?_
        rw [kr _ (Option.some.inj hf).symm]
        exact xr_zret (pc := 62) dX6_isAsSeen_62 rfl xz_0
      · have hf := xo_neg c_ hf
        refine xr_aload_n (pc := 34) 0 dX6_isAsSeen_34 rfl rfl ?_
        refine xr_aload_n (pc := 35) 0 dX6_isAsSeen_35 rfl rfl ?_
        refine xt_getA (pc := 36) 80 (by decide) q1826 rfl rfl rfl dX6_isAsSeen_36 ?_
        refine xr_iconst (pc := 39) dX6_isAsSeen_39 xci_3 ?_
        refine xr_iload_n (pc := 40) 2 dX6_isAsSeen_40 rfl rfl ?_
        refine xr_imul (pc := 41) dX6_isAsSeen_41 ?_
        refine xr_iconst (pc := 42) dX6_isAsSeen_42 xci_1 ?_
        refine xr_iadd (pc := 43) dX6_isAsSeen_43 ?_
        obtain ⟨hi_, hf⟩ := xo_if hf
        refine xt_iald (pc := 44) 80 rfl rfl hi_ dX6_isAsSeen_44 ?_
        obtain ⟨r1, τ1, hτ1, hf⟩ := xo_bd hf
        refine call_f_t_rowOf (pc := 45) hτ1 rfl (Nat.le_of_ble_eq_true rfl) (Nat.le_of_ble_eq_true rfl) (Nat.le_of_ble_eq_true rfl) dX6_isAsSeen_45 ?_
        refine xr_aload_n (pc := 48) 0 dX6_isAsSeen_48 rfl rfl ?_
        refine xt_getA (pc := 49) 80 (by decide) q1826 rfl rfl rfl dX6_isAsSeen_49 ?_
        refine xr_iconst (pc := 52) dX6_isAsSeen_52 xci_3 ?_
        refine xr_iload_n (pc := 53) 2 dX6_isAsSeen_53 rfl rfl ?_
        refine xr_imul (pc := 54) dX6_isAsSeen_54 ?_
        refine xr_iconst (pc := 55) dX6_isAsSeen_55 xci_2 ?_
        refine xr_iadd (pc := 56) dX6_isAsSeen_56 ?_
        obtain ⟨hi_, hf⟩ := xo_if hf
        refine xt_iald (pc := 57) 80 rfl rfl hi_ dX6_isAsSeen_57 ?_
        refine xr_icmp_eq (pc := 58) 63 dX6_isAsSeen_58 (by decide) (fun c_ => ?_) (fun c_ => ?_)
        · have hf := xo_pos c_ hf
          exact ok_Jt_isAsSeen_63 hf kc ke0 kr
        · have hf := xo_neg c_ hf
          refine xr_iconst (pc := 61) dX6_isAsSeen_61 xci_0 ?_
          rw [kr _ (Option.some.inj hf).symm]
          exact xr_zret (pc := 62) dX6_isAsSeen_62 rfl xz_0
    · have hf := xo_neg c_ hf
      exact ok_Jt_isAsSeen_63 hf kc ke0 kr
def f_t_isAsSeen (x1 : Int32) (τ : TS) : Option (Int32 × TS) :=
  (itr (fun s_ : Int32 × TS => Bt_isAsSeen_2 x1 s_.1 s_.2) 4096 (0, τ)).bind fun b2 =>
  (Sum.elim (fun e3 => some ((1, e3))) (fun r_ => some r_)) b2
theorem ok_f_t_isAsSeen {D : TD} {m : Nat} {K : xK} {Z : Option Value × TS} {x1 : Int32} {τ : TS} {o_ : (Int32 × TS)} (hf : f_t_isAsSeen x1 τ = some o_) (kr : ∀ r_ : (Int32 × TS), o_ = r_ → Z = (some (.int r_.1), r_.2)) : xV (wT D m) K mX6_isAsSeen (xQ (wT D m) K Z) τ 0 [(0, .ref m), (1, .int x1)] [] := by
  unfold f_t_isAsSeen at hf
  refine xr_iconst (pc := 0) dX6_isAsSeen_0 xci_0 ?_
  refine xr_istore_n (pc := 1) (loc' := [(2, .int 0), (0, .ref m), (1, .int x1)]) dX6_isAsSeen_1 rfl (by decide) rfl ?_
  refine xV_sub [1, 2, 0] rfl ?_
  obtain ⟨b2, hb2, hf⟩ := xo_bind hf
  refine itr_rule (P := fun s_ : Int32 × TS => xV (wT D m) K mX6_isAsSeen (xQ (wT D m) K Z) s_.2 2 [(0, .ref m), (1, .int x1), (2, .int s_.1)] []) (fun s_ o_ hB_ hc_ he_ => ok_Bt_isAsSeen_2 hB_ hc_ (fun e3 h_ => ?_) (fun r_ h_ => ?_)) 4096 _ hb2
  · have e9_ := he_ _ h_
    subst e9_
    have hf := xo_inl hf
    refine xr_iconst (pc := 69) dX6_isAsSeen_69 xci_1 ?_
    rw [kr _ (Option.some.inj hf).symm]
    exact xr_zret (pc := 70) dX6_isAsSeen_70 rfl xz_1
  · have e9_ := he_ _ h_
    subst e9_
    have hf := xo_inr hf
    exact kr _ (Option.some.inj hf).symm
theorem met_f_t_isAsSeen (l : Launch) {D : TD} {m : Nat} {x1 : Int32} {τ : TS} {o_ : (Int32 × TS)} (hf : f_t_isAsSeen x1 τ = some o_) : xMet (wT D m) l yX6_isAsSeen (ws_ yX6_isAsSeen cX6_isAsSeen 3 (some .boolean)) 1 60 0 0 [.ref m, .int x1] τ (some (.int o_.1), o_.2) :=
  xMet_of (by decide) (Nat.le_of_ble_eq_true rfl) KT_moved (fun _ _ => trivial) (fun K _ _ _ => ok_f_t_isAsSeen hf (fun _ h => by rw [h]))
theorem hd_f_t_isAsSeen : yX6_isAsSeen.cls = RX6 ∧ yX6_isAsSeen.cls ≠ "java/lang/invoke/MethodHandle" ∧ yX6_isAsSeen.cls ≠ "java/lang/invoke/VarHandle" ∧ (parseMethodDescriptor yX6_isAsSeen.desc).map (fun d => d.parameters.length) = some 1 := by decide +kernel
theorem call_f_t_isAsSeen {D : TD} {m : Nat} {K : xK} {M : xM} {Q : State → Prop} {x1 : Int32} {τ : TS} {pc : Nat} {loc : List (Nat × Value)} {st : List Value} {r : Int32} {τ1 : TS} (hf : f_t_isAsSeen x1 τ = some (r, τ1)) (ho : M.2.2.1 = RX6) (hfr : 2 ≤ M.2.2.2.1) (hlo : 82 ≤ M.2.2.2.2.1) (hcat : (st.map fun v => v.category).sum ≤ 8) (d : decode M.1 pc = .ok (.invokevirtual 672, 3)) (k : xV (wT D m) K M Q τ1 (pc + 3) loc (.int r :: st)) : xV (wT D m) K M Q τ pc loc (.int x1 :: .ref m :: st) :=
  xr_callV (As := [.int x1]) (rest := st) (met_f_t_isAsSeen K.2.1 hf) (lw_V q2627 q2629 qs158 q186 q2630) hd_f_t_isAsSeen ho hfr hlo rfl (fun H hR hK => t_recv H hR hK) rfl hcat d k
