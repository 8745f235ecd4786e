set_option maxRecDepth 100000
abbrev mX6_laysFits : xM := (cX6_laysFits, 5, RX6, 8, 480, none, "laysFits")
def Jt_laysFits_58 (x1 : Int32) (x2 : Int32) (x4 : Int32) (s0 : Int32) (τ : TS) : Option ((Int32 × Int32 × TS) ⊕ ((Int32 × TS))) :=
  xbd (f_t_rowOf x1 τ) fun r3 τ3 =>
  if xin ((31 * x2) + x4) 248 = true then
  (f_t_seasonGoes (sA τ3 81 ((31 * x2) + x4).toNatClampNeg r3)).bind fun τ4 =>
  some (.inl (s0, x4 + 1, τ4))
  else none
theorem ok_Jt_laysFits_58 {D : TD} {m : Nat} {K : xK} {Z : Option Value × TS} {x1 : Int32} {x2 : Int32} {x4 : Int32} {s0 : Int32} {τ : TS} {o_ : ((Int32 × Int32 × TS) ⊕ ((Int32 × TS)))} (hf : Jt_laysFits_58 x1 x2 x4 s0 τ = some o_) (kc : ∀ s_ : Int32 × Int32 × TS, o_ = .inl s_ → xV (wT D m) K mX6_laysFits (xQ (wT D m) K Z) s_.2.2 33 [(0, .ref m), (1, .int x1), (2, .int x2), (3, .int s_.1), (4, .int s_.2.1)] []) (ke0 : ∀ e_ : Int32 × TS, o_ = .inr e_ → xV (wT D m) K mX6_laysFits (xQ (wT D m) K Z) e_.2 86 [(0, .ref m), (1, .int x1), (2, .int x2), (3, .int e_.1)] []) : xV (wT D m) K mX6_laysFits (xQ (wT D m) K Z) τ 58 [(0, .ref m), (1, .int x1), (2, .int x2), (4, .int x4)] [.int s0] := by
  unfold Jt_laysFits_58 at hf
  refine xr_istore_n (pc := 58) (loc' := [(3, .int s0), (0, .ref m), (1, .int x1), (2, .int x2), (4, .int x4)]) dX6_laysFits_58 rfl (by decide) rfl ?_
  refine xr_aload_n (pc := 59) 1 dX6_laysFits_59 rfl rfl ?_
  refine xt_getA (pc := 60) 81 (by decide) q1827 rfl rfl rfl dX6_laysFits_60 ?_
  refine xr_bipush (pc := 63) dX6_laysFits_63 xcb_31 ?_
  refine xr_iload_n (pc := 65) 3 dX6_laysFits_65 rfl rfl ?_
  refine xr_imul (pc := 66) dX6_laysFits_66 ?_
  refine xr_iload (pc := 67) 4 dX6_laysFits_67 rfl ?_
  refine xr_iadd (pc := 69) dX6_laysFits_69 ?_
  refine xr_aload_n (pc := 70) 1 dX6_laysFits_70 rfl rfl ?_
  refine xr_iload_n (pc := 71) 2 dX6_laysFits_71 rfl rfl ?_
  obtain ⟨r3, τ3, hτ3, hf⟩ := xo_bd hf
  refine call_f_t_rowOf (pc := 72) hτ3 rfl (Nat.le_of_ble_eq_true rfl) (Nat.le_of_ble_eq_true rfl) (Nat.le_of_ble_eq_true rfl) dX6_laysFits_72 ?_
  obtain ⟨hi_, hf⟩ := xo_if hf
  refine xt_iast (pc := 75) 81 rfl rfl hi_ dX6_laysFits_75 ?_
  refine xr_aload_n (pc := 76) 1 dX6_laysFits_76 rfl rfl ?_
  obtain ⟨τ4, hτ4, hf⟩ := xo_bind hf
  refine call_f_t_seasonGoes (pc := 77) hτ4 rfl (Nat.le_of_ble_eq_true rfl) (Nat.le_of_ble_eq_true rfl) (Nat.le_of_ble_eq_true rfl) dX6_laysFits_77 ?_
  refine xr_iinc (pc := 80) (loc' := [(4, .int (x4 + 1)), (3, .int s0), (0, .ref m), (1, .int x1), (2, .int x2)]) 4 dX6_laysFits_80 rfl xci_1 (by decide) rfl ?_
  refine xr_goto (pc := 83) 33 dX6_laysFits_83 (by decide) ?_
  refine xV_sub [2, 3, 4, 1, 0] rfl ?_
  exact kc _ (Option.some.inj hf).symm
def Jt_laysFits_57 (x1 : Int32) (x2 : Int32) (x4 : Int32) (τ : TS) : Option ((Int32 × Int32 × TS) ⊕ ((Int32 × TS))) :=
  Jt_laysFits_58 x1 x2 x4 0 τ
theorem ok_Jt_laysFits_57 {D : TD} {m : Nat} {K : xK} {Z : Option Value × TS} {x1 : Int32} {x2 : Int32} {x4 : Int32} {τ : TS} {o_ : ((Int32 × Int32 × TS) ⊕ ((Int32 × TS)))} (hf : Jt_laysFits_57 x1 x2 x4 τ = some o_) (kc : ∀ s_ : Int32 × Int32 × TS, o_ = .inl s_ → xV (wT D m) K mX6_laysFits (xQ (wT D m) K Z) s_.2.2 33 [(0, .ref m), (1, .int x1), (2, .int x2), (3, .int s_.1), (4, .int s_.2.1)] []) (ke0 : ∀ e_ : Int32 × TS, o_ = .inr e_ → xV (wT D m) K mX6_laysFits (xQ (wT D m) K Z) e_.2 86 [(0, .ref m), (1, .int x1), (2, .int x2), (3, .int e_.1)] []) : xV (wT D m) K mX6_laysFits (xQ (wT D m) K Z) τ 57 [(0, .ref m), (1, .int x1), (2, .int x2), (4, .int x4)] [] := by
  unfold Jt_laysFits_57 at hf
  refine xr_iconst (pc := 57) dX6_laysFits_57 xci_0 ?_
  exact ok_Jt_laysFits_58 hf kc ke0
def Bt_laysFits_33 (x1 : Int32) (x2 : Int32) (x3 : Int32) (x4 : Int32) (τ : TS) : Option ((Int32 × Int32 × TS) ⊕ ((Int32 × TS))) :=
  if 30 < x4 then
  some (.inr (x3, τ))
  else
  if x3 = 0 then
  Jt_laysFits_57 x1 x2 x4 τ
  else
  xbd (f_t_isAsSeen x4 τ) fun r5 τ5 =>
  if r5 = 0 then
  Jt_laysFits_57 x1 x2 x4 τ5
  else
  Jt_laysFits_58 x1 x2 x4 1 τ5
theorem ok_Bt_laysFits_33 {D : TD} {m : Nat} {K : xK} {Z : Option Value × TS} {x1 : Int32} {x2 : Int32} {x3 : Int32} {x4 : Int32} {τ : TS} {o_ : ((Int32 × Int32 × TS) ⊕ ((Int32 × TS)))} (hf : Bt_laysFits_33 x1 x2 x3 x4 τ = some o_) (kc : ∀ s_ : Int32 × Int32 × TS, o_ = .inl s_ → xV (wT D m) K mX6_laysFits (xQ (wT D m) K Z) s_.2.2 33 [(0, .ref m), (1, .int x1), (2, .int x2), (3, .int s_.1), (4, .int s_.2.1)] []) (ke0 : ∀ e_ : Int32 × TS, o_ = .inr e_ → xV (wT D m) K mX6_laysFits (xQ (wT D m) K Z) e_.2 86 [(0, .ref m), (1, .int x1), (2, .int x2), (3, .int e_.1)] []) : xV (wT D m) K mX6_laysFits (xQ (wT D m) K Z) τ 33 [(0, .ref m), (1, .int x1), (2, .int x2), (3, .int x3), (4, .int x4)] [] := by
  unfold Bt_laysFits_33 at hf
  refine xr_iload (pc := 33) 4 dX6_laysFits_33 rfl ?_
  refine xr_bipush (pc := 35) dX6_laysFits_35 xcb_30 ?_
  refine xr_icmp_gt (pc := 37) 86 dX6_laysFits_37 (by decide) (fun c_ => ?_) (fun c_ => ?_)
  · have hf := xo_pos c_ hf
    refine xV_sub [0, 1, 2, 3] rfl ?_
    exact ke0 _ (Option.some.inj hf).symm
  · have hf := xo_neg c_ hf
    refine xr_iload_n (pc := 40) 3 dX6_laysFits_40 rfl rfl ?_
    refine xr_if_eq (pc := 41) 57 dX6_laysFits_41 (by decide) (fun c_ => ?_) (fun c_ => ?_)
    · have hf := xo_pos c_ hf
      refine xV_sub [0, 1, 2, 4] rfl ?_
      exact ok_Jt_laysFits_57 hf kc ke0
    · have hf := xo_neg c_ hf
      refine xr_aload_n (pc := 44) 0 dX6_laysFits_44 rfl rfl ?_
      refine xr_iload (pc := 45) 4 dX6_laysFits_45 rfl ?_
      obtain ⟨r5, τ5, hτ5, hf⟩ := xo_bd hf
      refine call_f_t_isAsSeen (pc := 47) hτ5 rfl (Nat.le_of_ble_eq_true rfl) (Nat.le_of_ble_eq_true rfl) (Nat.le_of_ble_eq_true rfl) dX6_laysFits_47 ?_
      refine xr_if_eq (pc := 50) 57 dX6_laysFits_50 (by decide) (fun c_ => ?_) (fun c_ => ?_)
      · have hf := xo_pos c_ hf
        refine xV_sub [0, 1, 2, 4] rfl ?_
        exact ok_Jt_laysFits_57 hf kc ke0
      · have hf := xo_neg c_ hf
        refine xr_iconst (pc := 53) dX6_laysFits_53 xci_1 ?_
        refine xr_goto (pc := 54) 58 dX6_laysFits_54 (by decide) ?_
        refine xV_sub [0, 1, 2, 4] rfl ?_
        exact ok_Jt_laysFits_58 hf kc ke0
def Jt_laysFits_111 (x1 : Int32) (x2 : Int32) (τ : TS) : Option ((Int32 × TS) ⊕ ((TS))) :=
  some (.inl (x2 + 1, τ))
theorem ok_Jt_laysFits_111 {D : TD} {m : Nat} {K : xK} {Z : Option Value × TS} {x1 : Int32} {x2 : Int32} {τ : TS} {o_ : ((Int32 × TS) ⊕ ((TS)))} (hf : Jt_laysFits_111 x1 x2 τ = some o_) (kc : ∀ s_ : Int32 × TS, o_ = .inl s_ → xV (wT D m) K mX6_laysFits (xQ (wT D m) K Z) s_.2 11 [(0, .ref m), (1, .int x1), (2, .int s_.1)] []) (ke0 : ∀ e_ : TS, o_ = .inr e_ → xV (wT D m) K mX6_laysFits (xQ (wT D m) K Z) e_ 117 [(0, .ref m)] []) : xV (wT D m) K mX6_laysFits (xQ (wT D m) K Z) τ 111 [(0, .ref m), (1, .int x1), (2, .int x2)] [] := by
  unfold Jt_laysFits_111 at hf
  refine xr_iinc (pc := 111) (loc' := [(2, .int (x2 + 1)), (0, .ref m), (1, .int x1)]) 2 dX6_laysFits_111 rfl xci_1 (by decide) rfl ?_
  refine xr_goto (pc := 114) 11 dX6_laysFits_114 (by decide) ?_
  refine xV_sub [1, 2, 0] rfl ?_
  exact kc _ (Option.some.inj hf).symm
def Bt_laysFits_11 (x1 : Int32) (x2 : Int32) (τ : TS) : Option ((Int32 × TS) ⊕ ((TS))) :=
  xbd (f_t_rowsMany τ) fun r2 τ2 =>
  if r2 ≤ x2 then
  some (.inr τ2)
  else
  if xin (2 + x1) 303 = true then
  (itr (fun s_ : Int32 × Int32 × TS => Bt_laysFits_33 x1 x2 s_.1 s_.2.1 s_.2.2) 4096 (1, 0, sA τ2 62 (2 + x1).toNatClampNeg x2)).bind fun b6 =>
  (f_t_triesAnew b6.2).bind fun τ7 =>
  if xin x2 8 = true then
  if b6.1 = 0 then
  Jt_laysFits_111 x1 x2 (sA τ7 82 x2.toNatClampNeg (b6.1 &&& 1))
  else
  Jt_laysFits_111 x1 x2 (sI (sA τ7 82 x2.toNatClampNeg (b6.1 &&& 1)) 83 ((tI (sA τ7 82 x2.toNatClampNeg (b6.1 &&& 1)) 83) + 1))
  else none
  else none
theorem ok_Bt_laysFits_11 {D : TD} {m : Nat} {K : xK} {Z : Option Value × TS} {x1 : Int32} {x2 : Int32} {τ : TS} {o_ : ((Int32 × TS) ⊕ ((TS)))} (hf : Bt_laysFits_11 x1 x2 τ = some o_) (kc : ∀ s_ : Int32 × TS, o_ = .inl s_ → xV (wT D m) K mX6_laysFits (xQ (wT D m) K Z) s_.2 11 [(0, .ref m), (1, .int x1), (2, .int s_.1)] []) (ke0 : ∀ e_ : TS, o_ = .inr e_ → xV (wT D m) K mX6_laysFits (xQ (wT D m) K Z) e_ 117 [(0, .ref m)] []) : xV (wT D m) K mX6_laysFits (xQ (wT D m) K Z) τ 11 [(0, .ref m), (1, .int x1), (2, .int x2)] [] := by
  unfold Bt_laysFits_11 at hf
  refine xr_iload_n (pc := 11) 2 dX6_laysFits_11 rfl rfl ?_
  refine xr_aload_n (pc := 12) 0 dX6_laysFits_12 rfl rfl ?_
  obtain ⟨r2, τ2, hτ2, hf⟩ := xo_bd hf
  refine call_f_t_rowsMany (pc := 13) hτ2 rfl (Nat.le_of_ble_eq_true rfl) (Nat.le_of_ble_eq_true rfl) (Nat.le_of_ble_eq_true rfl) dX6_laysFits_13 ?_
  refine xr_icmp_ge (pc := 16) 117 dX6_laysFits_16 (by decide) (fun c_ => ?_) (fun c_ => ?_)
  · have hf := xo_pos c_ hf
    refine xV_sub [0] rfl ?_
    exact ke0 _ (Option.some.inj hf).symm
  · have hf := xo_neg c_ hf
    refine xr_aload_n (pc := 19) 0 dX6_laysFits_19 rfl rfl ?_
    refine xt_getA (pc := 20) 62 (by decide) q1808 rfl rfl rfl dX6_laysFits_20 ?_
    refine xr_iconst (pc := 23) dX6_laysFits_23 xci_2 ?_
    refine xr_iload_n (pc := 24) 1 dX6_laysFits_24 rfl rfl ?_
    refine xr_iadd (pc := 25) dX6_laysFits_25 ?_
    refine xr_iload_n (pc := 26) 2 dX6_laysFits_26 rfl rfl ?_
    obtain ⟨hi_, hf⟩ := xo_if hf
    refine xt_iast (pc := 27) 62 rfl rfl hi_ dX6_laysFits_27 ?_
    refine xr_iconst (pc := 28) dX6_laysFits_28 xci_1 ?_
    refine xr_istore_n (pc := 29) (loc' := [(3, .int 1), (0, .ref m), (1, .int x1), (2, .int x2)]) dX6_laysFits_29 rfl (by decide) rfl ?_
    refine xr_iconst (pc := 30) dX6_laysFits_30 xci_0 ?_
    refine xr_istore (pc := 31) (loc' := [(4, .int 0), (3, .int 1), (0, .ref m), (1, .int x1), (2, .int x2)]) dX6_laysFits_31 (by decide) rfl ?_
    refine xV_sub [2, 3, 4, 1, 0] rfl ?_
    obtain ⟨b6, hb6, hf⟩ := xo_bind hf
    refine itr_rule (P := fun s_ : Int32 × Int32 × TS => xV (wT D m) K mX6_laysFits (xQ (wT D m) K Z) s_.2.2 33 [(0, .ref m), (1, .int x1), (2, .int x2), (3, .int s_.1), (4, .int s_.2.1)] []) (fun s_ o_ hB_ hc_ he_ => ok_Bt_laysFits_33 hB_ hc_ (fun e_ h_ => ?_)) 4096 _ hb6
    · have e9_ := he_ _ h_
      rw [e9_]
      refine xr_aload_n (pc := 86) 0 dX6_laysFits_86 rfl rfl ?_
      obtain ⟨τ7, hτ7, hf⟩ := xo_bind hf
      refine call_f_t_triesAnew (pc := 87) hτ7 rfl (Nat.le_of_ble_eq_true rfl) (Nat.le_of_ble_eq_true rfl) (Nat.le_of_ble_eq_true rfl) dX6_laysFits_87 ?_
      refine xr_aload_n (pc := 90) 0 dX6_laysFits_90 rfl rfl ?_
      refine xt_getA (pc := 91) 82 (by decide) q1828 rfl rfl rfl dX6_laysFits_91 ?_
      refine xr_iload_n (pc := 94) 2 dX6_laysFits_94 rfl rfl ?_
      refine xr_iload_n (pc := 95) 3 dX6_laysFits_95 rfl rfl ?_
      obtain ⟨hi_, hf⟩ := xo_if hf
      refine xt_zast (pc := 96) 82 rfl rfl hi_ dX6_laysFits_96 ?_
      refine xr_iload_n (pc := 97) 3 dX6_laysFits_97 rfl rfl ?_
      refine xr_if_eq (pc := 98) 111 dX6_laysFits_98 (by decide) (fun c_ => ?_) (fun c_ => ?_)
      · have hf := xo_pos c_ hf
        refine xV_sub [0, 1, 2] rfl ?_
        exact ok_Jt_laysFits_111 hf kc ke0
      · have hf := xo_neg c_ hf
        refine xr_aload_n (pc := 101) 0 dX6_laysFits_101 rfl rfl ?_
        refine xr_dup (pc := 102) dX6_laysFits_102 rfl ?_
        refine xt_getI (pc := 103) 83 (by decide) q1829 rfl rfl rfl dX6_laysFits_103 ?_
        refine xr_iconst (pc := 106) dX6_laysFits_106 xci_1 ?_
        refine xr_iadd (pc := 107) dX6_laysFits_107 ?_
        refine xt_putI (pc := 108) 83 (by decide) q1829 rfl rfl rfl (by decide +kernel) rfl dX6_laysFits_108 ?_
        refine xV_sub [0, 1, 2] rfl ?_
        exact ok_Jt_laysFits_111 hf kc ke0
def f_t_laysFits (x1 : Int32) (τ : TS) : Option TS :=
  (f_t_putsAside (sI τ 83 0)).bind fun τ1 =>
  (itr (fun s_ : Int32 × TS => Bt_laysFits_11 x1 s_.1 s_.2) 4096 (0, τ1)).bind fun b8 =>
  (f_t_takesBack b8).bind fun τ9 =>
  some (τ9)
theorem ok_f_t_laysFits {D : TD} {m : Nat} {K : xK} {Z : Option Value × TS} {x1 : Int32} {τ : TS} {o_ : TS} (hf : f_t_laysFits x1 τ = some o_) (kr : ∀ r_ : TS, o_ = r_ → Z = (none, r_)) : xV (wT D m) K mX6_laysFits (xQ (wT D m) K Z) τ 0 [(0, .ref m), (1, .int x1)] [] := by
  unfold f_t_laysFits at hf
  refine xr_aload_n (pc := 0) 0 dX6_laysFits_0 rfl rfl ?_
  refine xr_iconst (pc := 1) dX6_laysFits_1 xci_0 ?_
  refine xt_putI (pc := 2) 83 (by decide) q1829 rfl rfl rfl (by decide +kernel) rfl dX6_laysFits_2 ?_
  refine xr_aload_n (pc := 5) 0 dX6_laysFits_5 rfl rfl ?_
  obtain ⟨τ1, hτ1, hf⟩ := xo_bind hf
  refine call_f_t_putsAside (pc := 6) hτ1 rfl (Nat.le_of_ble_eq_true rfl) (Nat.le_of_ble_eq_true rfl) (Nat.le_of_ble_eq_true rfl) dX6_laysFits_6 ?_
  refine xr_iconst (pc := 9) dX6_laysFits_9 xci_0 ?_
  refine xr_istore_n (pc := 10) (loc' := [(2, .int 0), (0, .ref m), (1, .int x1)]) dX6_laysFits_10 rfl (by decide) rfl ?_
  refine xV_sub [1, 2, 0] rfl ?_
  obtain ⟨b8, hb8, hf⟩ := xo_bind hf
  refine itr_rule (P := fun s_ : Int32 × TS => xV (wT D m) K mX6_laysFits (xQ (wT D m) K Z) s_.2 11 [(0, .ref m), (1, .int x1), (2, .int s_.1)] []) (fun s_ o_ hB_ hc_ he_ => ok_Bt_laysFits_11 hB_ hc_ (fun e_ h_ => ?_)) 4096 _ hb8
  · have e9_ := he_ _ h_
    rw [e9_]
    refine xr_aload_n (pc := 117) 0 dX6_laysFits_117 rfl rfl ?_
    obtain ⟨τ9, hτ9, hf⟩ := xo_bind hf
    refine call_f_t_takesBack (pc := 118) hτ9 rfl (Nat.le_of_ble_eq_true rfl) (Nat.le_of_ble_eq_true rfl) (Nat.le_of_ble_eq_true rfl) dX6_laysFits_118 ?_
    rw [kr _ (Option.some.inj hf).symm]
    exact xr_vret (pc := 121) dX6_laysFits_121 rfl
theorem met_f_t_laysFits (l : Launch) {D : TD} {m : Nat} {x1 : Int32} {τ : TS} {o_ : TS} (hf : f_t_laysFits x1 τ = some o_) : xMet (wT D m) l yX6_laysFits (ws_ yX6_laysFits cX6_laysFits 5 none) 8 480 0 0 [.ref m, .int x1] τ (none, o_) :=
  xMet_of (by decide) (Nat.le_of_ble_eq_true rfl) KT_moved (fun _ _ => trivial) (fun K _ _ _ => ok_f_t_laysFits hf (fun _ h => by rw [h]))
theorem hd_f_t_laysFits : yX6_laysFits.cls = RX6 ∧ yX6_laysFits.cls ≠ "java/lang/invoke/MethodHandle" ∧ yX6_laysFits.cls ≠ "java/lang/invoke/VarHandle" ∧ (parseMethodDescriptor yX6_laysFits.desc).map (fun d => d.parameters.length) = some 1 := by decide +kernel
theorem call_f_t_laysFits {D : TD} {m : Nat} {K : xK} {M : xM} {Q : State → Prop} {x1 : Int32} {τ : TS} {pc : Nat} {loc : List (Nat × Value)} {st : List Value} {τ1 : TS} (hf : f_t_laysFits x1 τ = some τ1) (ho : M.2.2.1 = RX6) (hfr : 9 ≤ M.2.2.2.1) (hlo : 504 ≤ M.2.2.2.2.1) (hcat : (st.map fun v => v.category).sum ≤ 8) (d : decode M.1 pc = .ok (.invokevirtual 675, 3)) (k : xV (wT D m) K M Q τ1 (pc + 3) loc st) : xV (wT D m) K M Q τ pc loc (.int x1 :: .ref m :: st) :=
  xr_callV (As := [.int x1]) (rest := st) (met_f_t_laysFits K.2.1 hf) (lw_V q2623 q2625 qs157 q186 q2626) hd_f_t_laysFits ho hfr hlo rfl (fun H hR hK => t_recv H hR hK) rfl hcat d k
abbrev mX6_ran : xM := (cX6_ran, 4, RX6, 9, 540, (some .int), "ran")
def Jt_ran_43 (x2 : Int32) (x3 : Int32) (τ : TS) : Option ((Int32 × Int32 × TS) ⊕ ((Int32 × TS))) :=
  some (.inl (x2, x3 + 1, τ))
theorem ok_Jt_ran_43 {D : TD} {m : Nat} {K : xK} {Z : Option Value × TS} {x2 : Int32} {x3 : Int32} {τ : TS} {o_ : ((Int32 × Int32 × TS) ⊕ ((Int32 × TS)))} (hf : Jt_ran_43 x2 x3 τ = some o_) (kc : ∀ s_ : Int32 × Int32 × TS, o_ = .inl s_ → xV (wT D m) K mX6_ran (xQ (wT D m) K Z) s_.2.2 20 [(0, .ref m), (2, .int s_.1), (3, .int s_.2.1)] []) (ke0 : ∀ e_ : Int32 × TS, o_ = .inr e_ → xV (wT D m) K mX6_ran (xQ (wT D m) K Z) e_.2 49 [(2, .int e_.1)] []) : xV (wT D m) K mX6_ran (xQ (wT D m) K Z) τ 43 [(0, .ref m), (2, .int x2), (3, .int x3)] [] := by
  unfold Jt_ran_43 at hf
  refine xr_iinc (pc := 43) (loc' := [(3, .int (x3 + 1)), (0, .ref m), (2, .int x2)]) 2 dX6_ran_43 rfl xci_1 (by decide) rfl ?_
  refine xr_goto (pc := 46) 20 dX6_ran_46 (by decide) ?_
  refine xV_sub [1, 2, 0] rfl ?_
  exact kc _ (Option.some.inj hf).symm
def Bt_ran_20 (x2 : Int32) (x3 : Int32) (τ : TS) : Option ((Int32 × Int32 × TS) ⊕ ((Int32 × TS))) :=
  xbd (f_t_rowsMany τ) fun r3 τ3 =>
  if r3 ≤ x3 then
  some (.inr (x2, τ3))
  else
  if xin x3 8 = true then
  if (tA τ3 82 x3.toNatClampNeg) = 0 then
  Jt_ran_43 x2 x3 τ3
  else
  Jt_ran_43 (x2 ||| ((1 : Int32) <<< (x3 &&& 31))) x3 τ3
  else none
theorem ok_Bt_ran_20 {D : TD} {m : Nat} {K : xK} {Z : Option Value × TS} {x2 : Int32} {x3 : Int32} {τ : TS} {o_ : ((Int32 × Int32 × TS) ⊕ ((Int32 × TS)))} (hf : Bt_ran_20 x2 x3 τ = some o_) (kc : ∀ s_ : Int32 × Int32 × TS, o_ = .inl s_ → xV (wT D m) K mX6_ran (xQ (wT D m) K Z) s_.2.2 20 [(0, .ref m), (2, .int s_.1), (3, .int s_.2.1)] []) (ke0 : ∀ e_ : Int32 × TS, o_ = .inr e_ → xV (wT D m) K mX6_ran (xQ (wT D m) K Z) e_.2 49 [(2, .int e_.1)] []) : xV (wT D m) K mX6_ran (xQ (wT D m) K Z) τ 20 [(0, .ref m), (2, .int x2), (3, .int x3)] [] := by
  unfold Bt_ran_20 at hf
  refine xr_iload_n (pc := 20) 2 dX6_ran_20 rfl rfl ?_
  refine xr_aload_n (pc := 21) 0 dX6_ran_21 rfl rfl ?_
  obtain ⟨r3, τ3, hτ3, hf⟩ := xo_bd hf
  refine call_f_t_rowsMany (pc := 22) hτ3 rfl (Nat.le_of_ble_eq_true rfl) (Nat.le_of_ble_eq_true rfl) (Nat.le_of_ble_eq_true rfl) dX6_ran_22 ?_
  refine xr_icmp_ge (pc := 25) 49 dX6_ran_25 (by decide) (fun c_ => ?_) (fun c_ => ?_)
  · have hf := xo_pos c_ hf
    refine xV_sub [1] rfl ?_
    exact ke0 _ (Option.some.inj hf).symm
  · have hf := xo_neg c_ hf
    refine xr_aload_n (pc := 28) 0 dX6_ran_28 rfl rfl ?_
    refine xt_getA (pc := 29) 82 (by decide) q1828 rfl rfl rfl dX6_ran_29 ?_
    refine xr_iload_n (pc := 32) 2 dX6_ran_32 rfl rfl ?_
    obtain ⟨hi_, hf⟩ := xo_if hf
    refine xt_zald (pc := 33) 82 rfl rfl hi_ dX6_ran_33 ?_
    refine xr_if_eq (pc := 34) 43 dX6_ran_34 (by decide) (fun c_ => ?_) (fun c_ => ?_)
    · have hf := xo_pos c_ hf
      exact ok_Jt_ran_43 hf kc ke0
    · have hf := xo_neg c_ hf
      refine xr_iload_n (pc := 37) 1 dX6_ran_37 rfl rfl ?_
      refine xr_iconst (pc := 38) dX6_ran_38 xci_1 ?_
      refine xr_iload_n (pc := 39) 2 dX6_ran_39 rfl rfl ?_
      refine xr_ishl (pc := 40) dX6_ran_40 ?_
      refine xr_ior (pc := 41) dX6_ran_41 ?_
      refine xr_istore_n (pc := 42) (loc' := [(2, .int (x2 ||| ((1 : Int32) <<< (x3 &&& 31)))), (0, .ref m), (3, .int x3)]) dX6_ran_42 rfl (by decide) rfl ?_
      refine xV_sub [1, 0, 2] rfl ?_
      exact ok_Jt_ran_43 hf kc ke0
def f_t_ran (x1 : Int32) (τ : TS) : Option (Int32 × TS) :=
  xbd (f_t_isColumn x1.toInt64 τ) fun r1 τ1 =>
  if r1 = 0 then
  some (((-1), τ1))
  else
  (f_t_laysFits x1 τ1).bind fun τ2 =>
  (itr (fun s_ : Int32 × Int32 × TS => Bt_ran_20 s_.1 s_.2.1 s_.2.2) 4096 (0, 0, τ2)).bind fun b4 =>
  some ((b4.1, b4.2))
theorem ok_f_t_ran {D : TD} {m : Nat} {K : xK} {Z : Option Value × TS} {x1 : Int32} {τ : TS} {o_ : (Int32 × TS)} (hf : f_t_ran x1 τ = some o_) (kr : ∀ r_ : (Int32 × TS), o_ = r_ → Z = (some (.int r_.1), r_.2)) : xV (wT D m) K mX6_ran (xQ (wT D m) K Z) τ 0 [(0, .ref m), (1, .int x1)] [] := by
  unfold f_t_ran at hf
  refine xr_aload_n (pc := 0) 0 dX6_ran_0 rfl rfl ?_
  refine xr_iload_n (pc := 1) 1 dX6_ran_1 rfl rfl ?_
  refine xr_i2l (pc := 2) dX6_ran_2 ?_
  obtain ⟨r1, τ1, hτ1, hf⟩ := xo_bd hf
  refine call_f_t_isColumn (pc := 3) hτ1 rfl (Nat.le_of_ble_eq_true rfl) (Nat.le_of_ble_eq_true rfl) (Nat.le_of_ble_eq_true rfl) dX6_ran_3 ?_
  refine xr_if_ne (pc := 6) 11 dX6_ran_6 (by decide) (fun c_ => ?_) (fun c_ => ?_)
  · have hf := xo_pos c_ hf
    refine xr_iconst (pc := 9) dX6_ran_9 xci_m1 ?_
    rw [kr _ (Option.some.inj hf).symm]
    exact xr_iret (pc := 10) dX6_ran_10 rfl
  · have hf := xo_neg c_ hf
    refine xr_aload_n (pc := 11) 0 dX6_ran_11 rfl rfl ?_
    refine xr_iload_n (pc := 12) 1 dX6_ran_12 rfl rfl ?_
    obtain ⟨τ2, hτ2, hf⟩ := xo_bind hf
    refine call_f_t_laysFits (pc := 13) hτ2 rfl (Nat.le_of_ble_eq_true rfl) (Nat.le_of_ble_eq_true rfl) (Nat.le_of_ble_eq_true rfl) dX6_ran_13 ?_
    refine xr_iconst (pc := 16) dX6_ran_16 xci_0 ?_
    refine xr_istore_n (pc := 17) (loc' := [(2, .int 0), (0, .ref m), (1, .int x1)]) dX6_ran_17 rfl (by decide) rfl ?_
    refine xr_iconst (pc := 18) dX6_ran_18 xci_0 ?_
    refine xr_istore_n (pc := 19) (loc' := [(3, .int 0), (2, .int 0), (0, .ref m), (1, .int x1)]) dX6_ran_19 rfl (by decide) rfl ?_
    refine xV_sub [2, 1, 0] rfl ?_
    obtain ⟨b4, hb4, hf⟩ := xo_bind hf
    refine itr_rule (P := fun s_ : Int32 × Int32 × TS => xV (wT D m) K mX6_ran (xQ (wT D m) K Z) s_.2.2 20 [(0, .ref m), (2, .int s_.1), (3, .int s_.2.1)] []) (fun s_ o_ hB_ hc_ he_ => ok_Bt_ran_20 hB_ hc_ (fun e_ h_ => ?_)) 4096 _ hb4
    · have e9_ := he_ _ h_
      rw [e9_]
      refine xr_iload_n (pc := 49) 0 dX6_ran_49 rfl rfl ?_
      rw [kr _ (Option.some.inj hf).symm]
      exact xr_iret (pc := 50) dX6_ran_50 rfl
theorem met_f_t_ran (l : Launch) {D : TD} {m : Nat} {x1 : Int32} {τ : TS} {o_ : (Int32 × TS)} (hf : f_t_ran x1 τ = some o_) : xMet (wT D m) l yX6_ran (ws_ yX6_ran cX6_ran 4 (some .int)) 9 540 0 0 [.ref m, .int x1] τ (some (.int o_.1), o_.2) :=
  xMet_of (by decide) (Nat.le_of_ble_eq_true rfl) KT_moved (fun _ _ => trivial) (fun K _ _ _ => ok_f_t_ran hf (fun _ h => by rw [h]))
abbrev mX6_mostAlike : xM := (cX6_mostAlike, 6, RX6, 1, 60, (some .int), "mostAlike")
def Jt_mostAlike_93 (x1 : Int32) (x2 : Int32) (x3 : Int32) (τ : TS) : Option ((Int32 × Int32 × TS) ⊕ ((Int32 × TS))) :=
  some (.inl (x2, x3 + 1, τ))
theorem ok_Jt_mostAlike_93 {D : TD} {m : Nat} {K : xK} {Z : Option Value × TS} {x1 : Int32} {x2 : Int32} {x3 : Int32} {τ : TS} {o_ : ((Int32 × Int32 × TS) ⊕ ((Int32 × TS)))} (hf : Jt_mostAlike_93 x1 x2 x3 τ = some o_) (kc : ∀ s_ : Int32 × Int32 × TS, o_ = .inl s_ → xV (wT D m) K mX6_mostAlike (xQ (wT D m) K Z) s_.2.2 4 [(0, .ref m), (1, .int x1), (2, .int s_.1), (3, .int s_.2.1)] []) (ke0 : ∀ e_ : Int32 × TS, o_ = .inr e_ → xV (wT D m) K mX6_mostAlike (xQ (wT D m) K Z) e_.2 99 [(2, .int e_.1)] []) : xV (wT D m) K mX6_mostAlike (xQ (wT D m) K Z) τ 93 [(0, .ref m), (1, .int x1), (2, .int x2), (3, .int x3)] [] := by
  unfold Jt_mostAlike_93 at hf
  refine xr_iinc (pc := 93) (loc' := [(3, .int (x3 + 1)), (0, .ref m), (1, .int x1), (2, .int x2)]) 3 dX6_mostAlike_93 rfl xci_1 (by decide) rfl ?_
  refine xr_goto (pc := 96) 4 dX6_mostAlike_96 (by decide) ?_
  refine xV_sub [1, 2, 3, 0] rfl ?_
  exact kc _ (Option.some.inj hf).symm
def Jt_mostAlike_78 (x1 : Int32) (x2 : Int32) (x3 : Int32) (x4 : Int32) (x5 : Int32) (τ : TS) : Option ((Int32 × Int32 × TS) ⊕ ((Int32 × TS))) :=
  some (.inl (x4, x5 + 1, τ))
theorem ok_Jt_mostAlike_78 {D : TD} {m : Nat} {K : xK} {Z : Option Value × TS} {x1 : Int32} {x2 : Int32} {x3 : Int32} {x4 : Int32} {x5 : Int32} {τ : TS} {o_ : ((Int32 × Int32 × TS) ⊕ ((Int32 × TS)))} (hf : Jt_mostAlike_78 x1 x2 x3 x4 x5 τ = some o_) (kc : ∀ s_ : Int32 × Int32 × TS, o_ = .inl s_ → xV (wT D m) K mX6_mostAlike (xQ (wT D m) K Z) s_.2.2 30 [(0, .ref m), (1, .int x1), (2, .int x2), (3, .int x3), (4, .int s_.1), (5, .int s_.2.1)] []) (ke0 : ∀ e_ : Int32 × TS, o_ = .inr e_ → xV (wT D m) K mX6_mostAlike (xQ (wT D m) K Z) e_.2 84 [(0, .ref m), (1, .int x1), (2, .int x2), (3, .int x3), (4, .int e_.1)] []) : xV (wT D m) K mX6_mostAlike (xQ (wT D m) K Z) τ 78 [(0, .ref m), (1, .int x1), (2, .int x2), (3, .int x3), (4, .int x4), (5, .int x5)] [] := by
  unfold Jt_mostAlike_78 at hf
  refine xr_iinc (pc := 78) (loc' := [(5, .int (x5 + 1)), (0, .ref m), (1, .int x1), (2, .int x2), (3, .int x3), (4, .int x4)]) 5 dX6_mostAlike_78 rfl xci_1 (by decide) rfl ?_
  refine xr_goto (pc := 81) 30 dX6_mostAlike_81 (by decide) ?_
  refine xV_sub [1, 2, 3, 4, 5, 0] rfl ?_
  exact kc _ (Option.some.inj hf).symm
def Bt_mostAlike_30 (x1 : Int32) (x2 : Int32) (x3 : Int32) (x4 : Int32) (x5 : Int32) (τ : TS) : Option ((Int32 × Int32 × TS) ⊕ ((Int32 × TS))) :=
  xbd (f_t_rowsMany τ) fun r2 τ2 =>
  if r2 ≤ x5 then
  some (.inr (x4, τ2))
  else
  if xin x5 8 = true then
  if (tA τ2 82 x5.toNatClampNeg) = 0 then
  Jt_mostAlike_78 x1 x2 x3 x4 x5 τ2
  else
  if xin ((31 * x3) + x1) 248 = true then
  if xin ((31 * x5) + x1) 248 = true then
  if (tA τ2 81 ((31 * x3) + x1).toNatClampNeg) = (tA τ2 81 ((31 * x5) + x1).toNatClampNeg) then
  Jt_mostAlike_78 x1 x2 x3 (x4 + 1) x5 τ2
  else
  Jt_mostAlike_78 x1 x2 x3 x4 x5 τ2
  else none
  else none
  else none
theorem ok_Bt_mostAlike_30 {D : TD} {m : Nat} {K : xK} {Z : Option Value × TS} {x1 : Int32} {x2 : Int32} {x3 : Int32} {x4 : Int32} {x5 : Int32} {τ : TS} {o_ : ((Int32 × Int32 × TS) ⊕ ((Int32 × TS)))} (hf : Bt_mostAlike_30 x1 x2 x3 x4 x5 τ = some o_) (kc : ∀ s_ : Int32 × Int32 × TS, o_ = .inl s_ → xV (wT D m) K mX6_mostAlike (xQ (wT D m) K Z) s_.2.2 30 [(0, .ref m), (1, .int x1), (2, .int x2), (3, .int x3), (4, .int s_.1), (5, .int s_.2.1)] []) (ke0 : ∀ e_ : Int32 × TS, o_ = .inr e_ → xV (wT D m) K mX6_mostAlike (xQ (wT D m) K Z) e_.2 84 [(0, .ref m), (1, .int x1), (2, .int x2), (3, .int x3), (4, .int e_.1)] []) : xV (wT D m) K mX6_mostAlike (xQ (wT D m) K Z) τ 30 [(0, .ref m), (1, .int x1), (2, .int x2), (3, .int x3), (4, .int x4), (5, .int x5)] [] := by
  unfold Bt_mostAlike_30 at hf
  refine xr_iload (pc := 30) 5 dX6_mostAlike_30 rfl ?_
  refine xr_aload_n (pc := 32) 0 dX6_mostAlike_32 rfl rfl ?_
  obtain ⟨r2, τ2, hτ2, hf⟩ := xo_bd hf
  refine call_f_t_rowsMany (pc := 33) hτ2 rfl (Nat.le_of_ble_eq_true rfl) (Nat.le_of_ble_eq_true rfl) (Nat.le_of_ble_eq_true rfl) dX6_mostAlike_33 ?_
  refine xr_icmp_ge (pc := 36) 84 dX6_mostAlike_36 (by decide) (fun c_ => ?_) (fun c_ => ?_)
  · have hf := xo_pos c_ hf
    refine xV_sub [0, 1, 2, 3, 4] rfl ?_
    exact ke0 _ (Option.some.inj hf).symm
  · have hf := xo_neg c_ hf
    refine xr_aload_n (pc := 39) 0 dX6_mostAlike_39 rfl rfl ?_
    refine xt_getA (pc := 40) 82 (by decide) q1828 rfl rfl rfl dX6_mostAlike_40 ?_
    refine xr_iload (pc := 43) 5 dX6_mostAlike_43 rfl ?_
    obtain ⟨hi_, hf⟩ := xo_if hf
    refine xt_zald (pc := 45) 82 rfl rfl hi_ dX6_mostAlike_45 ?_
    refine xr_if_eq (pc := 46) 78 dX6_mostAlike_46 (by decide) (fun c_ => ?_) (fun c_ => ?_)
    · have hf := xo_pos c_ hf
      exact ok_Jt_mostAlike_78 hf kc ke0
    · have hf := xo_neg c_ hf
      refine xr_aload_n (pc := 49) 0 dX6_mostAlike_49 rfl rfl ?_
      refine xt_getA (pc := 50) 81 (by decide) q1827 rfl rfl rfl dX6_mostAlike_50 ?_
      refine xr_bipush (pc := 53) dX6_mostAlike_53 xcb_31 ?_
      refine xr_iload_n (pc := 55) 3 dX6_mostAlike_55 rfl rfl ?_
      refine xr_imul (pc := 56) dX6_mostAlike_56 ?_
      refine xr_iload_n (pc := 57) 1 dX6_mostAlike_57 rfl rfl ?_
      refine xr_iadd (pc := 58) dX6_mostAlike_58 ?_
      obtain ⟨hi_, hf⟩ := xo_if hf
      refine xt_iald (pc := 59) 81 rfl rfl hi_ dX6_mostAlike_59 ?_
      refine xr_aload_n (pc := 60) 0 dX6_mostAlike_60 rfl rfl ?_
      refine xt_getA (pc := 61) 81 (by decide) q1827 rfl rfl rfl dX6_mostAlike_61 ?_
      refine xr_bipush (pc := 64) dX6_mostAlike_64 xcb_31 ?_
      refine xr_iload (pc := 66) 5 dX6_mostAlike_66 rfl ?_
      refine xr_imul (pc := 68) dX6_mostAlike_68 ?_
      refine xr_iload_n (pc := 69) 1 dX6_mostAlike_69 rfl rfl ?_
      refine xr_iadd (pc := 70) dX6_mostAlike_70 ?_
      obtain ⟨hi_, hf⟩ := xo_if hf
      refine xt_iald (pc := 71) 81 rfl rfl hi_ dX6_mostAlike_71 ?_
      refine xr_icmp_ne (pc := 72) 78 dX6_mostAlike_72 (by decide) (fun c_ => ?_) (fun c_ => ?_)
      · have hf := xo_pos c_ hf
        refine xr_iinc (pc := 75) (loc' := [(4, .int (x4 + 1)), (0, .ref m), (1, .int x1), (2, .int x2), (3, .int x3), (5, .int x5)]) 4 dX6_mostAlike_75 rfl xci_1 (by decide) rfl ?_
        refine xV_sub [1, 2, 3, 4, 0, 5] rfl ?_
        exact ok_Jt_mostAlike_78 hf kc ke0
      · have hf := xo_neg c_ hf
        exact ok_Jt_mostAlike_78 hf kc ke0
def Bt_mostAlike_4 (x1 : Int32) (x2 : Int32) (x3 : Int32) (τ : TS) : Option ((Int32 × Int32 × TS) ⊕ ((Int32 × TS))) :=
  xbd (f_t_rowsMany τ) fun r1 τ1 =>
  if r1 ≤ x3 then
  some (.inr (x2, τ1))
  else
  if xin x3 8 = true then
  if (tA τ1 82 x3.toNatClampNeg) = 0 then
  Jt_mostAlike_93 x1 x2 x3 τ1
  else
  (itr (fun s_ : Int32 × Int32 × TS => Bt_mostAlike_30 x1 x2 x3 s_.1 s_.2.1 s_.2.2) 4096 (0, 0, τ1)).bind fun b3 =>
  if b3.1 ≤ x2 then
  Jt_mostAlike_93 x1 x2 x3 b3.2
  else
  Jt_mostAlike_93 x1 b3.1 x3 b3.2
  else none
theorem ok_Bt_mostAlike_4 {D : TD} {m : Nat} {K : xK} {Z : Option Value × TS} {x1 : Int32} {x2 : Int32} {x3 : Int32} {τ : TS} {o_ : ((Int32 × Int32 × TS) ⊕ ((Int32 × TS)))} (hf : Bt_mostAlike_4 x1 x2 x3 τ = some o_) (kc : ∀ s_ : Int32 × Int32 × TS, o_ = .inl s_ → xV (wT D m) K mX6_mostAlike (xQ (wT D m) K Z) s_.2.2 4 [(0, .ref m), (1, .int x1), (2, .int s_.1), (3, .int s_.2.1)] []) (ke0 : ∀ e_ : Int32 × TS, o_ = .inr e_ → xV (wT D m) K mX6_mostAlike (xQ (wT D m) K Z) e_.2 99 [(2, .int e_.1)] []) : xV (wT D m) K mX6_mostAlike (xQ (wT D m) K Z) τ 4 [(0, .ref m), (1, .int x1), (2, .int x2), (3, .int x3)] [] := by
  unfold Bt_mostAlike_4 at hf
  refine xr_iload_n (pc := 4) 3 dX6_mostAlike_4 rfl rfl ?_
  refine xr_aload_n (pc := 5) 0 dX6_mostAlike_5 rfl rfl ?_
  obtain ⟨r1, τ1, hτ1, hf⟩ := xo_bd hf
  refine call_f_t_rowsMany (pc := 6) hτ1 rfl (Nat.le_of_ble_eq_true rfl) (Nat.le_of_ble_eq_true rfl) (Nat.le_of_ble_eq_true rfl) dX6_mostAlike_6 ?_
  refine xr_icmp_ge (pc := 9) 99 dX6_mostAlike_9 (by decide) (fun c_ => ?_) (fun c_ => ?_)
  · have hf := xo_pos c_ hf
    refine xV_sub [2] rfl ?_
    exact ke0 _ (Option.some.inj hf).symm
  · have hf := xo_neg c_ hf
    refine xr_aload_n (pc := 12) 0 dX6_mostAlike_12 rfl rfl ?_
    refine xt_getA (pc := 13) 82 (by decide) q1828 rfl rfl rfl dX6_mostAlike_13 ?_
    refine xr_iload_n (pc := 16) 3 dX6_mostAlike_16 rfl rfl ?_
    obtain ⟨hi_, hf⟩ := xo_if hf
    refine xt_zald (pc := 17) 82 rfl rfl hi_ dX6_mostAlike_17 ?_
    refine xr_if_ne (pc := 18) 24 dX6_mostAlike_18 (by decide) (fun c_ => ?_) (fun c_ => ?_)
    · have hf := xo_pos c_ hf
      refine xr_goto (pc := 21) 93 dX6_mostAlike_21 (by decide) ?_
      exact ok_Jt_mostAlike_93 hf kc ke0
    · have hf := xo_neg c_ hf
      refine xr_iconst (pc := 24) dX6_mostAlike_24 xci_0 ?_
      refine xr_istore (pc := 25) (loc' := [(4, .int 0), (0, .ref m), (1, .int x1), (2, .int x2), (3, .int x3)]) dX6_mostAlike_25 (by decide) rfl ?_
      refine xr_iconst (pc := 27) dX6_mostAlike_27 xci_0 ?_
      refine xr_istore (pc := 28) (loc' := [(5, .int 0), (4, .int 0), (0, .ref m), (1, .int x1), (2, .int x2), (3, .int x3)]) dX6_mostAlike_28 (by decide) rfl ?_
      refine xV_sub [2, 3, 4, 5, 1, 0] rfl ?_
      obtain ⟨b3, hb3, hf⟩ := xo_bind hf
      refine itr_rule (P := fun s_ : Int32 × Int32 × TS => xV (wT D m) K mX6_mostAlike (xQ (wT D m) K Z) s_.2.2 30 [(0, .ref m), (1, .int x1), (2, .int x2), (3, .int x3), (4, .int s_.1), (5, .int s_.2.1)] []) (fun s_ o_ hB_ hc_ he_ => ok_Bt_mostAlike_30 hB_ hc_ (fun e_ h_ => ?_)) 4096 _ hb3
      · have e9_ := he_ _ h_
        rw [e9_]
        refine xr_iload (pc := 84) 4 dX6_mostAlike_84 rfl ?_
        refine xr_iload_n (pc := 86) 2 dX6_mostAlike_86 rfl rfl ?_
        refine xr_icmp_le (pc := 87) 93 dX6_mostAlike_87 (by decide) (fun c_ => ?_) (fun c_ => ?_)
        · have hf := xo_pos c_ hf
          refine xV_sub [0, 1, 2, 3] rfl ?_
          exact ok_Jt_mostAlike_93 hf kc ke0
        · have hf := xo_neg c_ hf
          refine xr_iload (pc := 90) 4 dX6_mostAlike_90 rfl ?_
          refine xr_istore_n (pc := 92) (loc' := [(2, .int b3.1), (0, .ref m), (1, .int x1), (3, .int x3), (4, .int b3.1)]) dX6_mostAlike_92 rfl (by decide) rfl ?_
          refine xV_sub [1, 2, 0, 3] rfl ?_
          exact ok_Jt_mostAlike_93 hf kc ke0
def f_t_mostAlike (x1 : Int32) (τ : TS) : Option (Int32 × TS) :=
  (itr (fun s_ : Int32 × Int32 × TS => Bt_mostAlike_4 x1 s_.1 s_.2.1 s_.2.2) 4096 (0, 0, τ)).bind fun b4 =>
  some ((b4.1, b4.2))
theorem ok_f_t_mostAlike {D : TD} {m : Nat} {K : xK} {Z : Option Value × TS} {x1 : Int32} {τ : TS} {o_ : (Int32 × TS)} (hf : f_t_mostAlike x1 τ = some o_) (kr : ∀ r_ : (Int32 × TS), o_ = r_ → Z = (some (.int r_.1), r_.2)) : xV (wT D m) K mX6_mostAlike (xQ (wT D m) K Z) τ 0 [(0, .ref m), (1, .int x1)] [] := by
  unfold f_t_mostAlike at hf
  refine xr_iconst (pc := 0) dX6_mostAlike_0 xci_0 ?_
  refine xr_istore_n (pc := 1) (loc' := [(2, .int 0), (0, .ref m), (1, .int x1)]) dX6_mostAlike_1 rfl (by decide) rfl ?_
  refine xr_iconst (pc := 2) dX6_mostAlike_2 xci_0 ?_
  refine xr_istore_n (pc := 3) (loc' := [(3, .int 0), (2, .int 0), (0, .ref m), (1, .int x1)]) dX6_mostAlike_3 rfl (by decide) rfl ?_
  refine xV_sub [2, 3, 1, 0] rfl ?_
  obtain ⟨b4, hb4, hf⟩ := xo_bind hf
  refine itr_rule (P := fun s_ : Int32 × Int32 × TS => xV (wT D m) K mX6_mostAlike (xQ (wT D m) K Z) s_.2.2 4 [(0, .ref m), (1, .int x1), (2, .int s_.1), (3, .int s_.2.1)] []) (fun s_ o_ hB_ hc_ he_ => ok_Bt_mostAlike_4 hB_ hc_ (fun e_ h_ => ?_)) 4096 _ hb4
  · have e9_ := he_ _ h_
    rw [e9_]
    refine xr_iload_n (pc := 99) 0 dX6_mostAlike_99 rfl rfl ?_
    rw [kr _ (Option.some.inj hf).symm]
    exact xr_iret (pc := 100) dX6_mostAlike_100 rfl
theorem met_f_t_mostAlike (l : Launch) {D : TD} {m : Nat} {x1 : Int32} {τ : TS} {o_ : (Int32 × TS)} (hf : f_t_mostAlike x1 τ = some o_) : xMet (wT D m) l yX6_mostAlike (ws_ yX6_mostAlike cX6_mostAlike 6 (some .int)) 1 60 0 0 [.ref m, .int x1] τ (some (.int o_.1), o_.2) :=
  xMet_of (by decide) (Nat.le_of_ble_eq_true rfl) KT_moved (fun _ _ => trivial) (fun K _ _ _ => ok_f_t_mostAlike hf (fun _ h => by rw [h]))
theorem hd_f_t_mostAlike : yX6_mostAlike.cls = RX6 ∧ yX6_mostAlike.cls ≠ "java/lang/invoke/MethodHandle" ∧ yX6_mostAlike.cls ≠ "java/lang/invoke/VarHandle" ∧ (parseMethodDescriptor yX6_mostAlike.desc).map (fun d => d.parameters.length) = some 1 := by decide +kernel
theorem call_f_t_mostAlike {D : TD} {m : Nat} {K : xK} {M : xM} {Q : State → Prop} {x1 : Int32} {τ : TS} {pc : Nat} {loc : List (Nat × Value)} {st : List Value} {r : Int32} {τ1 : TS} (hf : f_t_mostAlike x1 τ = some (r, τ1)) (ho : M.2.2.1 = RX6) (hfr : 2 ≤ M.2.2.2.1) (hlo : 85 ≤ M.2.2.2.2.1) (hcat : (st.map fun v => v.category).sum ≤ 8) (d : decode M.1 pc = .ok (.invokevirtual 678, 3)) (k : xV (wT D m) K M Q τ1 (pc + 3) loc (.int r :: st)) : xV (wT D m) K M Q τ pc loc (.int x1 :: .ref m :: st) :=
  xr_callV (As := [.int x1]) (rest := st) (met_f_t_mostAlike K.2.1 hf) (lw_V q2635 q2637 qs159 q186 q2638) hd_f_t_mostAlike ho hfr hlo rfl (fun H hR hK => t_recv H hR hK) rfl hcat d k
abbrev mX6_tells : xM := (cX6_tells, 7, RX6, 9, 540, (some .int), "tells")
def Jt_tells_83 (x2 : Int32) (x3 : Int32) (x4 : Int32) (x5 : Int32) (τ : TS) : Option ((Int32 × Int32 × Int32 × TS) ⊕ ((Int32 × Int32 × TS))) :=
  some (.inl (x3, x4, x5 + 1, τ))
theorem ok_Jt_tells_83 {D : TD} {m : Nat} {K : xK} {Z : Option Value × TS} {x2 : Int32} {x3 : Int32} {x4 : Int32} {x5 : Int32} {τ : TS} {o_ : ((Int32 × Int32 × Int32 × TS) ⊕ ((Int32 × Int32 × TS)))} (hf : Jt_tells_83 x2 x3 x4 x5 τ = some o_) (kc : ∀ s_ : Int32 × Int32 × Int32 × TS, o_ = .inl s_ → xV (wT D m) K mX6_tells (xQ (wT D m) K Z) s_.2.2.2 34 [(0, .ref m), (2, .int x2), (3, .int s_.1), (4, .int s_.2.1), (5, .int s_.2.2.1)] []) (ke0 : ∀ e_ : Int32 × Int32 × TS, o_ = .inr e_ → xV (wT D m) K mX6_tells (xQ (wT D m) K Z) e_.2.2 89 [(2, .int x2), (3, .int e_.1), (4, .int e_.2.1)] []) : xV (wT D m) K mX6_tells (xQ (wT D m) K Z) τ 83 [(0, .ref m), (2, .int x2), (3, .int x3), (4, .int x4), (5, .int x5)] [] := by
  unfold Jt_tells_83 at hf
  refine xr_iinc (pc := 83) (loc' := [(5, .int (x5 + 1)), (0, .ref m), (2, .int x2), (3, .int x3), (4, .int x4)]) 4 dX6_tells_83 rfl xci_1 (by decide) rfl ?_
  refine xr_goto (pc := 86) 34 dX6_tells_86 (by decide) ?_
  refine xV_sub [1, 2, 3, 4, 0] rfl ?_
  exact kc _ (Option.some.inj hf).symm
def Jt_tells_76 (x2 : Int32) (x5 : Int32) (x6 : Int32) (τ : TS) : Option ((Int32 × Int32 × Int32 × TS) ⊕ ((Int32 × Int32 × TS))) :=
  Jt_tells_83 x2 x5 x6 x5 τ
theorem ok_Jt_tells_76 {D : TD} {m : Nat} {K : xK} {Z : Option Value × TS} {x2 : Int32} {x5 : Int32} {x6 : Int32} {τ : TS} {o_ : ((Int32 × Int32 × Int32 × TS) ⊕ ((Int32 × Int32 × TS)))} (hf : Jt_tells_76 x2 x5 x6 τ = some o_) (kc : ∀ s_ : Int32 × Int32 × Int32 × TS, o_ = .inl s_ → xV (wT D m) K mX6_tells (xQ (wT D m) K Z) s_.2.2.2 34 [(0, .ref m), (2, .int x2), (3, .int s_.1), (4, .int s_.2.1), (5, .int s_.2.2.1)] []) (ke0 : ∀ e_ : Int32 × Int32 × TS, o_ = .inr e_ → xV (wT D m) K mX6_tells (xQ (wT D m) K Z) e_.2.2 89 [(2, .int x2), (3, .int e_.1), (4, .int e_.2.1)] []) : xV (wT D m) K mX6_tells (xQ (wT D m) K Z) τ 76 [(0, .ref m), (2, .int x2), (5, .int x5), (6, .int x6)] [] := by
  unfold Jt_tells_76 at hf
  refine xr_iload (pc := 76) 2 dX6_tells_76 rfl ?_
  refine xr_istore_n (pc := 78) (loc' := [(3, .int x5), (0, .ref m), (2, .int x2), (5, .int x5), (6, .int x6)]) dX6_tells_78 rfl (by decide) rfl ?_
  refine xr_iload (pc := 79) 4 dX6_tells_79 rfl ?_
  refine xr_istore (pc := 81) (loc' := [(4, .int x6), (3, .int x5), (0, .ref m), (2, .int x2), (5, .int x5), (6, .int x6)]) dX6_tells_81 (by decide) rfl ?_
  refine xV_sub [2, 3, 1, 0, 4] rfl ?_
  exact ok_Jt_tells_83 hf kc ke0
def Bt_tells_34 (x2 : Int32) (x3 : Int32) (x4 : Int32) (x5 : Int32) (τ : TS) : Option ((Int32 × Int32 × Int32 × TS) ⊕ ((Int32 × Int32 × TS))) :=
  if (tI τ 83) ≤ 0 then
  some (.inr (x3, x4, τ))
  else
  xbd (f_t_isAhead x5 1 30 τ) fun r4 τ4 =>
  if r4 = 0 then
  some (.inr (x3, x4, τ4))
  else
  xbd (f_t_mostAlike x5 τ4) fun r5 τ5 =>
  if x3 = (-1) then
  Jt_tells_76 x2 x5 r5 τ5
  else
  if r5 < x4 then
  Jt_tells_76 x2 x5 r5 τ5
  else
  Jt_tells_83 x2 x3 x4 x5 τ5
theorem ok_Bt_tells_34 {D : TD} {m : Nat} {K : xK} {Z : Option Value × TS} {x2 : Int32} {x3 : Int32} {x4 : Int32} {x5 : Int32} {τ : TS} {o_ : ((Int32 × Int32 × Int32 × TS) ⊕ ((Int32 × Int32 × TS)))} (hf : Bt_tells_34 x2 x3 x4 x5 τ = some o_) (kc : ∀ s_ : Int32 × Int32 × Int32 × TS, o_ = .inl s_ → xV (wT D m) K mX6_tells (xQ (wT D m) K Z) s_.2.2.2 34 [(0, .ref m), (2, .int x2), (3, .int s_.1), (4, .int s_.2.1), (5, .int s_.2.2.1)] []) (ke0 : ∀ e_ : Int32 × Int32 × TS, o_ = .inr e_ → xV (wT D m) K mX6_tells (xQ (wT D m) K Z) e_.2.2 89 [(2, .int x2), (3, .int e_.1), (4, .int e_.2.1)] []) : xV (wT D m) K mX6_tells (xQ (wT D m) K Z) τ 34 [(0, .ref m), (2, .int x2), (3, .int x3), (4, .int x4), (5, .int x5)] [] := by
  unfold Bt_tells_34 at hf
  refine xr_aload_n (pc := 34) 0 dX6_tells_34 rfl rfl ?_
  refine xt_getI (pc := 35) 83 (by decide) q1829 rfl rfl rfl dX6_tells_35 ?_
  refine xr_if_le (pc := 38) 89 dX6_tells_38 (by decide) (fun c_ => ?_) (fun c_ => ?_)
  · have hf := xo_pos c_ hf
    refine xV_sub [1, 2, 3] rfl ?_
    exact ke0 _ (Option.some.inj hf).symm
  · have hf := xo_neg c_ hf
    refine xr_aload_n (pc := 41) 0 dX6_tells_41 rfl rfl ?_
    refine xr_iload (pc := 42) 4 dX6_tells_42 rfl ?_
    refine xr_iconst (pc := 44) dX6_tells_44 xci_1 ?_
    refine xr_bipush (pc := 45) dX6_tells_45 xcb_30 ?_
    obtain ⟨r4, τ4, hτ4, hf⟩ := xo_bd hf
    refine call_f_t_isAhead (pc := 47) hτ4 rfl (Nat.le_of_ble_eq_true rfl) (Nat.le_of_ble_eq_true rfl) (Nat.le_of_ble_eq_true rfl) dX6_tells_47 ?_
    refine xr_if_eq (pc := 50) 89 dX6_tells_50 (by decide) (fun c_ => ?_) (fun c_ => ?_)
    · have hf := xo_pos c_ hf
      refine xV_sub [1, 2, 3] rfl ?_
      exact ke0 _ (Option.some.inj hf).symm
    · have hf := xo_neg c_ hf
      refine xr_aload_n (pc := 53) 0 dX6_tells_53 rfl rfl ?_
      refine xr_iload (pc := 54) 4 dX6_tells_54 rfl ?_
      obtain ⟨r5, τ5, hτ5, hf⟩ := xo_bd hf
      refine call_f_t_mostAlike (pc := 56) hτ5 rfl (Nat.le_of_ble_eq_true rfl) (Nat.le_of_ble_eq_true rfl) (Nat.le_of_ble_eq_true rfl) dX6_tells_56 ?_
      refine xr_istore (pc := 59) (loc' := [(6, .int r5), (0, .ref m), (2, .int x2), (3, .int x3), (4, .int x4), (5, .int x5)]) dX6_tells_59 (by decide) rfl ?_
      refine xr_iload_n (pc := 61) 3 dX6_tells_61 rfl rfl ?_
      refine xr_iconst (pc := 62) dX6_tells_62 xci_m1 ?_
      refine xr_icmp_eq (pc := 63) 76 dX6_tells_63 (by decide) (fun c_ => ?_) (fun c_ => ?_)
      · have hf := xo_pos c_ hf
        refine xV_sub [1, 2, 5, 0] rfl ?_
        exact ok_Jt_tells_76 hf kc ke0
      · have hf := xo_neg c_ hf
        refine xr_iload (pc := 66) 0 dX6_tells_66 rfl ?_
        refine xr_iload (pc := 68) 4 dX6_tells_68 rfl ?_
        refine xr_icmp_lt (pc := 70) 76 dX6_tells_70 (by decide) (fun c_ => ?_) (fun c_ => ?_)
        · have hf := xo_pos c_ hf
          refine xV_sub [1, 2, 5, 0] rfl ?_
          exact ok_Jt_tells_76 hf kc ke0
        · have hf := xo_neg c_ hf
          refine xr_goto (pc := 73) 83 dX6_tells_73 (by decide) ?_
          refine xV_sub [1, 2, 3, 4, 5] rfl ?_
          exact ok_Jt_tells_83 hf kc ke0
def Jt_tells_89 (x2 : Int32) (x3 : Int32) (x4 : Int32) (τ : TS) : Option (Int32 × TS) :=
  if x3 = (-1) then
  some (((-1), τ))
  else
  if x2 = 0 then
  some ((x3, τ))
  else
  some ((x4, τ))
theorem ok_Jt_tells_89 {D : TD} {m : Nat} {K : xK} {Z : Option Value × TS} {x2 : Int32} {x3 : Int32} {x4 : Int32} {τ : TS} {o_ : (Int32 × TS)} (hf : Jt_tells_89 x2 x3 x4 τ = some o_) (kr : ∀ r_ : (Int32 × TS), o_ = r_ → Z = (some (.int r_.1), r_.2)) : xV (wT D m) K mX6_tells (xQ (wT D m) K Z) τ 89 [(2, .int x2), (3, .int x3), (4, .int x4)] [] := by
  unfold Jt_tells_89 at hf
  refine xr_iload_n (pc := 89) 1 dX6_tells_89 rfl rfl ?_
  refine xr_iconst (pc := 90) dX6_tells_90 xci_m1 ?_
  refine xr_icmp_ne (pc := 91) 98 dX6_tells_91 (by decide) (fun c_ => ?_) (fun c_ => ?_)
  · have hf := xo_pos c_ hf
    refine xr_iconst (pc := 94) dX6_tells_94 xci_m1 ?_
    refine xr_goto (pc := 95) 108 dX6_tells_95 (by decide) ?_
    rw [kr _ (Option.some.inj hf).symm]
    exact xr_iret (pc := 108) dX6_tells_108 rfl
  · have hf := xo_neg c_ hf
    refine xr_iload_n (pc := 98) 0 dX6_tells_98 rfl rfl ?_
    refine xr_if_ne (pc := 99) 106 dX6_tells_99 (by decide) (fun c_ => ?_) (fun c_ => ?_)
    · have hf := xo_pos c_ hf
      refine xr_iload_n (pc := 102) 1 dX6_tells_102 rfl rfl ?_
      refine xr_goto (pc := 103) 108 dX6_tells_103 (by decide) ?_
      rw [kr _ (Option.some.inj hf).symm]
      exact xr_iret (pc := 108) dX6_tells_108 rfl
    · have hf := xo_neg c_ hf
      refine xr_iload (pc := 106) 2 dX6_tells_106 rfl ?_
      rw [kr _ (Option.some.inj hf).symm]
      exact xr_iret (pc := 108) dX6_tells_108 rfl
def f_t_tells (x1 : Int32) (x2 : Int32) (τ : TS) : Option (Int32 × TS) :=
  xbd (f_t_isColumn x1.toInt64 τ) fun r1 τ1 =>
  if r1 = 0 then
  some (((-1), τ1))
  else
  xbd (f_t_isIn x2.toInt64 0 1 τ1) fun r2 τ2 =>
  if r2 = 0 then
  some (((-1), τ2))
  else
  (f_t_laysFits x1 τ2).bind fun τ3 =>
  (itr (fun s_ : Int32 × Int32 × Int32 × TS => Bt_tells_34 x2 s_.1 s_.2.1 s_.2.2.1 s_.2.2.2) 4096 ((-1), 0, 1, τ3)).bind fun b6 =>
  Jt_tells_89 x2 b6.1 b6.2.1 b6.2.2
theorem ok_f_t_tells {D : TD} {m : Nat} {K : xK} {Z : Option Value × TS} {x1 : Int32} {x2 : Int32} {τ : TS} {o_ : (Int32 × TS)} (hf : f_t_tells x1 x2 τ = some o_) (kr : ∀ r_ : (Int32 × TS), o_ = r_ → Z = (some (.int r_.1), r_.2)) : xV (wT D m) K mX6_tells (xQ (wT D m) K Z) τ 0 [(0, .ref m), (1, .int x1), (2, .int x2)] [] := by
  unfold f_t_tells at hf
  refine xr_aload_n (pc := 0) 0 dX6_tells_0 rfl rfl ?_
  refine xr_iload_n (pc := 1) 1 dX6_tells_1 rfl rfl ?_
  refine xr_i2l (pc := 2) dX6_tells_2 ?_
  obtain ⟨r1, τ1, hτ1, hf⟩ := xo_bd hf
  refine call_f_t_isColumn (pc := 3) hτ1 rfl (Nat.le_of_ble_eq_true rfl) (Nat.le_of_ble_eq_true rfl) (Nat.le_of_ble_eq_true rfl) dX6_tells_3 ?_
  refine xr_if_eq (pc := 6) 19 dX6_tells_6 (by decide) (fun c_ => ?_) (fun c_ => ?_)
  · have hf := xo_pos c_ hf
    refine xr_iconst (pc := 19) dX6_tells_19 xci_m1 ?_
    rw [kr _ (Option.some.inj hf).symm]
    exact xr_iret (pc := 20) dX6_tells_20 rfl
  · have hf := xo_neg c_ hf
    refine xr_iload_n (pc := 9) 2 dX6_tells_9 rfl rfl ?_
    refine xr_i2l (pc := 10) dX6_tells_10 ?_
    refine xr_lconst (pc := 11) dX6_tells_11 (by decide : _ = (0 : Int64)) ?_
    refine xr_lconst (pc := 12) dX6_tells_12 (by decide : _ = (1 : Int64)) ?_
    obtain ⟨r2, τ2, hτ2, hf⟩ := xo_bd hf
    refine call_f_t_isIn (pc := 13) hτ2 rfl (Nat.le_of_ble_eq_true rfl) (Nat.le_of_ble_eq_true rfl) (Nat.le_of_ble_eq_true rfl) dX6_tells_13 ?_
    refine xr_if_ne (pc := 16) 21 dX6_tells_16 (by decide) (fun c_ => ?_) (fun c_ => ?_)
    · have hf := xo_pos c_ hf
      refine xr_iconst (pc := 19) dX6_tells_19 xci_m1 ?_
      rw [kr _ (Option.some.inj hf).symm]
      exact xr_iret (pc := 20) dX6_tells_20 rfl
    · have hf := xo_neg c_ hf
      refine xr_aload_n (pc := 21) 0 dX6_tells_21 rfl rfl ?_
      refine xr_iload_n (pc := 22) 1 dX6_tells_22 rfl rfl ?_
      obtain ⟨τ3, hτ3, hf⟩ := xo_bind hf
      refine call_f_t_laysFits (pc := 23) hτ3 rfl (Nat.le_of_ble_eq_true rfl) (Nat.le_of_ble_eq_true rfl) (Nat.le_of_ble_eq_true rfl) dX6_tells_23 ?_
      refine xr_iconst (pc := 26) dX6_tells_26 xci_m1 ?_
      refine xr_istore_n (pc := 27) (loc' := [(3, .int (-1)), (0, .ref m), (1, .int x1), (2, .int x2)]) dX6_tells_27 rfl (by decide) rfl ?_
      refine xr_iconst (pc := 28) dX6_tells_28 xci_0 ?_
      refine xr_istore (pc := 29) (loc' := [(4, .int 0), (3, .int (-1)), (0, .ref m), (1, .int x1), (2, .int x2)]) dX6_tells_29 (by decide) rfl ?_
      refine xr_iconst (pc := 31) dX6_tells_31 xci_1 ?_
      refine xr_istore (pc := 32) (loc' := [(5, .int 1), (4, .int 0), (3, .int (-1)), (0, .ref m), (1, .int x1), (2, .int x2)]) dX6_tells_32 (by decide) rfl ?_
      refine xV_sub [3, 5, 2, 1, 0] rfl ?_
      obtain ⟨b6, hb6, hf⟩ := xo_bind hf
      refine itr_rule (P := fun s_ : Int32 × Int32 × Int32 × TS => xV (wT D m) K mX6_tells (xQ (wT D m) K Z) s_.2.2.2 34 [(0, .ref m), (2, .int x2), (3, .int s_.1), (4, .int s_.2.1), (5, .int s_.2.2.1)] []) (fun s_ o_ hB_ hc_ he_ => ok_Bt_tells_34 hB_ hc_ (fun e_ h_ => ?_)) 4096 _ hb6
      · have e9_ := he_ _ h_
        rw [e9_]
        exact ok_Jt_tells_89 hf kr
theorem met_f_t_tells (l : Launch) {D : TD} {m : Nat} {x1 : Int32} {x2 : Int32} {τ : TS} {o_ : (Int32 × TS)} (hf : f_t_tells x1 x2 τ = some o_) : xMet (wT D m) l yX6_tells (ws_ yX6_tells cX6_tells 7 (some .int)) 9 540 0 0 [.ref m, .int x1, .int x2] τ (some (.int o_.1), o_.2) :=
  xMet_of (by decide) (Nat.le_of_ble_eq_true rfl) KT_moved (fun _ _ => trivial) (fun K _ _ _ => ok_f_t_tells hf (fun _ h => by rw [h]))
abbrev mX6_undo : xM := (cX6_undo, 2, RX6, 0, 0, (some .boolean), "undo")
def Bt_undo_21 (x1 : Int32) (τ : TS) : Option ((Int32 × TS) ⊕ ((TS))) :=
  if 303 ≤ x1 then
  some (.inr τ)
  else
  if xin ((303 * (tI τ 86)) + x1) 6060 = true then
  if xin x1 303 = true then
  some (.inl (x1 + 1, sA τ 62 x1.toNatClampNeg (tA τ 84 ((303 * (tI τ 86)) + x1).toNatClampNeg)))
  else none
  else none
theorem ok_Bt_undo_21 {D : TD} {m : Nat} {K : xK} {Z : Option Value × TS} {x1 : Int32} {τ : TS} {o_ : ((Int32 × TS) ⊕ ((TS)))} (hf : Bt_undo_21 x1 τ = some o_) (kc : ∀ s_ : Int32 × TS, o_ = .inl s_ → xV (wT D m) K mX6_undo (xQ (wT D m) K Z) s_.2 21 [(0, .ref m), (1, .int s_.1)] []) (ke0 : ∀ e_ : TS, o_ = .inr e_ → xV (wT D m) K mX6_undo (xQ (wT D m) K Z) e_ 55 [(0, .ref m)] []) : xV (wT D m) K mX6_undo (xQ (wT D m) K Z) τ 21 [(0, .ref m), (1, .int x1)] [] := by
  unfold Bt_undo_21 at hf
  refine xr_iload_n (pc := 21) 1 dX6_undo_21 rfl rfl ?_
  refine xr_sipush (pc := 22) dX6_undo_22 xcs_303 ?_
  refine xr_icmp_ge (pc := 25) 55 dX6_undo_25 (by decide) (fun c_ => ?_) (fun c_ => ?_)
  · have hf := xo_pos c_ hf
    refine xV_sub [0] rfl ?_
    exact ke0 _ (Option.some.inj hf).symm
  · have hf := xo_neg c_ hf
    refine xr_aload_n (pc := 28) 0 dX6_undo_28 rfl rfl ?_
    refine xt_getA (pc := 29) 62 (by decide) q1808 rfl rfl rfl dX6_undo_29 ?_
    refine xr_iload_n (pc := 32) 1 dX6_undo_32 rfl rfl ?_
    refine xr_aload_n (pc := 33) 0 dX6_undo_33 rfl rfl ?_
    refine xt_getA (pc := 34) 84 (by decide) q1830 rfl rfl rfl dX6_undo_34 ?_
    refine xr_sipush (pc := 37) dX6_undo_37 xcs_303 ?_
    refine xr_aload_n (pc := 40) 0 dX6_undo_40 rfl rfl ?_
    refine xt_getI (pc := 41) 86 (by decide) q1832 rfl rfl rfl dX6_undo_41 ?_
    refine xr_imul (pc := 44) dX6_undo_44 ?_
    refine xr_iload_n (pc := 45) 1 dX6_undo_45 rfl rfl ?_
    refine xr_iadd (pc := 46) dX6_undo_46 ?_
    obtain ⟨hi_, hf⟩ := xo_if hf
    refine xt_iald (pc := 47) 84 rfl rfl hi_ dX6_undo_47 ?_
    obtain ⟨hi_, hf⟩ := xo_if hf
    refine xt_iast (pc := 48) 62 rfl rfl hi_ dX6_undo_48 ?_
    refine xr_iinc (pc := 49) (loc' := [(1, .int (x1 + 1)), (0, .ref m)]) 1 dX6_undo_49 rfl xci_1 (by decide) rfl ?_
    refine xr_goto (pc := 52) 21 dX6_undo_52 (by decide) ?_
    refine xV_sub [1, 0] rfl ?_
    exact kc _ (Option.some.inj hf).symm
def f_t_undo (τ : TS) : Option (Int32 × TS) :=
  if (tI τ 85) = 0 then
  if xin 4 6 = true then
  if xin 4 6 = true then
  some ((0, sA τ 9 (4 : Int32).toNatClampNeg ((tA τ 9 (4 : Int32).toNatClampNeg) + 1)))
  else none
  else none
  else
  (itr (fun s_ : Int32 × TS => Bt_undo_21 s_.1 s_.2) 4096 (0, τ)).bind fun b1 =>
  some ((1, sI (sI b1 86 ((((tI b1 86) + 20) - 1) - (((tI b1 86) + 20) - 1) / 20 * 20)) 85 ((tI (sI b1 86 ((((tI b1 86) + 20) - 1) - (((tI b1 86) + 20) - 1) / 20 * 20)) 85) - 1)))
theorem ok_f_t_undo {D : TD} {m : Nat} {K : xK} {Z : Option Value × TS} {τ : TS} {o_ : (Int32 × TS)} (hf : f_t_undo τ = some o_) (kr : ∀ r_ : (Int32 × TS), o_ = r_ → Z = (some (.int r_.1), r_.2)) : xV (wT D m) K mX6_undo (xQ (wT D m) K Z) τ 0 [(0, .ref m)] [] := by
  unfold f_t_undo at hf
  refine xr_aload_n (pc := 0) 0 dX6_undo_0 rfl rfl ?_
  refine xt_getI (pc := 1) 85 (by decide) q1831 rfl rfl rfl dX6_undo_1 ?_
  refine xr_if_ne (pc := 4) 19 dX6_undo_4 (by decide) (fun c_ => ?_) (fun c_ => ?_)
  · have hf := xo_pos c_ hf
    refine xr_aload_n (pc := 7) 0 dX6_undo_7 rfl rfl ?_
    refine xt_getA (pc := 8) 9 (by decide) q1755 rfl rfl rfl dX6_undo_8 ?_
    refine xr_iconst (pc := 11) dX6_undo_11 xci_4 ?_
    refine xr_dup2_11 (pc := 12) dX6_undo_12 rfl rfl ?_
    obtain ⟨hi_, hf⟩ := xo_if hf
    refine xt_iald (pc := 13) 9 rfl rfl hi_ dX6_undo_13 ?_
    refine xr_iconst (pc := 14) dX6_undo_14 xci_1 ?_
    refine xr_iadd (pc := 15) dX6_undo_15 ?_
    obtain ⟨hi_, hf⟩ := xo_if hf
    refine xt_iast (pc := 16) 9 rfl rfl hi_ dX6_undo_16 ?_
    refine xr_iconst (pc := 17) dX6_undo_17 xci_0 ?_
    rw [kr _ (Option.some.inj hf).symm]
    exact xr_zret (pc := 18) dX6_undo_18 rfl xz_0
  · have hf := xo_neg c_ hf
    refine xr_iconst (pc := 19) dX6_undo_19 xci_0 ?_
    refine xr_istore_n (pc := 20) (loc' := [(1, .int 0), (0, .ref m)]) dX6_undo_20 rfl (by decide) rfl ?_
    refine xV_sub [1, 0] rfl ?_
    obtain ⟨b1, hb1, hf⟩ := xo_bind hf
    refine itr_rule (P := fun s_ : Int32 × TS => xV (wT D m) K mX6_undo (xQ (wT D m) K Z) s_.2 21 [(0, .ref m), (1, .int s_.1)] []) (fun s_ o_ hB_ hc_ he_ => ok_Bt_undo_21 hB_ hc_ (fun e_ h_ => ?_)) 4096 _ hb1
    · have e9_ := he_ _ h_
      rw [e9_]
      refine xr_aload_n (pc := 55) 0 dX6_undo_55 rfl rfl ?_
      refine xr_aload_n (pc := 56) 0 dX6_undo_56 rfl rfl ?_
      refine xt_getI (pc := 57) 86 (by decide) q1832 rfl rfl rfl dX6_undo_57 ?_
      refine xr_bipush (pc := 60) dX6_undo_60 xcb_20 ?_
      refine xr_iadd (pc := 62) dX6_undo_62 ?_
      refine xr_iconst (pc := 63) dX6_undo_63 xci_1 ?_
      refine xr_isub (pc := 64) dX6_undo_64 ?_
      refine xr_bipush (pc := 65) dX6_undo_65 xcb_20 ?_
      refine xr_irem (pc := 67) dX6_undo_67 (by decide) ?_
      refine xt_putI (pc := 68) 86 (by decide) q1832 rfl rfl rfl (by decide +kernel) rfl dX6_undo_68 ?_
      refine xr_aload_n (pc := 71) 0 dX6_undo_71 rfl rfl ?_
      refine xr_dup (pc := 72) dX6_undo_72 rfl ?_
      refine xt_getI (pc := 73) 85 (by decide) q1831 rfl rfl rfl dX6_undo_73 ?_
      refine xr_iconst (pc := 76) dX6_undo_76 xci_1 ?_
      refine xr_isub (pc := 77) dX6_undo_77 ?_
      refine xt_putI (pc := 78) 85 (by decide) q1831 rfl rfl rfl (by decide +kernel) rfl dX6_undo_78 ?_
      refine xr_iconst (pc := 81) dX6_undo_81 xci_1 ?_
      rw [kr _ (Option.some.inj hf).symm]
      exact xr_zret (pc := 82) dX6_undo_82 rfl xz_1
theorem met_f_t_undo (l : Launch) {D : TD} {m : Nat} {τ : TS} {o_ : (Int32 × TS)} (hf : f_t_undo τ = some o_) : xMet (wT D m) l yX6_undo (ws_ yX6_undo cX6_undo 2 (some .boolean)) 0 0 0 0 [.ref m] τ (some (.int o_.1), o_.2) :=
  xMet_of (by decide) (Nat.le_of_ble_eq_true rfl) KT_moved (fun _ _ => trivial) (fun K _ _ _ => ok_f_t_undo hf (fun _ h => by rw [h]))
abbrev mX6_keeps : xM := (cX6_keeps, 2, RX6, 0, 0, none, "keeps")
def Bt_keeps_15 (x1 : Int32) (τ : TS) : Option ((Int32 × TS) ⊕ ((TS))) :=
  if 303 ≤ x1 then
  some (.inr τ)
  else
  if xin x1 303 = true then
  if xin ((303 * (tI τ 86)) + x1) 6060 = true then
  some (.inl (x1 + 1, sA τ 84 ((303 * (tI τ 86)) + x1).toNatClampNeg (tA τ 62 x1.toNatClampNeg)))
  else none
  else none
theorem ok_Bt_keeps_15 {D : TD} {m : Nat} {K : xK} {Z : Option Value × TS} {x1 : Int32} {τ : TS} {o_ : ((Int32 × TS) ⊕ ((TS)))} (hf : Bt_keeps_15 x1 τ = some o_) (kc : ∀ s_ : Int32 × TS, o_ = .inl s_ → xV (wT D m) K mX6_keeps (xQ (wT D m) K Z) s_.2 15 [(0, .ref m), (1, .int s_.1)] []) (ke0 : ∀ e_ : TS, o_ = .inr e_ → xV (wT D m) K mX6_keeps (xQ (wT D m) K Z) e_ 49 [(0, .ref m)] []) : xV (wT D m) K mX6_keeps (xQ (wT D m) K Z) τ 15 [(0, .ref m), (1, .int x1)] [] := by
  unfold Bt_keeps_15 at hf
  refine xr_iload_n (pc := 15) 1 dX6_keeps_15 rfl rfl ?_
  refine xr_sipush (pc := 16) dX6_keeps_16 xcs_303 ?_
  refine xr_icmp_ge (pc := 19) 49 dX6_keeps_19 (by decide) (fun c_ => ?_) (fun c_ => ?_)
  · have hf := xo_pos c_ hf
    refine xV_sub [0] rfl ?_
    exact ke0 _ (Option.some.inj hf).symm
  · have hf := xo_neg c_ hf
    refine xr_aload_n (pc := 22) 0 dX6_keeps_22 rfl rfl ?_
    refine xt_getA (pc := 23) 84 (by decide) q1830 rfl rfl rfl dX6_keeps_23 ?_
    refine xr_sipush (pc := 26) dX6_keeps_26 xcs_303 ?_
    refine xr_aload_n (pc := 29) 0 dX6_keeps_29 rfl rfl ?_
    refine xt_getI (pc := 30) 86 (by decide) q1832 rfl rfl rfl dX6_keeps_30 ?_
    refine xr_imul (pc := 33) dX6_keeps_33 ?_
    refine xr_iload_n (pc := 34) 1 dX6_keeps_34 rfl rfl ?_
    refine xr_iadd (pc := 35) dX6_keeps_35 ?_
    refine xr_aload_n (pc := 36) 0 dX6_keeps_36 rfl rfl ?_
    refine xt_getA (pc := 37) 62 (by decide) q1808 rfl rfl rfl dX6_keeps_37 ?_
    refine xr_iload_n (pc := 40) 1 dX6_keeps_40 rfl rfl ?_
    obtain ⟨hi_, hf⟩ := xo_if hf
    refine xt_iald (pc := 41) 62 rfl rfl hi_ dX6_keeps_41 ?_
    obtain ⟨hi_, hf⟩ := xo_if hf
    refine xt_iast (pc := 42) 84 rfl rfl hi_ dX6_keeps_42 ?_
    refine xr_iinc (pc := 43) (loc' := [(1, .int (x1 + 1)), (0, .ref m)]) 1 dX6_keeps_43 rfl xci_1 (by decide) rfl ?_
    refine xr_goto (pc := 46) 15 dX6_keeps_46 (by decide) ?_
    refine xV_sub [1, 0] rfl ?_
    exact kc _ (Option.some.inj hf).symm
def f_t_keeps (τ : TS) : Option TS :=
  (itr (fun s_ : Int32 × TS => Bt_keeps_15 s_.1 s_.2) 4096 (0, sI τ 86 (((tI τ 86) + 1) - ((tI τ 86) + 1) / 20 * 20))).bind fun b1 =>
  if 20 ≤ (tI b1 85) then
  some (b1)
  else
  some (sI b1 85 ((tI b1 85) + 1))
theorem ok_f_t_keeps {D : TD} {m : Nat} {K : xK} {Z : Option Value × TS} {τ : TS} {o_ : TS} (hf : f_t_keeps τ = some o_) (kr : ∀ r_ : TS, o_ = r_ → Z = (none, r_)) : xV (wT D m) K mX6_keeps (xQ (wT D m) K Z) τ 0 [(0, .ref m)] [] := by
  unfold f_t_keeps at hf
  refine xr_aload_n (pc := 0) 0 dX6_keeps_0 rfl rfl ?_
  refine xr_aload_n (pc := 1) 0 dX6_keeps_1 rfl rfl ?_
  refine xt_getI (pc := 2) 86 (by decide) q1832 rfl rfl rfl dX6_keeps_2 ?_
  refine xr_iconst (pc := 5) dX6_keeps_5 xci_1 ?_
  refine xr_iadd (pc := 6) dX6_keeps_6 ?_
  refine xr_bipush (pc := 7) dX6_keeps_7 xcb_20 ?_
  refine xr_irem (pc := 9) dX6_keeps_9 (by decide) ?_
  refine xt_putI (pc := 10) 86 (by decide) q1832 rfl rfl rfl (by decide +kernel) rfl dX6_keeps_10 ?_
  refine xr_iconst (pc := 13) dX6_keeps_13 xci_0 ?_
  refine xr_istore_n (pc := 14) (loc' := [(1, .int 0), (0, .ref m)]) dX6_keeps_14 rfl (by decide) rfl ?_
  refine xV_sub [1, 0] rfl ?_
  obtain ⟨b1, hb1, hf⟩ := xo_bind hf
  refine itr_rule (P := fun s_ : Int32 × TS => xV (wT D m) K mX6_keeps (xQ (wT D m) K Z) s_.2 15 [(0, .ref m), (1, .int s_.1)] []) (fun s_ o_ hB_ hc_ he_ => ok_Bt_keeps_15 hB_ hc_ (fun e_ h_ => ?_)) 4096 _ hb1
  · have e9_ := he_ _ h_
    rw [e9_]
    refine xr_aload_n (pc := 49) 0 dX6_keeps_49 rfl rfl ?_
    refine xt_getI (pc := 50) 85 (by decide) q1831 rfl rfl rfl dX6_keeps_50 ?_
    refine xr_bipush (pc := 53) dX6_keeps_53 xcb_20 ?_
    refine xr_icmp_ge (pc := 55) 68 dX6_keeps_55 (by decide) (fun c_ => ?_) (fun c_ => ?_)
    · have hf := xo_pos c_ hf
      rw [kr _ (Option.some.inj hf).symm]
      exact xr_vret (pc := 68) dX6_keeps_68 rfl
    · have hf := xo_neg c_ hf
      refine xr_aload_n (pc := 58) 0 dX6_keeps_58 rfl rfl ?_
      refine xr_dup (pc := 59) dX6_keeps_59 rfl ?_
      refine xt_getI (pc := 60) 85 (by decide) q1831 rfl rfl rfl dX6_keeps_60 ?_
      refine xr_iconst (pc := 63) dX6_keeps_63 xci_1 ?_
      refine xr_iadd (pc := 64) dX6_keeps_64 ?_
      refine xt_putI (pc := 65) 85 (by decide) q1831 rfl rfl rfl (by decide +kernel) rfl dX6_keeps_65 ?_
      rw [kr _ (Option.some.inj hf).symm]
      exact xr_vret (pc := 68) dX6_keeps_68 rfl
theorem met_f_t_keeps (l : Launch) {D : TD} {m : Nat} {τ : TS} {o_ : TS} (hf : f_t_keeps τ = some o_) : xMet (wT D m) l yX6_keeps (ws_ yX6_keeps cX6_keeps 2 none) 0 0 0 0 [.ref m] τ (none, o_) :=
  xMet_of (by decide) (Nat.le_of_ble_eq_true rfl) KT_moved (fun _ _ => trivial) (fun K _ _ _ => ok_f_t_keeps hf (fun _ h => by rw [h]))
theorem hd_f_t_keeps : yX6_keeps.cls = RX6 ∧ yX6_keeps.cls ≠ "java/lang/invoke/MethodHandle" ∧ yX6_keeps.cls ≠ "java/lang/invoke/VarHandle" ∧ (parseMethodDescriptor yX6_keeps.desc).map (fun d => d.parameters.length) = some 0 := by decide +kernel
theorem call_f_t_keeps {D : TD} {m : Nat} {K : xK} {M : xM} {Q : State → Prop} {τ : TS} {pc : Nat} {loc : List (Nat × Value)} {st : List Value} {τ1 : TS} (hf : f_t_keeps τ = some τ1) (ho : M.2.2.1 = RX6) (hfr : 1 ≤ M.2.2.2.1) (hlo : 21 ≤ M.2.2.2.2.1) (hcat : (st.map fun v => v.category).sum ≤ 8) (d : decode M.1 pc = .ok (.invokevirtual 684, 3)) (k : xV (wT D m) K M Q τ1 (pc + 3) loc st) : xV (wT D m) K M Q τ pc loc (.ref m :: st) :=
  xr_callV (As := []) (rest := st) (met_f_t_keeps K.2.1 hf) (lw_V q2647 q2649 qs160 q186 q2650) hd_f_t_keeps ho hfr hlo rfl (fun H hR hK => t_recv H hR hK) rfl hcat d k
abbrev mX6_plant : xM := (cX6_plant, 3, RX6, 3, 180, (some .int), "plant")
def Jt_plant_24 (τ : TS) : Option (Int32 × TS) :=
  xbd (f_t_refuses 2 τ) fun r2 τ2 =>
  some ((r2, τ2))
theorem ok_Jt_plant_24 {D : TD} {m : Nat} {K : xK} {Z : Option Value × TS} {τ : TS} {o_ : (Int32 × TS)} (hf : Jt_plant_24 τ = some o_) (kr : ∀ r_ : (Int32 × TS), o_ = r_ → Z = (some (.int r_.1), r_.2)) : xV (wT D m) K mX6_plant (xQ (wT D m) K Z) τ 24 [(0, .ref m)] [] := by
  unfold Jt_plant_24 at hf
  refine xr_aload_n (pc := 24) 0 dX6_plant_24 rfl rfl ?_
  refine xr_iconst (pc := 25) dX6_plant_25 xci_2 ?_
  obtain ⟨r2, τ2, hτ2, hf⟩ := xo_bd hf
  refine call_f_t_refuses (pc := 26) hτ2 rfl (Nat.le_of_ble_eq_true rfl) (Nat.le_of_ble_eq_true rfl) (Nat.le_of_ble_eq_true rfl) dX6_plant_26 ?_
  rw [kr _ (Option.some.inj hf).symm]
  exact xr_iret (pc := 29) dX6_plant_29 rfl
def f_t_plant (x1 : Int32) (x2 : Int32) (τ : TS) : Option (Int32 × TS) :=
  xbd (f_t_isCell x1 x2 τ) fun r1 τ1 =>
  if r1 = 0 then
  Jt_plant_24 τ1
  else
  xbd (f_t_willowsAt ((8 * x1) + x2) τ1) fun r3 τ3 =>
  if r3 = 9 then
  Jt_plant_24 τ3
  else
  (f_t_keeps τ3).bind fun τ4 =>
  if xin ((12 + (8 * x1)) + x2) 303 = true then
  if xin ((12 + (8 * x1)) + x2) 303 = true then
  xbd (f_t_willowsAt ((8 * x1) + x2) (sA τ4 62 ((12 + (8 * x1)) + x2).toNatClampNeg ((tA τ4 62 ((12 + (8 * x1)) + x2).toNatClampNeg) + 1))) fun r5 τ5 =>
  some ((r5, τ5))
  else none
  else none
theorem ok_f_t_plant {D : TD} {m : Nat} {K : xK} {Z : Option Value × TS} {x1 : Int32} {x2 : Int32} {τ : TS} {o_ : (Int32 × TS)} (hf : f_t_plant x1 x2 τ = some o_) (kr : ∀ r_ : (Int32 × TS), o_ = r_ → Z = (some (.int r_.1), r_.2)) : xV (wT D m) K mX6_plant (xQ (wT D m) K Z) τ 0 [(0, .ref m), (1, .int x1), (2, .int x2)] [] := by
  unfold f_t_plant at hf
  refine xr_aload_n (pc := 0) 0 dX6_plant_0 rfl rfl ?_
  refine xr_iload_n (pc := 1) 1 dX6_plant_1 rfl rfl ?_
  refine xr_iload_n (pc := 2) 2 dX6_plant_2 rfl rfl ?_
  obtain ⟨r1, τ1, hτ1, hf⟩ := xo_bd hf
  refine call_f_t_isCell (pc := 3) hτ1 rfl (Nat.le_of_ble_eq_true rfl) (Nat.le_of_ble_eq_true rfl) (Nat.le_of_ble_eq_true rfl) dX6_plant_3 ?_
  refine xr_if_eq (pc := 6) 24 dX6_plant_6 (by decide) (fun c_ => ?_) (fun c_ => ?_)
  · have hf := xo_pos c_ hf
    refine xV_sub [0] rfl ?_
    exact ok_Jt_plant_24 hf kr
  · have hf := xo_neg c_ hf
    refine xr_aload_n (pc := 9) 0 dX6_plant_9 rfl rfl ?_
    refine xr_bipush (pc := 10) dX6_plant_10 xcb_8 ?_
    refine xr_iload_n (pc := 12) 1 dX6_plant_12 rfl rfl ?_
    refine xr_imul (pc := 13) dX6_plant_13 ?_
    refine xr_iload_n (pc := 14) 2 dX6_plant_14 rfl rfl ?_
    refine xr_iadd (pc := 15) dX6_plant_15 ?_
    obtain ⟨r3, τ3, hτ3, hf⟩ := xo_bd hf
    refine call_f_t_willowsAt (pc := 16) hτ3 rfl (Nat.le_of_ble_eq_true rfl) (Nat.le_of_ble_eq_true rfl) (Nat.le_of_ble_eq_true rfl) dX6_plant_16 ?_
    refine xr_bipush (pc := 19) dX6_plant_19 xcb_9 ?_
    refine xr_icmp_ne (pc := 21) 30 dX6_plant_21 (by decide) (fun c_ => ?_) (fun c_ => ?_)
    · have hf := xo_pos c_ hf
      refine xV_sub [0] rfl ?_
      exact ok_Jt_plant_24 hf kr
    · have hf := xo_neg c_ hf
      refine xr_aload_n (pc := 30) 0 dX6_plant_30 rfl rfl ?_
      obtain ⟨τ4, hτ4, hf⟩ := xo_bind hf
      refine call_f_t_keeps (pc := 31) hτ4 rfl (Nat.le_of_ble_eq_true rfl) (Nat.le_of_ble_eq_true rfl) (Nat.le_of_ble_eq_true rfl) dX6_plant_31 ?_
      refine xr_aload_n (pc := 34) 0 dX6_plant_34 rfl rfl ?_
      refine xt_getA (pc := 35) 62 (by decide) q1808 rfl rfl rfl dX6_plant_35 ?_
      refine xr_bipush (pc := 38) dX6_plant_38 xcb_12 ?_
      refine xr_bipush (pc := 40) dX6_plant_40 xcb_8 ?_
      refine xr_iload_n (pc := 42) 1 dX6_plant_42 rfl rfl ?_
      refine xr_imul (pc := 43) dX6_plant_43 ?_
      refine xr_iadd (pc := 44) dX6_plant_44 ?_
      refine xr_iload_n (pc := 45) 2 dX6_plant_45 rfl rfl ?_
      refine xr_iadd (pc := 46) dX6_plant_46 ?_
      refine xr_dup2_11 (pc := 47) dX6_plant_47 rfl rfl ?_
      obtain ⟨hi_, hf⟩ := xo_if hf
      refine xt_iald (pc := 48) 62 rfl rfl hi_ dX6_plant_48 ?_
      refine xr_iconst (pc := 49) dX6_plant_49 xci_1 ?_
      refine xr_iadd (pc := 50) dX6_plant_50 ?_
      obtain ⟨hi_, hf⟩ := xo_if hf
      refine xt_iast (pc := 51) 62 rfl rfl hi_ dX6_plant_51 ?_
      refine xr_aload_n (pc := 52) 0 dX6_plant_52 rfl rfl ?_
      refine xr_bipush (pc := 53) dX6_plant_53 xcb_8 ?_
      refine xr_iload_n (pc := 55) 1 dX6_plant_55 rfl rfl ?_
      refine xr_imul (pc := 56) dX6_plant_56 ?_
      refine xr_iload_n (pc := 57) 2 dX6_plant_57 rfl rfl ?_
      refine xr_iadd (pc := 58) dX6_plant_58 ?_
      obtain ⟨r5, τ5, hτ5, hf⟩ := xo_bd hf
      refine call_f_t_willowsAt (pc := 59) hτ5 rfl (Nat.le_of_ble_eq_true rfl) (Nat.le_of_ble_eq_true rfl) (Nat.le_of_ble_eq_true rfl) dX6_plant_59 ?_
      rw [kr _ (Option.some.inj hf).symm]
      exact xr_iret (pc := 62) dX6_plant_62 rfl
theorem met_f_t_plant (l : Launch) {D : TD} {m : Nat} {x1 : Int32} {x2 : Int32} {τ : TS} {o_ : (Int32 × TS)} (hf : f_t_plant x1 x2 τ = some o_) : xMet (wT D m) l yX6_plant (ws_ yX6_plant cX6_plant 3 (some .int)) 3 180 0 0 [.ref m, .int x1, .int x2] τ (some (.int o_.1), o_.2) :=
  xMet_of (by decide) (Nat.le_of_ble_eq_true rfl) KT_moved (fun _ _ => trivial) (fun K _ _ _ => ok_f_t_plant hf (fun _ h => by rw [h]))
abbrev mX6_isRefused : xM := (cX6_isRefused, 1, RX6, 0, 0, (some .boolean), "isRefused")
def f_t_isRefused (τ : TS) : Option (Int32 × TS) :=
  if xin 2 6 = true then
  if xin 2 6 = true then
  some ((0, sA τ 9 (2 : Int32).toNatClampNeg ((tA τ 9 (2 : Int32).toNatClampNeg) + 1)))
  else none
  else none
theorem ok_f_t_isRefused {D : TD} {m : Nat} {K : xK} {Z : Option Value × TS} {τ : TS} {o_ : (Int32 × TS)} (hf : f_t_isRefused τ = some o_) (kr : ∀ r_ : (Int32 × TS), o_ = r_ → Z = (some (.int r_.1), r_.2)) : xV (wT D m) K mX6_isRefused (xQ (wT D m) K Z) τ 0 [(0, .ref m)] [] := by
  unfold f_t_isRefused at hf
  refine xr_aload_n (pc := 0) 0 dX6_isRefused_0 rfl rfl ?_
  refine xt_getA (pc := 1) 9 (by decide) q1755 rfl rfl rfl dX6_isRefused_1 ?_
  refine xr_iconst (pc := 4) dX6_isRefused_4 xci_2 ?_
  refine xr_dup2_11 (pc := 5) dX6_isRefused_5 rfl rfl ?_
  obtain ⟨hi_, hf⟩ := xo_if hf
  refine xt_iald (pc := 6) 9 rfl rfl hi_ dX6_isRefused_6 ?_
  refine xr_iconst (pc := 7) dX6_isRefused_7 xci_1 ?_
  refine xr_iadd (pc := 8) dX6_isRefused_8 ?_
  obtain ⟨hi_, hf⟩ := xo_if hf
  refine xt_iast (pc := 9) 9 rfl rfl hi_ dX6_isRefused_9 ?_
  refine xr_iconst (pc := 10) dX6_isRefused_10 xci_0 ?_
  rw [kr _ (Option.some.inj hf).symm]
  exact xr_zret (pc := 11) dX6_isRefused_11 rfl xz_0
theorem met_f_t_isRefused (l : Launch) {D : TD} {m : Nat} {τ : TS} {o_ : (Int32 × TS)} (hf : f_t_isRefused τ = some o_) : xMet (wT D m) l yX6_isRefused (ws_ yX6_isRefused cX6_isRefused 1 (some .boolean)) 0 0 0 0 [.ref m] τ (some (.int o_.1), o_.2) :=
  xMet_of (by decide) (Nat.le_of_ble_eq_true rfl) KT_moved (fun _ _ => trivial) (fun K _ _ _ => ok_f_t_isRefused hf (fun _ h => by rw [h]))
theorem hd_f_t_isRefused : yX6_isRefused.cls = RX6 ∧ yX6_isRefused.cls ≠ "java/lang/invoke/MethodHandle" ∧ yX6_isRefused.cls ≠ "java/lang/invoke/VarHandle" ∧ (parseMethodDescriptor yX6_isRefused.desc).map (fun d => d.parameters.length) = some 0 := by decide +kernel
theorem call_f_t_isRefused {D : TD} {m : Nat} {K : xK} {M : xM} {Q : State → Prop} {τ : TS} {pc : Nat} {loc : List (Nat × Value)} {st : List Value} {r : Int32} {τ1 : TS} (hf : f_t_isRefused τ = some (r, τ1)) (ho : M.2.2.1 = RX6) (hfr : 1 ≤ M.2.2.2.1) (hlo : 20 ≤ M.2.2.2.2.1) (hcat : (st.map fun v => v.category).sum ≤ 8) (d : decode M.1 pc = .ok (.invokevirtual 687, 3)) (k : xV (wT D m) K M Q τ1 (pc + 3) loc (.int r :: st)) : xV (wT D m) K M Q τ pc loc (.ref m :: st) :=
  xr_callV (As := []) (rest := st) (met_f_t_isRefused K.2.1 hf) (lw_V q2655 q2657 qs161 q186 q2658) hd_f_t_isRefused ho hfr hlo rfl (fun H hR hK => t_recv H hR hK) rfl hcat d k
abbrev mX6_offer : xM := (cX6_offer, 3, RX6, 2, 120, (some .boolean), "offer")
def f_t_offer (x1 : Int32) (x2 : Int32) (τ : TS) : Option (Int32 × TS) :=
  xbd (f_t_isLord x1 τ) fun r1 τ1 =>
  if r1 = 0 then
  xbd (f_t_isRefused τ1) fun r2 τ2 =>
  some ((r2 &&& 1, τ2))
  else
  xbd (f_t_isIn x2.toInt64 0 1 τ1) fun r3 τ3 =>
  if r3 = 0 then
  xbd (f_t_isRefused τ3) fun r4 τ4 =>
  some ((r4 &&& 1, τ4))
  else
  if xin (172 + (2 * x1)) 303 = true then
  if (tA τ3 62 (172 + (2 * x1)).toNatClampNeg) = x2 then
  xbd (f_t_isRefused τ3) fun r5 τ5 =>
  some ((r5 &&& 1, τ5))
  else
  (f_t_keeps τ3).bind fun τ6 =>
  if xin (172 + (2 * x1)) 303 = true then
  some ((1, sA τ6 62 (172 + (2 * x1)).toNatClampNeg x2))
  else none
  else none
theorem ok_f_t_offer {D : TD} {m : Nat} {K : xK} {Z : Option Value × TS} {x1 : Int32} {x2 : Int32} {τ : TS} {o_ : (Int32 × TS)} (hf : f_t_offer x1 x2 τ = some o_) (kr : ∀ r_ : (Int32 × TS), o_ = r_ → Z = (some (.int r_.1), r_.2)) : xV (wT D m) K mX6_offer (xQ (wT D m) K Z) τ 0 [(0, .ref m), (1, .int x1), (2, .int x2)] [] := by
  unfold f_t_offer at hf
  refine xr_aload_n (pc := 0) 0 dX6_offer_0 rfl rfl ?_
  refine xr_iload_n (pc := 1) 1 dX6_offer_1 rfl rfl ?_
  obtain ⟨r1, τ1, hτ1, hf⟩ := xo_bd hf
  refine call_f_t_isLord (pc := 2) hτ1 rfl (Nat.le_of_ble_eq_true rfl) (Nat.le_of_ble_eq_true rfl) (Nat.le_of_ble_eq_true rfl) dX6_offer_2 ?_
  refine xr_if_eq (pc := 5) 34 dX6_offer_5 (by decide) (fun c_ => ?_) (fun c_ => ?_)
  · have hf := xo_pos c_ hf
    refine xr_aload_n (pc := 34) 0 dX6_offer_34 rfl rfl ?_
    obtain ⟨r2, τ2, hτ2, hf⟩ := xo_bd hf
    refine call_f_t_isRefused (pc := 35) hτ2 rfl (Nat.le_of_ble_eq_true rfl) (Nat.le_of_ble_eq_true rfl) (Nat.le_of_ble_eq_true rfl) dX6_offer_35 ?_
    rw [kr _ (Option.some.inj hf).symm]
    exact xr_zret (pc := 38) dX6_offer_38 rfl rfl
  · have hf := xo_neg c_ hf
    refine xr_iload_n (pc := 8) 2 dX6_offer_8 rfl rfl ?_
    refine xr_i2l (pc := 9) dX6_offer_9 ?_
    refine xr_lconst (pc := 10) dX6_offer_10 (by decide : _ = (0 : Int64)) ?_
    refine xr_lconst (pc := 11) dX6_offer_11 (by decide : _ = (1 : Int64)) ?_
    obtain ⟨r3, τ3, hτ3, hf⟩ := xo_bd hf
    refine call_f_t_isIn (pc := 12) hτ3 rfl (Nat.le_of_ble_eq_true rfl) (Nat.le_of_ble_eq_true rfl) (Nat.le_of_ble_eq_true rfl) dX6_offer_12 ?_
    refine xr_if_eq (pc := 15) 34 dX6_offer_15 (by decide) (fun c_ => ?_) (fun c_ => ?_)
    · have hf := xo_pos c_ hf
      refine xr_aload_n (pc := 34) 0 dX6_offer_34 rfl rfl ?_
      obtain ⟨r4, τ4, hτ4, hf⟩ := xo_bd hf
      refine call_f_t_isRefused (pc := 35) hτ4 rfl (Nat.le_of_ble_eq_true rfl) (Nat.le_of_ble_eq_true rfl) (Nat.le_of_ble_eq_true rfl) dX6_offer_35 ?_
      rw [kr _ (Option.some.inj hf).symm]
      exact xr_zret (pc := 38) dX6_offer_38 rfl rfl
    · have hf := xo_neg c_ hf
      refine xr_aload_n (pc := 18) 0 dX6_offer_18 rfl rfl ?_
      refine xt_getA (pc := 19) 62 (by decide) q1808 rfl rfl rfl dX6_offer_19 ?_
      refine xr_sipush (pc := 22) dX6_offer_22 xcs_172 ?_
      refine xr_iconst (pc := 25) dX6_offer_25 xci_2 ?_
      refine xr_iload_n (pc := 26) 1 dX6_offer_26 rfl rfl ?_
      refine xr_imul (pc := 27) dX6_offer_27 ?_
      refine xr_iadd (pc := 28) dX6_offer_28 ?_
      obtain ⟨hi_, hf⟩ := xo_if hf
      refine xt_iald (pc := 29) 62 rfl rfl hi_ dX6_offer_29 ?_
      refine xr_iload_n (pc := 30) 2 dX6_offer_30 rfl rfl ?_
      refine xr_icmp_ne (pc := 31) 39 dX6_offer_31 (by decide) (fun c_ => ?_) (fun c_ => ?_)
      · have hf := xo_pos c_ hf
        refine xr_aload_n (pc := 34) 0 dX6_offer_34 rfl rfl ?_
        obtain ⟨r5, τ5, hτ5, hf⟩ := xo_bd hf
        refine call_f_t_isRefused (pc := 35) hτ5 rfl (Nat.le_of_ble_eq_true rfl) (Nat.le_of_ble_eq_true rfl) (Nat.le_of_ble_eq_true rfl) dX6_offer_35 ?_
        rw [kr _ (Option.some.inj hf).symm]
        exact xr_zret (pc := 38) dX6_offer_38 rfl rfl
      · have hf := xo_neg c_ hf
        refine xr_aload_n (pc := 39) 0 dX6_offer_39 rfl rfl ?_
        obtain ⟨τ6, hτ6, hf⟩ := xo_bind hf
        refine call_f_t_keeps (pc := 40) hτ6 rfl (Nat.le_of_ble_eq_true rfl) (Nat.le_of_ble_eq_true rfl) (Nat.le_of_ble_eq_true rfl) dX6_offer_40 ?_
        refine xr_aload_n (pc := 43) 0 dX6_offer_43 rfl rfl ?_
        refine xt_getA (pc := 44) 62 (by decide) q1808 rfl rfl rfl dX6_offer_44 ?_
        refine xr_sipush (pc := 47) dX6_offer_47 xcs_172 ?_
        refine xr_iconst (pc := 50) dX6_offer_50 xci_2 ?_
        refine xr_iload_n (pc := 51) 1 dX6_offer_51 rfl rfl ?_
        refine xr_imul (pc := 52) dX6_offer_52 ?_
        refine xr_iadd (pc := 53) dX6_offer_53 ?_
        refine xr_iload_n (pc := 54) 2 dX6_offer_54 rfl rfl ?_
        obtain ⟨hi_, hf⟩ := xo_if hf
        refine xt_iast (pc := 55) 62 rfl rfl hi_ dX6_offer_55 ?_
        refine xr_iconst (pc := 56) dX6_offer_56 xci_1 ?_
        rw [kr _ (Option.some.inj hf).symm]
        exact xr_zret (pc := 57) dX6_offer_57 rfl xz_1
theorem met_f_t_offer (l : Launch) {D : TD} {m : Nat} {x1 : Int32} {x2 : Int32} {τ : TS} {o_ : (Int32 × TS)} (hf : f_t_offer x1 x2 τ = some o_) : xMet (wT D m) l yX6_offer (ws_ yX6_offer cX6_offer 3 (some .boolean)) 2 120 0 0 [.ref m, .int x1, .int x2] τ (some (.int o_.1), o_.2) :=
  xMet_of (by decide) (Nat.le_of_ble_eq_true rfl) KT_moved (fun _ _ => trivial) (fun K _ _ _ => ok_f_t_offer hf (fun _ h => by rw [h]))
abbrev mX6_cut : xM := (cX6_cut, 2, RX6, 3, 180, (some .boolean), "cut")
def f_t_cut (x1 : Int32) (τ : TS) : Option (Int32 × TS) :=
  xbd (f_t_isColumn x1.toInt64 τ) fun r1 τ1 =>
  if r1 = 0 then
  xbd (f_t_isRefused τ1) fun r2 τ2 =>
  some ((r2 &&& 1, τ2))
  else
  xbd (f_t_isInner x1 τ1) fun r3 τ3 =>
  if r3 = 0 then
  xbd (f_t_isRefused τ3) fun r4 τ4 =>
  some ((r4 &&& 1, τ4))
  else
  xbd (f_t_rowOf x1 τ3) fun r5 τ5 =>
  xbd (f_t_halfOf x1 τ5) fun r6 τ6 =>
  if r5 = r6 then
  xbd (f_t_isRefused τ6) fun r7 τ7 =>
  some ((r7 &&& 1, τ7))
  else
  (f_t_keeps τ6).bind fun τ8 =>
  xbd (f_t_halfOf x1 τ8) fun r9 τ9 =>
  if xin (2 + x1) 303 = true then
  some ((1, sA τ9 62 (2 + x1).toNatClampNeg r9))
  else none
theorem ok_f_t_cut {D : TD} {m : Nat} {K : xK} {Z : Option Value × TS} {x1 : Int32} {τ : TS} {o_ : (Int32 × TS)} (hf : f_t_cut x1 τ = some o_) (kr : ∀ r_ : (Int32 × TS), o_ = r_ → Z = (some (.int r_.1), r_.2)) : xV (wT D m) K mX6_cut (xQ (wT D m) K Z) τ 0 [(0, .ref m), (1, .int x1)] [] := by
  unfold f_t_cut at hf
  refine xr_aload_n (pc := 0) 0 dX6_cut_0 rfl rfl ?_
  refine xr_iload_n (pc := 1) 1 dX6_cut_1 rfl rfl ?_
  refine xr_i2l (pc := 2) dX6_cut_2 ?_
  obtain ⟨r1, τ1, hτ1, hf⟩ := xo_bd hf
  refine call_f_t_isColumn (pc := 3) hτ1 rfl (Nat.le_of_ble_eq_true rfl) (Nat.le_of_ble_eq_true rfl) (Nat.le_of_ble_eq_true rfl) dX6_cut_3 ?_
  refine xr_if_eq (pc := 6) 30 dX6_cut_6 (by decide) (fun c_ => ?_) (fun c_ => ?_)
  · have hf := xo_pos c_ hf
    refine xr_aload_n (pc := 30) 0 dX6_cut_30 rfl rfl ?_
    obtain ⟨r2, τ2, hτ2, hf⟩ := xo_bd hf
    refine call_f_t_isRefused (pc := 31) hτ2 rfl (Nat.le_of_ble_eq_true rfl) (Nat.le_of_ble_eq_true rfl) (Nat.le_of_ble_eq_true rfl) dX6_cut_31 ?_
    rw [kr _ (Option.some.inj hf).symm]
    exact xr_zret (pc := 34) dX6_cut_34 rfl rfl
  · have hf := xo_neg c_ hf
    refine xr_aload_n (pc := 9) 0 dX6_cut_9 rfl rfl ?_
    refine xr_iload_n (pc := 10) 1 dX6_cut_10 rfl rfl ?_
    obtain ⟨r3, τ3, hτ3, hf⟩ := xo_bd hf
    refine call_f_t_isInner (pc := 11) hτ3 rfl (Nat.le_of_ble_eq_true rfl) (Nat.le_of_ble_eq_true rfl) (Nat.le_of_ble_eq_true rfl) dX6_cut_11 ?_
    refine xr_if_eq (pc := 14) 30 dX6_cut_14 (by decide) (fun c_ => ?_) (fun c_ => ?_)
    · have hf := xo_pos c_ hf
      refine xr_aload_n (pc := 30) 0 dX6_cut_30 rfl rfl ?_
      obtain ⟨r4, τ4, hτ4, hf⟩ := xo_bd hf
      refine call_f_t_isRefused (pc := 31) hτ4 rfl (Nat.le_of_ble_eq_true rfl) (Nat.le_of_ble_eq_true rfl) (Nat.le_of_ble_eq_true rfl) dX6_cut_31 ?_
      rw [kr _ (Option.some.inj hf).symm]
      exact xr_zret (pc := 34) dX6_cut_34 rfl rfl
    · have hf := xo_neg c_ hf
      refine xr_aload_n (pc := 17) 0 dX6_cut_17 rfl rfl ?_
      refine xr_iload_n (pc := 18) 1 dX6_cut_18 rfl rfl ?_
      obtain ⟨r5, τ5, hτ5, hf⟩ := xo_bd hf
      refine call_f_t_rowOf (pc := 19) hτ5 rfl (Nat.le_of_ble_eq_true rfl) (Nat.le_of_ble_eq_true rfl) (Nat.le_of_ble_eq_true rfl) dX6_cut_19 ?_
      refine xr_aload_n (pc := 22) 0 dX6_cut_22 rfl rfl ?_
      refine xr_iload_n (pc := 23) 1 dX6_cut_23 rfl rfl ?_
      obtain ⟨r6, τ6, hτ6, hf⟩ := xo_bd hf
      refine call_f_t_halfOf (pc := 24) hτ6 rfl (Nat.le_of_ble_eq_true rfl) (Nat.le_of_ble_eq_true rfl) (Nat.le_of_ble_eq_true rfl) dX6_cut_24 ?_
      refine xr_icmp_ne (pc := 27) 35 dX6_cut_27 (by decide) (fun c_ => ?_) (fun c_ => ?_)
      · have hf := xo_pos c_ hf
        refine xr_aload_n (pc := 30) 0 dX6_cut_30 rfl rfl ?_
        obtain ⟨r7, τ7, hτ7, hf⟩ := xo_bd hf
        refine call_f_t_isRefused (pc := 31) hτ7 rfl (Nat.le_of_ble_eq_true rfl) (Nat.le_of_ble_eq_true rfl) (Nat.le_of_ble_eq_true rfl) dX6_cut_31 ?_
        rw [kr _ (Option.some.inj hf).symm]
        exact xr_zret (pc := 34) dX6_cut_34 rfl rfl
      · have hf := xo_neg c_ hf
        refine xr_aload_n (pc := 35) 0 dX6_cut_35 rfl rfl ?_
        obtain ⟨τ8, hτ8, hf⟩ := xo_bind hf
        refine call_f_t_keeps (pc := 36) hτ8 rfl (Nat.le_of_ble_eq_true rfl) (Nat.le_of_ble_eq_true rfl) (Nat.le_of_ble_eq_true rfl) dX6_cut_36 ?_
        refine xr_aload_n (pc := 39) 0 dX6_cut_39 rfl rfl ?_
        refine xt_getA (pc := 40) 62 (by decide) q1808 rfl rfl rfl dX6_cut_40 ?_
        refine xr_iconst (pc := 43) dX6_cut_43 xci_2 ?_
        refine xr_iload_n (pc := 44) 1 dX6_cut_44 rfl rfl ?_
        refine xr_iadd (pc := 45) dX6_cut_45 ?_
        refine xr_aload_n (pc := 46) 0 dX6_cut_46 rfl rfl ?_
        refine xr_iload_n (pc := 47) 1 dX6_cut_47 rfl rfl ?_
        obtain ⟨r9, τ9, hτ9, hf⟩ := xo_bd hf
        refine call_f_t_halfOf (pc := 48) hτ9 rfl (Nat.le_of_ble_eq_true rfl) (Nat.le_of_ble_eq_true rfl) (Nat.le_of_ble_eq_true rfl) dX6_cut_48 ?_
        obtain ⟨hi_, hf⟩ := xo_if hf
        refine xt_iast (pc := 51) 62 rfl rfl hi_ dX6_cut_51 ?_
        refine xr_iconst (pc := 52) dX6_cut_52 xci_1 ?_
        rw [kr _ (Option.some.inj hf).symm]
        exact xr_zret (pc := 53) dX6_cut_53 rfl xz_1
theorem met_f_t_cut (l : Launch) {D : TD} {m : Nat} {x1 : Int32} {τ : TS} {o_ : (Int32 × TS)} (hf : f_t_cut x1 τ = some o_) : xMet (wT D m) l yX6_cut (ws_ yX6_cut cX6_cut 2 (some .boolean)) 3 180 0 0 [.ref m, .int x1] τ (some (.int o_.1), o_.2) :=
  xMet_of (by decide) (Nat.le_of_ble_eq_true rfl) KT_moved (fun _ _ => trivial) (fun K _ _ _ => ok_f_t_cut hf (fun _ h => by rw [h]))
abbrev mX6_seasons : xM := (cX6_seasons, 2, RX6, 9, 540, (some .int), "seasons")
def f_t_seasons (x1 : Int32) (τ : TS) : Option (Int32 × TS) :=
  xbd (f_t_isAhead x1 1 100 τ) fun r1 τ1 =>
  if r1 = 0 then
  xbd (f_t_refuses 3 τ1) fun r2 τ2 =>
  some ((r2, τ2))
  else
  (f_t_keeps τ1).bind fun τ3 =>
  (f_t_seasonsGo x1 (sI τ3 71 0)).bind fun τ4 =>
  some ((tI τ4 71, τ4))
theorem ok_f_t_seasons {D : TD} {m : Nat} {K : xK} {Z : Option Value × TS} {x1 : Int32} {τ : TS} {o_ : (Int32 × TS)} (hf : f_t_seasons x1 τ = some o_) (kr : ∀ r_ : (Int32 × TS), o_ = r_ → Z = (some (.int r_.1), r_.2)) : xV (wT D m) K mX6_seasons (xQ (wT D m) K Z) τ 0 [(0, .ref m), (1, .int x1)] [] := by
  unfold f_t_seasons at hf
  refine xr_aload_n (pc := 0) 0 dX6_seasons_0 rfl rfl ?_
  refine xr_iload_n (pc := 1) 1 dX6_seasons_1 rfl rfl ?_
  refine xr_iconst (pc := 2) dX6_seasons_2 xci_1 ?_
  refine xr_bipush (pc := 3) dX6_seasons_3 xcb_100 ?_
  obtain ⟨r1, τ1, hτ1, hf⟩ := xo_bd hf
  refine call_f_t_isAhead (pc := 5) hτ1 rfl (Nat.le_of_ble_eq_true rfl) (Nat.le_of_ble_eq_true rfl) (Nat.le_of_ble_eq_true rfl) dX6_seasons_5 ?_
  refine xr_if_ne (pc := 8) 17 dX6_seasons_8 (by decide) (fun c_ => ?_) (fun c_ => ?_)
  · have hf := xo_pos c_ hf
    refine xr_aload_n (pc := 11) 0 dX6_seasons_11 rfl rfl ?_
    refine xr_iconst (pc := 12) dX6_seasons_12 xci_3 ?_
    obtain ⟨r2, τ2, hτ2, hf⟩ := xo_bd hf
    refine call_f_t_refuses (pc := 13) hτ2 rfl (Nat.le_of_ble_eq_true rfl) (Nat.le_of_ble_eq_true rfl) (Nat.le_of_ble_eq_true rfl) dX6_seasons_13 ?_
    rw [kr _ (Option.some.inj hf).symm]
    exact xr_iret (pc := 16) dX6_seasons_16 rfl
  · have hf := xo_neg c_ hf
    refine xr_aload_n (pc := 17) 0 dX6_seasons_17 rfl rfl ?_
    obtain ⟨τ3, hτ3, hf⟩ := xo_bind hf
    refine call_f_t_keeps (pc := 18) hτ3 rfl (Nat.le_of_ble_eq_true rfl) (Nat.le_of_ble_eq_true rfl) (Nat.le_of_ble_eq_true rfl) dX6_seasons_18 ?_
    refine xr_aload_n (pc := 21) 0 dX6_seasons_21 rfl rfl ?_
    refine xr_iconst (pc := 22) dX6_seasons_22 xci_0 ?_
    refine xt_putI (pc := 23) 71 (by decide) q1817 rfl rfl rfl (by decide +kernel) rfl dX6_seasons_23 ?_
    refine xr_aload_n (pc := 26) 0 dX6_seasons_26 rfl rfl ?_
    refine xr_iload_n (pc := 27) 1 dX6_seasons_27 rfl rfl ?_
    obtain ⟨τ4, hτ4, hf⟩ := xo_bind hf
    refine call_f_t_seasonsGo (pc := 28) hτ4 rfl (Nat.le_of_ble_eq_true rfl) (Nat.le_of_ble_eq_true rfl) (Nat.le_of_ble_eq_true rfl) dX6_seasons_28 ?_
    refine xr_aload_n (pc := 31) 0 dX6_seasons_31 rfl rfl ?_
    refine xt_getI (pc := 32) 71 (by decide) q1817 rfl rfl rfl dX6_seasons_32 ?_
    rw [kr _ (Option.some.inj hf).symm]
    exact xr_iret (pc := 35) dX6_seasons_35 rfl
theorem met_f_t_seasons (l : Launch) {D : TD} {m : Nat} {x1 : Int32} {τ : TS} {o_ : (Int32 × TS)} (hf : f_t_seasons x1 τ = some o_) : xMet (wT D m) l yX6_seasons (ws_ yX6_seasons cX6_seasons 2 (some .int)) 9 540 0 0 [.ref m, .int x1] τ (some (.int o_.1), o_.2) :=
  xMet_of (by decide) (Nat.le_of_ble_eq_true rfl) KT_moved (fun _ _ => trivial) (fun K _ _ _ => ok_f_t_seasons hf (fun _ h => by rw [h]))
abbrev mX6_seed : xM := (cX6_seed, 2, RX6, 0, 0, (some .boolean), "seed")
def f_t_seed (x1 : Int32) (τ : TS) : Option (Int32 × TS) :=
  if 0 ≤ x1 then
  some ((1, sL τ 87 x1.toInt64))
  else
  if xin 5 6 = true then
  if xin 5 6 = true then
  some ((0, sA τ 9 (5 : Int32).toNatClampNeg ((tA τ 9 (5 : Int32).toNatClampNeg) + 1)))
  else none
  else none
theorem ok_f_t_seed {D : TD} {m : Nat} {K : xK} {Z : Option Value × TS} {x1 : Int32} {τ : TS} {o_ : (Int32 × TS)} (hf : f_t_seed x1 τ = some o_) (kr : ∀ r_ : (Int32 × TS), o_ = r_ → Z = (some (.int r_.1), r_.2)) : xV (wT D m) K mX6_seed (xQ (wT D m) K Z) τ 0 [(0, .ref m), (1, .int x1)] [] := by
  unfold f_t_seed at hf
  refine xr_iload_n (pc := 0) 1 dX6_seed_0 rfl rfl ?_
  refine xr_if_ge (pc := 1) 16 dX6_seed_1 (by decide) (fun c_ => ?_) (fun c_ => ?_)
  · have hf := xo_pos c_ hf
    refine xr_aload_n (pc := 16) 0 dX6_seed_16 rfl rfl ?_
    refine xr_iload_n (pc := 17) 1 dX6_seed_17 rfl rfl ?_
    refine xr_i2l (pc := 18) dX6_seed_18 ?_
    refine xt_putL (pc := 19) 87 (by decide) q1833 rfl rfl rfl (by decide +kernel) rfl dX6_seed_19 ?_
    refine xr_iconst (pc := 22) dX6_seed_22 xci_1 ?_
    rw [kr _ (Option.some.inj hf).symm]
    exact xr_zret (pc := 23) dX6_seed_23 rfl xz_1
  · have hf := xo_neg c_ hf
    refine xr_aload_n (pc := 4) 0 dX6_seed_4 rfl rfl ?_
    refine xt_getA (pc := 5) 9 (by decide) q1755 rfl rfl rfl dX6_seed_5 ?_
    refine xr_iconst (pc := 8) dX6_seed_8 xci_5 ?_
    refine xr_dup2_11 (pc := 9) dX6_seed_9 rfl rfl ?_
    obtain ⟨hi_, hf⟩ := xo_if hf
    refine xt_iald (pc := 10) 9 rfl rfl hi_ dX6_seed_10 ?_
    refine xr_iconst (pc := 11) dX6_seed_11 xci_1 ?_
    refine xr_iadd (pc := 12) dX6_seed_12 ?_
    obtain ⟨hi_, hf⟩ := xo_if hf
    refine xt_iast (pc := 13) 9 rfl rfl hi_ dX6_seed_13 ?_
    refine xr_iconst (pc := 14) dX6_seed_14 xci_0 ?_
    rw [kr _ (Option.some.inj hf).symm]
    exact xr_zret (pc := 15) dX6_seed_15 rfl xz_0
theorem met_f_t_seed (l : Launch) {D : TD} {m : Nat} {x1 : Int32} {τ : TS} {o_ : (Int32 × TS)} (hf : f_t_seed x1 τ = some o_) : xMet (wT D m) l yX6_seed (ws_ yX6_seed cX6_seed 2 (some .boolean)) 0 0 0 0 [.ref m, .int x1] τ (some (.int o_.1), o_.2) :=
  xMet_of (by decide) (Nat.le_of_ble_eq_true rfl) KT_moved (fun _ _ => trivial) (fun K _ _ _ => ok_f_t_seed hf (fun _ h => by rw [h]))
abbrev mX6_drawOf : xM := (cX6_drawOf, 2, RX6, 0, 0, (some .int), "drawOf")
def f_t_drawOf (x1 : Int32) (τ : TS) : Option (Int32 × TS) :=
  if ¬ x1.toInt64 = 0 then
  some (((((tL (sL τ 87 (((1103515245 * (tL τ 87)) + 12345) - ((1103515245 * (tL τ 87)) + 12345) / 2147483648 * 2147483648)) 87) / 64) - ((tL (sL τ 87 (((1103515245 * (tL τ 87)) + 12345) - ((1103515245 * (tL τ 87)) + 12345) / 2147483648 * 2147483648)) 87) / 64) / x1.toInt64 * x1.toInt64).toInt32, sL τ 87 (((1103515245 * (tL τ 87)) + 12345) - ((1103515245 * (tL τ 87)) + 12345) / 2147483648 * 2147483648)))
  else none
theorem ok_f_t_drawOf {D : TD} {m : Nat} {K : xK} {Z : Option Value × TS} {x1 : Int32} {τ : TS} {o_ : (Int32 × TS)} (hf : f_t_drawOf x1 τ = some o_) (kr : ∀ r_ : (Int32 × TS), o_ = r_ → Z = (some (.int r_.1), r_.2)) : xV (wT D m) K mX6_drawOf (xQ (wT D m) K Z) τ 0 [(0, .ref m), (1, .int x1)] [] := by
  unfold f_t_drawOf at hf
  refine xr_aload_n (pc := 0) 0 dX6_drawOf_0 rfl rfl ?_
  refine xr_ldc2 (pc := 1) q2679 dX6_drawOf_1 ?_
  refine xr_aload_n (pc := 4) 0 dX6_drawOf_4 rfl rfl ?_
  refine xt_getL (pc := 5) 87 (by decide) q1833 rfl rfl rfl dX6_drawOf_5 ?_
  refine xr_lmul (pc := 8) dX6_drawOf_8 ?_
  refine xr_ldc2 (pc := 9) q2680 dX6_drawOf_9 ?_
  refine xr_ladd (pc := 12) dX6_drawOf_12 ?_
  refine xr_ldc2 (pc := 13) q2681 dX6_drawOf_13 ?_
  refine xr_lrem (pc := 16) dX6_drawOf_16 (by decide) ?_
  refine xt_putL (pc := 17) 87 (by decide) q1833 rfl rfl rfl (by decide +kernel) rfl dX6_drawOf_17 ?_
  refine xr_aload_n (pc := 20) 0 dX6_drawOf_20 rfl rfl ?_
  refine xt_getL (pc := 21) 87 (by decide) q1833 rfl rfl rfl dX6_drawOf_21 ?_
  refine xr_ldc2 (pc := 24) q2682 dX6_drawOf_24 ?_
  refine xr_ldiv (pc := 27) dX6_drawOf_27 (by decide) ?_
  refine xr_iload_n (pc := 28) 1 dX6_drawOf_28 rfl rfl ?_
  refine xr_i2l (pc := 29) dX6_drawOf_29 ?_
  obtain ⟨hz_, hf⟩ := xo_if hf
  refine xr_lrem (pc := 30) dX6_drawOf_30 hz_ ?_
  refine xr_l2i (pc := 31) dX6_drawOf_31 ?_
  rw [kr _ (Option.some.inj hf).symm]
  exact xr_iret (pc := 32) dX6_drawOf_32 rfl
theorem met_f_t_drawOf (l : Launch) {D : TD} {m : Nat} {x1 : Int32} {τ : TS} {o_ : (Int32 × TS)} (hf : f_t_drawOf x1 τ = some o_) : xMet (wT D m) l yX6_drawOf (ws_ yX6_drawOf cX6_drawOf 2 (some .int)) 0 0 0 0 [.ref m, .int x1] τ (some (.int o_.1), o_.2) :=
  xMet_of (by decide) (Nat.le_of_ble_eq_true rfl) KT_moved (fun _ _ => trivial) (fun K _ _ _ => ok_f_t_drawOf hf (fun _ h => by rw [h]))
theorem hd_f_t_drawOf : yX6_drawOf.cls = RX6 ∧ yX6_drawOf.cls ≠ "java/lang/invoke/MethodHandle" ∧ yX6_drawOf.cls ≠ "java/lang/invoke/VarHandle" ∧ (parseMethodDescriptor yX6_drawOf.desc).map (fun d => d.parameters.length) = some 1 := by decide +kernel
theorem call_f_t_drawOf {D : TD} {m : Nat} {K : xK} {M : xM} {Q : State → Prop} {x1 : Int32} {τ : TS} {pc : Nat} {loc : List (Nat × Value)} {st : List Value} {r : Int32} {τ1 : TS} (hf : f_t_drawOf x1 τ = some (r, τ1)) (ho : M.2.2.1 = RX6) (hfr : 1 ≤ M.2.2.2.1) (hlo : 21 ≤ M.2.2.2.2.1) (hcat : (st.map fun v => v.category).sum ≤ 8) (d : decode M.1 pc = .ok (.invokevirtual 698, 3)) (k : xV (wT D m) K M Q τ1 (pc + 3) loc (.int r :: st)) : xV (wT D m) K M Q τ pc loc (.int x1 :: .ref m :: st) :=
  xr_callV (As := [.int x1]) (rest := st) (met_f_t_drawOf K.2.1 hf) (lw_V q2675 q2677 qs162 q186 q2678) hd_f_t_drawOf ho hfr hlo rfl (fun H hR hK => t_recv H hR hK) rfl hcat d k
abbrev mX6_chance : xM := (cX6_chance, 6, RX6, 8, 480, (some .int), "chance")
def Jt_chance_106 (x1 : Int32) (x2 : Int32) (x3 : Int32) (τ : TS) : Option ((Int32 × Int32 × TS) ⊕ ((Int32 × TS))) :=
  (f_t_seasonGoes τ).bind fun τ5 =>
  some (.inl (x2, x3 + 1, τ5))
theorem ok_Jt_chance_106 {D : TD} {m : Nat} {K : xK} {Z : Option Value × TS} {x1 : Int32} {x2 : Int32} {x3 : Int32} {τ : TS} {o_ : ((Int32 × Int32 × TS) ⊕ ((Int32 × TS)))} (hf : Jt_chance_106 x1 x2 x3 τ = some o_) (kc : ∀ s_ : Int32 × Int32 × TS, o_ = .inl s_ → xV (wT D m) K mX6_chance (xQ (wT D m) K Z) s_.2.2 25 [(0, .ref m), (1, .int x1), (2, .int s_.1), (3, .int s_.2.1)] []) (ke0 : ∀ e_ : Int32 × TS, o_ = .inr e_ → xV (wT D m) K mX6_chance (xQ (wT D m) K Z) e_.2 116 [(2, .int e_.1)] []) : xV (wT D m) K mX6_chance (xQ (wT D m) K Z) τ 106 [(0, .ref m), (1, .int x1), (2, .int x2), (3, .int x3)] [] := by
  unfold Jt_chance_106 at hf
  refine xr_aload_n (pc := 106) 0 dX6_chance_106 rfl rfl ?_
  obtain ⟨τ5, hτ5, hf⟩ := xo_bind hf
  refine call_f_t_seasonGoes (pc := 107) hτ5 rfl (Nat.le_of_ble_eq_true rfl) (Nat.le_of_ble_eq_true rfl) (Nat.le_of_ble_eq_true rfl) dX6_chance_107 ?_
  refine xr_iinc (pc := 110) (loc' := [(3, .int (x3 + 1)), (0, .ref m), (1, .int x1), (2, .int x2)]) 3 dX6_chance_110 rfl xci_1 (by decide) rfl ?_
  refine xr_goto (pc := 113) 25 dX6_chance_113 (by decide) ?_
  refine xV_sub [1, 2, 3, 0] rfl ?_
  exact kc _ (Option.some.inj hf).symm
def Jt_chance_103 (x1 : Int32) (x2 : Int32) (x3 : Int32) (τ : TS) : Option ((Int32 × Int32 × TS) ⊕ ((Int32 × TS))) :=
  Jt_chance_106 x1 (x2 + 1) x3 τ
theorem ok_Jt_chance_103 {D : TD} {m : Nat} {K : xK} {Z : Option Value × TS} {x1 : Int32} {x2 : Int32} {x3 : Int32} {τ : TS} {o_ : ((Int32 × Int32 × TS) ⊕ ((Int32 × TS)))} (hf : Jt_chance_103 x1 x2 x3 τ = some o_) (kc : ∀ s_ : Int32 × Int32 × TS, o_ = .inl s_ → xV (wT D m) K mX6_chance (xQ (wT D m) K Z) s_.2.2 25 [(0, .ref m), (1, .int x1), (2, .int s_.1), (3, .int s_.2.1)] []) (ke0 : ∀ e_ : Int32 × TS, o_ = .inr e_ → xV (wT D m) K mX6_chance (xQ (wT D m) K Z) e_.2 116 [(2, .int e_.1)] []) : xV (wT D m) K mX6_chance (xQ (wT D m) K Z) τ 103 [(0, .ref m), (1, .int x1), (2, .int x2), (3, .int x3)] [] := by
  unfold Jt_chance_103 at hf
  refine xr_iinc (pc := 103) (loc' := [(2, .int (x2 + 1)), (0, .ref m), (1, .int x1), (3, .int x3)]) 2 dX6_chance_103 rfl xci_1 (by decide) rfl ?_
  refine xV_sub [1, 2, 0, 3] rfl ?_
  exact ok_Jt_chance_106 hf kc ke0
def Jt_chance_72 (x1 : Int32) (x2 : Int32) (x3 : Int32) (x4 : Int32) (s0 : Int32) (s1 : Int32) (τ : TS) : Option ((Int32 × Int32 × TS) ⊕ ((Int32 × TS))) :=
  xbd (f_t_rowsMany τ) fun r10 τ10 =>
  xbd (f_t_isIn ((s1 + s0).toInt64) 0 ((r10 - 1).toInt64) τ10) fun r11 τ11 =>
  if r11 = 0 then
  Jt_chance_103 x1 x2 x3 τ11
  else
  if xin (2 + x4) 303 = true then
  Jt_chance_103 x1 x2 x3 (sA τ11 62 (2 + x4).toNatClampNeg (s1 + s0))
  else none
theorem ok_Jt_chance_72 {D : TD} {m : Nat} {K : xK} {Z : Option Value × TS} {x1 : Int32} {x2 : Int32} {x3 : Int32} {x4 : Int32} {s0 : Int32} {s1 : Int32} {τ : TS} {o_ : ((Int32 × Int32 × TS) ⊕ ((Int32 × TS)))} (hf : Jt_chance_72 x1 x2 x3 x4 s0 s1 τ = some o_) (kc : ∀ s_ : Int32 × Int32 × TS, o_ = .inl s_ → xV (wT D m) K mX6_chance (xQ (wT D m) K Z) s_.2.2 25 [(0, .ref m), (1, .int x1), (2, .int s_.1), (3, .int s_.2.1)] []) (ke0 : ∀ e_ : Int32 × TS, o_ = .inr e_ → xV (wT D m) K mX6_chance (xQ (wT D m) K Z) e_.2 116 [(2, .int e_.1)] []) : xV (wT D m) K mX6_chance (xQ (wT D m) K Z) τ 72 [(0, .ref m), (1, .int x1), (2, .int x2), (3, .int x3), (4, .int x4)] [.int s0, .int s1] := by
  unfold Jt_chance_72 at hf
  refine xr_iadd (pc := 72) dX6_chance_72 ?_
  refine xr_istore (pc := 73) (loc' := [(5, .int (s1 + s0)), (0, .ref m), (1, .int x1), (2, .int x2), (3, .int x3), (4, .int x4)]) dX6_chance_73 (by decide) rfl ?_
  refine xr_iload (pc := 75) 0 dX6_chance_75 rfl ?_
  refine xr_i2l (pc := 77) dX6_chance_77 ?_
  refine xr_lconst (pc := 78) dX6_chance_78 (by decide : _ = (0 : Int64)) ?_
  refine xr_aload_n (pc := 79) 1 dX6_chance_79 rfl rfl ?_
  obtain ⟨r10, τ10, hτ10, hf⟩ := xo_bd hf
  refine call_f_t_rowsMany (pc := 80) hτ10 rfl (Nat.le_of_ble_eq_true rfl) (Nat.le_of_ble_eq_true rfl) (Nat.le_of_ble_eq_true rfl) dX6_chance_80 ?_
  refine xr_iconst (pc := 83) dX6_chance_83 xci_1 ?_
  refine xr_isub (pc := 84) dX6_chance_84 ?_
  refine xr_i2l (pc := 85) dX6_chance_85 ?_
  obtain ⟨r11, τ11, hτ11, hf⟩ := xo_bd hf
  refine call_f_t_isIn (pc := 86) hτ11 rfl (Nat.le_of_ble_eq_true rfl) (Nat.le_of_ble_eq_true rfl) (Nat.le_of_ble_eq_true rfl) dX6_chance_86 ?_
  refine xr_if_eq (pc := 89) 103 dX6_chance_89 (by decide) (fun c_ => ?_) (fun c_ => ?_)
  · have hf := xo_pos c_ hf
    refine xV_sub [1, 2, 3, 4] rfl ?_
    exact ok_Jt_chance_103 hf kc ke0
  · have hf := xo_neg c_ hf
    refine xr_aload_n (pc := 92) 1 dX6_chance_92 rfl rfl ?_
    refine xt_getA (pc := 93) 62 (by decide) q1808 rfl rfl rfl dX6_chance_93 ?_
    refine xr_iconst (pc := 96) dX6_chance_96 xci_2 ?_
    refine xr_iload (pc := 97) 5 dX6_chance_97 rfl ?_
    refine xr_iadd (pc := 99) dX6_chance_99 ?_
    refine xr_iload (pc := 100) 0 dX6_chance_100 rfl ?_
    obtain ⟨hi_, hf⟩ := xo_if hf
    refine xt_iast (pc := 102) 62 rfl rfl hi_ dX6_chance_102 ?_
    refine xV_sub [1, 2, 3, 4] rfl ?_
    exact ok_Jt_chance_103 hf kc ke0
def Bt_chance_25 (x1 : Int32) (x2 : Int32) (x3 : Int32) (τ : TS) : Option ((Int32 × Int32 × TS) ⊕ ((Int32 × TS))) :=
  if x1 ≤ x3 then
  some (.inr (x2, τ))
  else
  xbd (f_t_drawOf 100 τ) fun r4 τ4 =>
  if (tI τ4 54) ≤ r4 then
  Jt_chance_106 x1 x2 x3 τ4
  else
  xbd (f_t_columnMany τ4) fun r6 τ6 =>
  xbd (f_t_drawOf r6 τ6) fun r7 τ7 =>
  xbd (f_t_rowOf r7 τ7) fun r8 τ8 =>
  xbd (f_t_drawOf 2 τ8) fun r9 τ9 =>
  if r9 = 0 then
  Jt_chance_72 x1 x2 x3 r7 (-1) r8 τ9
  else
  Jt_chance_72 x1 x2 x3 r7 1 r8 τ9
theorem ok_Bt_chance_25 {D : TD} {m : Nat} {K : xK} {Z : Option Value × TS} {x1 : Int32} {x2 : Int32} {x3 : Int32} {τ : TS} {o_ : ((Int32 × Int32 × TS) ⊕ ((Int32 × TS)))} (hf : Bt_chance_25 x1 x2 x3 τ = some o_) (kc : ∀ s_ : Int32 × Int32 × TS, o_ = .inl s_ → xV (wT D m) K mX6_chance (xQ (wT D m) K Z) s_.2.2 25 [(0, .ref m), (1, .int x1), (2, .int s_.1), (3, .int s_.2.1)] []) (ke0 : ∀ e_ : Int32 × TS, o_ = .inr e_ → xV (wT D m) K mX6_chance (xQ (wT D m) K Z) e_.2 116 [(2, .int e_.1)] []) : xV (wT D m) K mX6_chance (xQ (wT D m) K Z) τ 25 [(0, .ref m), (1, .int x1), (2, .int x2), (3, .int x3)] [] := by
  unfold Bt_chance_25 at hf
  refine xr_iload_n (pc := 25) 3 dX6_chance_25 rfl rfl ?_
  refine xr_iload_n (pc := 26) 1 dX6_chance_26 rfl rfl ?_
  refine xr_icmp_ge (pc := 27) 116 dX6_chance_27 (by decide) (fun c_ => ?_) (fun c_ => ?_)
  · have hf := xo_pos c_ hf
    refine xV_sub [2] rfl ?_
    exact ke0 _ (Option.some.inj hf).symm
  · have hf := xo_neg c_ hf
    refine xr_aload_n (pc := 30) 0 dX6_chance_30 rfl rfl ?_
    refine xr_bipush (pc := 31) dX6_chance_31 xcb_100 ?_
    obtain ⟨r4, τ4, hτ4, hf⟩ := xo_bd hf
    refine call_f_t_drawOf (pc := 33) hτ4 rfl (Nat.le_of_ble_eq_true rfl) (Nat.le_of_ble_eq_true rfl) (Nat.le_of_ble_eq_true rfl) dX6_chance_33 ?_
    refine xr_aload_n (pc := 36) 0 dX6_chance_36 rfl rfl ?_
    refine xt_getI (pc := 37) 54 (by decide) q1800 rfl rfl rfl dX6_chance_37 ?_
    refine xr_icmp_ge (pc := 40) 106 dX6_chance_40 (by decide) (fun c_ => ?_) (fun c_ => ?_)
    · have hf := xo_pos c_ hf
      exact ok_Jt_chance_106 hf kc ke0
    · have hf := xo_neg c_ hf
      refine xr_aload_n (pc := 43) 0 dX6_chance_43 rfl rfl ?_
      refine xr_aload_n (pc := 44) 0 dX6_chance_44 rfl rfl ?_
      obtain ⟨r6, τ6, hτ6, hf⟩ := xo_bd hf
      refine call_f_t_columnMany (pc := 45) hτ6 rfl (Nat.le_of_ble_eq_true rfl) (Nat.le_of_ble_eq_true rfl) (Nat.le_of_ble_eq_true rfl) dX6_chance_45 ?_
      obtain ⟨r7, τ7, hτ7, hf⟩ := xo_bd hf
      refine call_f_t_drawOf (pc := 48) hτ7 rfl (Nat.le_of_ble_eq_true rfl) (Nat.le_of_ble_eq_true rfl) (Nat.le_of_ble_eq_true rfl) dX6_chance_48 ?_
      refine xr_istore (pc := 51) (loc' := [(4, .int r7), (0, .ref m), (1, .int x1), (2, .int x2), (3, .int x3)]) dX6_chance_51 (by decide) rfl ?_
      refine xr_aload_n (pc := 53) 1 dX6_chance_53 rfl rfl ?_
      refine xr_iload (pc := 54) 0 dX6_chance_54 rfl ?_
      obtain ⟨r8, τ8, hτ8, hf⟩ := xo_bd hf
      refine call_f_t_rowOf (pc := 56) hτ8 rfl (Nat.le_of_ble_eq_true rfl) (Nat.le_of_ble_eq_true rfl) (Nat.le_of_ble_eq_true rfl) dX6_chance_56 ?_
      refine xr_aload_n (pc := 59) 1 dX6_chance_59 rfl rfl ?_
      refine xr_iconst (pc := 60) dX6_chance_60 xci_2 ?_
      obtain ⟨r9, τ9, hτ9, hf⟩ := xo_bd hf
      refine call_f_t_drawOf (pc := 61) hτ9 rfl (Nat.le_of_ble_eq_true rfl) (Nat.le_of_ble_eq_true rfl) (Nat.le_of_ble_eq_true rfl) dX6_chance_61 ?_
      refine xr_if_ne (pc := 64) 71 dX6_chance_64 (by decide) (fun c_ => ?_) (fun c_ => ?_)
      · have hf := xo_pos c_ hf
        refine xr_iconst (pc := 67) dX6_chance_67 xci_m1 ?_
        refine xr_goto (pc := 68) 72 dX6_chance_68 (by decide) ?_
        refine xV_sub [1, 2, 3, 4, 0] rfl ?_
        exact ok_Jt_chance_72 hf kc ke0
      · have hf := xo_neg c_ hf
        refine xr_iconst (pc := 71) dX6_chance_71 xci_1 ?_
        refine xV_sub [1, 2, 3, 4, 0] rfl ?_
        exact ok_Jt_chance_72 hf kc ke0
def f_t_chance (x1 : Int32) (τ : TS) : Option (Int32 × TS) :=
  xbd (f_t_isAhead x1 1 100 τ) fun r1 τ1 =>
  if r1 = 0 then
  xbd (f_t_refuses 3 τ1) fun r2 τ2 =>
  some ((r2, τ2))
  else
  (f_t_keeps τ1).bind fun τ3 =>
  (itr (fun s_ : Int32 × Int32 × TS => Bt_chance_25 x1 s_.1 s_.2.1 s_.2.2) 4096 (0, 0, τ3)).bind fun b12 =>
  some ((b12.1, b12.2))
theorem ok_f_t_chance {D : TD} {m : Nat} {K : xK} {Z : Option Value × TS} {x1 : Int32} {τ : TS} {o_ : (Int32 × TS)} (hf : f_t_chance x1 τ = some o_) (kr : ∀ r_ : (Int32 × TS), o_ = r_ → Z = (some (.int r_.1), r_.2)) : xV (wT D m) K mX6_chance (xQ (wT D m) K Z) τ 0 [(0, .ref m), (1, .int x1)] [] := by
  unfold f_t_chance at hf
  refine xr_aload_n (pc := 0) 0 dX6_chance_0 rfl rfl ?_
  refine xr_iload_n (pc := 1) 1 dX6_chance_1 rfl rfl ?_
  refine xr_iconst (pc := 2) dX6_chance_2 xci_1 ?_
  refine xr_bipush (pc := 3) dX6_chance_3 xcb_100 ?_
  obtain ⟨r1, τ1, hτ1, hf⟩ := xo_bd hf
  refine call_f_t_isAhead (pc := 5) hτ1 rfl (Nat.le_of_ble_eq_true rfl) (Nat.le_of_ble_eq_true rfl) (Nat.le_of_ble_eq_true rfl) dX6_chance_5 ?_
  refine xr_if_ne (pc := 8) 17 dX6_chance_8 (by decide) (fun c_ => ?_) (fun c_ => ?_)
  · have hf := xo_pos c_ hf
    refine xr_aload_n (pc := 11) 0 dX6_chance_11 rfl rfl ?_
    refine xr_iconst (pc := 12) dX6_chance_12 xci_3 ?_
    obtain ⟨r2, τ2, hτ2, hf⟩ := xo_bd hf
    refine call_f_t_refuses (pc := 13) hτ2 rfl (Nat.le_of_ble_eq_true rfl) (Nat.le_of_ble_eq_true rfl) (Nat.le_of_ble_eq_true rfl) dX6_chance_13 ?_
    rw [kr _ (Option.some.inj hf).symm]
    exact xr_iret (pc := 16) dX6_chance_16 rfl
  · have hf := xo_neg c_ hf
    refine xr_aload_n (pc := 17) 0 dX6_chance_17 rfl rfl ?_
    obtain ⟨τ3, hτ3, hf⟩ := xo_bind hf
    refine call_f_t_keeps (pc := 18) hτ3 rfl (Nat.le_of_ble_eq_true rfl) (Nat.le_of_ble_eq_true rfl) (Nat.le_of_ble_eq_true rfl) dX6_chance_18 ?_
    refine xr_iconst (pc := 21) dX6_chance_21 xci_0 ?_
    refine xr_istore_n (pc := 22) (loc' := [(2, .int 0), (0, .ref m), (1, .int x1)]) dX6_chance_22 rfl (by decide) rfl ?_
    refine xr_iconst (pc := 23) dX6_chance_23 xci_0 ?_
    refine xr_istore_n (pc := 24) (loc' := [(3, .int 0), (2, .int 0), (0, .ref m), (1, .int x1)]) dX6_chance_24 rfl (by decide) rfl ?_
    refine xV_sub [2, 3, 1, 0] rfl ?_
    obtain ⟨b12, hb12, hf⟩ := xo_bind hf
    refine itr_rule (P := fun s_ : Int32 × Int32 × TS => xV (wT D m) K mX6_chance (xQ (wT D m) K Z) s_.2.2 25 [(0, .ref m), (1, .int x1), (2, .int s_.1), (3, .int s_.2.1)] []) (fun s_ o_ hB_ hc_ he_ => ok_Bt_chance_25 hB_ hc_ (fun e_ h_ => ?_)) 4096 _ hb12
    · have e9_ := he_ _ h_
      rw [e9_]
      refine xr_iload_n (pc := 116) 0 dX6_chance_116 rfl rfl ?_
      rw [kr _ (Option.some.inj hf).symm]
      exact xr_iret (pc := 117) dX6_chance_117 rfl
theorem met_f_t_chance (l : Launch) {D : TD} {m : Nat} {x1 : Int32} {τ : TS} {o_ : (Int32 × TS)} (hf : f_t_chance x1 τ = some o_) : xMet (wT D m) l yX6_chance (ws_ yX6_chance cX6_chance 6 (some .int)) 8 480 0 0 [.ref m, .int x1] τ (some (.int o_.1), o_.2) :=
  xMet_of (by decide) (Nat.le_of_ble_eq_true rfl) KT_moved (fun _ _ => trivial) (fun K _ _ _ => ok_f_t_chance hf (fun _ h => by rw [h]))
abbrev mX6_qKind : xM := (cX6_qKind, 2, RX6, 4, 240, (some .int), "qKind")
def Jt_qKind_76 (s0 : Int32) (τ : TS) : Option (Int32 × TS) :=
  if s0 = 5 then
  (f_t_asks 93 τ).bind fun τ6 =>
  some ((s0, τ6))
  else
  some ((s0, τ))
theorem ok_Jt_qKind_76 {D : TD} {m : Nat} {K : xK} {Z : Option Value × TS} {s0 : Int32} {τ : TS} {o_ : (Int32 × TS)} (hf : Jt_qKind_76 s0 τ = some o_) (kr : ∀ r_ : (Int32 × TS), o_ = r_ → Z = (some (.int r_.1), r_.2)) : xV (wT D m) K mX6_qKind (xQ (wT D m) K Z) τ 76 [(0, .ref m)] [.int s0] := by
  unfold Jt_qKind_76 at hf
  refine xr_istore_n (pc := 76) (loc' := [(1, .int s0), (0, .ref m)]) dX6_qKind_76 rfl (by decide) rfl ?_
  refine xr_iload_n (pc := 77) 0 dX6_qKind_77 rfl rfl ?_
  refine xr_iconst (pc := 78) dX6_qKind_78 xci_5 ?_
  refine xr_icmp_ne (pc := 79) 90 dX6_qKind_79 (by decide) (fun c_ => ?_) (fun c_ => ?_)
  · have hf := xo_pos c_ hf
    refine xr_aload_n (pc := 82) 1 dX6_qKind_82 rfl rfl ?_
    refine xr_aload_n (pc := 83) 1 dX6_qKind_83 rfl rfl ?_
    refine xt_getA (pc := 84) 93 (by decide) q1839 rfl rfl rfl dX6_qKind_84 ?_
    obtain ⟨τ6, hτ6, hf⟩ := xo_bind hf
    refine call_f_t_asks (pc := 87) hτ6 rfl (Nat.le_of_ble_eq_true rfl) (Nat.le_of_ble_eq_true rfl) (Nat.le_of_ble_eq_true rfl) dX6_qKind_87 ?_
    refine xr_iload_n (pc := 90) 0 dX6_qKind_90 rfl rfl ?_
    rw [kr _ (Option.some.inj hf).symm]
    exact xr_iret (pc := 91) dX6_qKind_91 rfl
  · have hf := xo_neg c_ hf
    refine xr_iload_n (pc := 90) 0 dX6_qKind_90 rfl rfl ?_
    rw [kr _ (Option.some.inj hf).symm]
    exact xr_iret (pc := 91) dX6_qKind_91 rfl
def f_t_qKind (τ : TS) : Option (Int32 × TS) :=
  xbd (f_t_takes 88 τ) fun r1 τ1 =>
  if r1 = 0 then
  xbd (f_t_takes 89 τ1) fun r2 τ2 =>
  if r2 = 0 then
  xbd (f_t_takes 90 τ2) fun r3 τ3 =>
  if r3 = 0 then
  xbd (f_t_takes 91 τ3) fun r4 τ4 =>
  if r4 = 0 then
  xbd (f_t_takes 92 τ4) fun r5 τ5 =>
  if r5 = 0 then
  Jt_qKind_76 5 τ5
  else
  Jt_qKind_76 4 τ5
  else
  Jt_qKind_76 3 τ4
  else
  Jt_qKind_76 2 τ3
  else
  Jt_qKind_76 1 τ2
  else
  Jt_qKind_76 0 τ1
theorem ok_f_t_qKind {D : TD} {m : Nat} {K : xK} {Z : Option Value × TS} {τ : TS} {o_ : (Int32 × TS)} (hf : f_t_qKind τ = some o_) (kr : ∀ r_ : (Int32 × TS), o_ = r_ → Z = (some (.int r_.1), r_.2)) : xV (wT D m) K mX6_qKind (xQ (wT D m) K Z) τ 0 [(0, .ref m)] [] := by
  unfold f_t_qKind at hf
  refine xr_aload_n (pc := 0) 0 dX6_qKind_0 rfl rfl ?_
  refine xr_aload_n (pc := 1) 0 dX6_qKind_1 rfl rfl ?_
  refine xt_getA (pc := 2) 88 (by decide) q1834 rfl rfl rfl dX6_qKind_2 ?_
  obtain ⟨r1, τ1, hτ1, hf⟩ := xo_bd hf
  refine call_f_t_takes (pc := 5) hτ1 rfl (Nat.le_of_ble_eq_true rfl) (Nat.le_of_ble_eq_true rfl) (Nat.le_of_ble_eq_true rfl) dX6_qKind_5 ?_
  refine xr_if_eq (pc := 8) 15 dX6_qKind_8 (by decide) (fun c_ => ?_) (fun c_ => ?_)
  · have hf := xo_pos c_ hf
    refine xr_aload_n (pc := 15) 0 dX6_qKind_15 rfl rfl ?_
    refine xr_aload_n (pc := 16) 0 dX6_qKind_16 rfl rfl ?_
    refine xt_getA (pc := 17) 89 (by decide) q1835 rfl rfl rfl dX6_qKind_17 ?_
    obtain ⟨r2, τ2, hτ2, hf⟩ := xo_bd hf
    refine call_f_t_takes (pc := 20) hτ2 rfl (Nat.le_of_ble_eq_true rfl) (Nat.le_of_ble_eq_true rfl) (Nat.le_of_ble_eq_true rfl) dX6_qKind_20 ?_
    refine xr_if_eq (pc := 23) 30 dX6_qKind_23 (by decide) (fun c_ => ?_) (fun c_ => ?_)
    · have hf := xo_pos c_ hf
      refine xr_aload_n (pc := 30) 0 dX6_qKind_30 rfl rfl ?_
      refine xr_aload_n (pc := 31) 0 dX6_qKind_31 rfl rfl ?_
      refine xt_getA (pc := 32) 90 (by decide) q1836 rfl rfl rfl dX6_qKind_32 ?_
      obtain ⟨r3, τ3, hτ3, hf⟩ := xo_bd hf
      refine call_f_t_takes (pc := 35) hτ3 rfl (Nat.le_of_ble_eq_true rfl) (Nat.le_of_ble_eq_true rfl) (Nat.le_of_ble_eq_true rfl) dX6_qKind_35 ?_
      refine xr_if_eq (pc := 38) 45 dX6_qKind_38 (by decide) (fun c_ => ?_) (fun c_ => ?_)
      · have hf := xo_pos c_ hf
        refine xr_aload_n (pc := 45) 0 dX6_qKind_45 rfl rfl ?_
        refine xr_aload_n (pc := 46) 0 dX6_qKind_46 rfl rfl ?_
        refine xt_getA (pc := 47) 91 (by decide) q1837 rfl rfl rfl dX6_qKind_47 ?_
        obtain ⟨r4, τ4, hτ4, hf⟩ := xo_bd hf
        refine call_f_t_takes (pc := 50) hτ4 rfl (Nat.le_of_ble_eq_true rfl) (Nat.le_of_ble_eq_true rfl) (Nat.le_of_ble_eq_true rfl) dX6_qKind_50 ?_
        refine xr_if_eq (pc := 53) 60 dX6_qKind_53 (by decide) (fun c_ => ?_) (fun c_ => ?_)
        · have hf := xo_pos c_ hf
          refine xr_aload_n (pc := 60) 0 dX6_qKind_60 rfl rfl ?_
          refine xr_aload_n (pc := 61) 0 dX6_qKind_61 rfl rfl ?_
          refine xt_getA (pc := 62) 92 (by decide) q1838 rfl rfl rfl dX6_qKind_62 ?_
          obtain ⟨r5, τ5, hτ5, hf⟩ := xo_bd hf
          refine call_f_t_takes (pc := 65) hτ5 rfl (Nat.le_of_ble_eq_true rfl) (Nat.le_of_ble_eq_true rfl) (Nat.le_of_ble_eq_true rfl) dX6_qKind_65 ?_
          refine xr_if_eq (pc := 68) 75 dX6_qKind_68 (by decide) (fun c_ => ?_) (fun c_ => ?_)
          · have hf := xo_pos c_ hf
            refine xr_iconst (pc := 75) dX6_qKind_75 xci_5 ?_
            exact ok_Jt_qKind_76 hf kr
          · have hf := xo_neg c_ hf
            refine xr_iconst (pc := 71) dX6_qKind_71 xci_4 ?_
            refine xr_goto (pc := 72) 76 dX6_qKind_72 (by decide) ?_
            exact ok_Jt_qKind_76 hf kr
        · have hf := xo_neg c_ hf
          refine xr_iconst (pc := 56) dX6_qKind_56 xci_3 ?_
          refine xr_goto (pc := 57) 76 dX6_qKind_57 (by decide) ?_
          exact ok_Jt_qKind_76 hf kr
      · have hf := xo_neg c_ hf
        refine xr_iconst (pc := 41) dX6_qKind_41 xci_2 ?_
        refine xr_goto (pc := 42) 76 dX6_qKind_42 (by decide) ?_
        exact ok_Jt_qKind_76 hf kr
    · have hf := xo_neg c_ hf
      refine xr_iconst (pc := 26) dX6_qKind_26 xci_1 ?_
      refine xr_goto (pc := 27) 76 dX6_qKind_27 (by decide) ?_
      exact ok_Jt_qKind_76 hf kr
  · have hf := xo_neg c_ hf
    refine xr_iconst (pc := 11) dX6_qKind_11 xci_0 ?_
    refine xr_goto (pc := 12) 76 dX6_qKind_12 (by decide) ?_
    exact ok_Jt_qKind_76 hf kr
theorem met_f_t_qKind (l : Launch) {D : TD} {m : Nat} {τ : TS} {o_ : (Int32 × TS)} (hf : f_t_qKind τ = some o_) : xMet (wT D m) l yX6_qKind (ws_ yX6_qKind cX6_qKind 2 (some .int)) 4 240 0 0 [.ref m] τ (some (.int o_.1), o_.2) :=
  xMet_of (by decide) (Nat.le_of_ble_eq_true rfl) KT_moved (fun _ _ => trivial) (fun K _ _ _ => ok_f_t_qKind hf (fun _ h => by rw [h]))
theorem hd_f_t_qKind : yX6_qKind.cls = RX6 ∧ yX6_qKind.cls ≠ "java/lang/invoke/MethodHandle" ∧ yX6_qKind.cls ≠ "java/lang/invoke/VarHandle" ∧ (parseMethodDescriptor yX6_qKind.desc).map (fun d => d.parameters.length) = some 0 := by decide +kernel
theorem call_f_t_qKind {D : TD} {m : Nat} {K : xK} {M : xM} {Q : State → Prop} {τ : TS} {pc : Nat} {loc : List (Nat × Value)} {st : List Value} {r : Int32} {τ1 : TS} (hf : f_t_qKind τ = some (r, τ1)) (ho : M.2.2.1 = RX6) (hfr : 5 ≤ M.2.2.2.1) (hlo : 261 ≤ M.2.2.2.2.1) (hcat : (st.map fun v => v.category).sum ≤ 8) (d : decode M.1 pc = .ok (.invokevirtual 777, 3)) (k : xV (wT D m) K M Q τ1 (pc + 3) loc (.int r :: st)) : xV (wT D m) K M Q τ pc loc (.ref m :: st) :=
  xr_callV (As := []) (rest := st) (met_f_t_qKind K.2.1 hf) (lw_V q2687 q2689 qs163 q186 q2690) hd_f_t_qKind ho hfr hlo rfl (fun H hR hK => t_recv H hR hK) rfl hcat d k
abbrev mX6_qOf : xM := (cX6_qOf, 5, RX6, 4, 240, (some .long), "qOf")
def f_t_qOf (x1 : Int32) (x2 : Int64) (x4 : Int32) (τ : TS) : Option (Int64 × TS) :=
  if x1 = 0 then
  xbd (f_t_isColumn x2 τ) fun r3 τ3 =>
  if r3 = 0 then
  some (((-1), τ3))
  else
  xbd (f_t_rowOf x2.toInt32 τ3) fun r4 τ4 =>
  some ((r4.toInt64, τ4))
  else
  xbd (f_t_isColumn x2 τ) fun r1 τ1 =>
  if r1 = 0 then
  some (((-1), τ1))
  else
  xbd (f_t_turnOf x2.toInt32 τ1) fun r2 τ2 =>
  some ((r2.toInt64, τ2))
theorem ok_f_t_qOf {D : TD} {m : Nat} {K : xK} {Z : Option Value × TS} {x1 : Int32} {x2 : Int64} {x4 : Int32} {τ : TS} {o_ : (Int64 × TS)} (hf : f_t_qOf x1 x2 x4 τ = some o_) (kr : ∀ r_ : (Int64 × TS), o_ = r_ → Z = (some (.long r_.1), r_.2)) : xV (wT D m) K mX6_qOf (xQ (wT D m) K Z) τ 0 [(0, .ref m), (1, .int x1), (2, .long x2), (4, .int x4)] [] := by
  unfold f_t_qOf at hf
  refine xr_iload_n (pc := 0) 1 dX6_qOf_0 rfl rfl ?_
  by_cases c0_ : x1 = 0
  · have hf := xo_pos c0_ hf
    refine xr_lsw (pc := 1) (off := 19) 20 dX6_qOf_1 (by decide) (by rw [c0_]; decide +kernel) (by decide) ?_
    refine xr_aload_n (pc := 20) 0 dX6_qOf_20 rfl rfl ?_
    refine xr_lload_n (pc := 21) 2 dX6_qOf_21 rfl rfl ?_
    obtain ⟨r3, τ3, hτ3, hf⟩ := xo_bd hf
    refine call_f_t_isColumn (pc := 22) hτ3 rfl (Nat.le_of_ble_eq_true rfl) (Nat.le_of_ble_eq_true rfl) (Nat.le_of_ble_eq_true rfl) dX6_qOf_22 ?_
    refine xr_if_eq (pc := 25) 38 dX6_qOf_25 (by decide) (fun c_ => ?_) (fun c_ => ?_)
    · have hf := xo_pos c_ hf
      refine xr_ldc2 (pc := 38) q2550 dX6_qOf_38 ?_
      rw [kr _ (Option.some.inj hf).symm]
      exact xr_lret (pc := 41) dX6_qOf_41 rfl
    · have hf := xo_neg c_ hf
      refine xr_aload_n (pc := 28) 0 dX6_qOf_28 rfl rfl ?_
      refine xr_lload_n (pc := 29) 2 dX6_qOf_29 rfl rfl ?_
      refine xr_l2i (pc := 30) dX6_qOf_30 ?_
      obtain ⟨r4, τ4, hτ4, hf⟩ := xo_bd hf
      refine call_f_t_rowOf (pc := 31) hτ4 rfl (Nat.le_of_ble_eq_true rfl) (Nat.le_of_ble_eq_true rfl) (Nat.le_of_ble_eq_true rfl) dX6_qOf_31 ?_
      refine xr_i2l (pc := 34) dX6_qOf_34 ?_
      refine xr_goto (pc := 35) 41 dX6_qOf_35 (by decide) ?_
      rw [kr _ (Option.some.inj hf).symm]
      exact xr_lret (pc := 41) dX6_qOf_41 rfl
  have hf := xo_neg c0_ hf
  refine xr_lsw (pc := 1) (off := 41) 42 dX6_qOf_1 (by decide) (by show Op.lookupswitch.offset _ _ _ = _; rw [lv_osw (k := 0) c0_ (by decide)]; rfl) (by decide) ?_
  refine xr_aload_n (pc := 42) 0 dX6_qOf_42 rfl rfl ?_
  refine xr_lload_n (pc := 43) 2 dX6_qOf_43 rfl rfl ?_
  obtain ⟨r1, τ1, hτ1, hf⟩ := xo_bd hf
  refine call_f_t_isColumn (pc := 44) hτ1 rfl (Nat.le_of_ble_eq_true rfl) (Nat.le_of_ble_eq_true rfl) (Nat.le_of_ble_eq_true rfl) dX6_qOf_44 ?_
  refine xr_if_eq (pc := 47) 60 dX6_qOf_47 (by decide) (fun c_ => ?_) (fun c_ => ?_)
  · have hf := xo_pos c_ hf
    refine xr_ldc2 (pc := 60) q2550 dX6_qOf_60 ?_
    rw [kr _ (Option.some.inj hf).symm]
    exact xr_lret (pc := 63) dX6_qOf_63 rfl
  · have hf := xo_neg c_ hf
    refine xr_aload_n (pc := 50) 0 dX6_qOf_50 rfl rfl ?_
    refine xr_lload_n (pc := 51) 2 dX6_qOf_51 rfl rfl ?_
    refine xr_l2i (pc := 52) dX6_qOf_52 ?_
    obtain ⟨r2, τ2, hτ2, hf⟩ := xo_bd hf
    refine call_f_t_turnOf (pc := 53) hτ2 rfl (Nat.le_of_ble_eq_true rfl) (Nat.le_of_ble_eq_true rfl) (Nat.le_of_ble_eq_true rfl) dX6_qOf_53 ?_
    refine xr_i2l (pc := 56) dX6_qOf_56 ?_
    refine xr_goto (pc := 57) 63 dX6_qOf_57 (by decide) ?_
    rw [kr _ (Option.some.inj hf).symm]
    exact xr_lret (pc := 63) dX6_qOf_63 rfl
theorem met_f_t_qOf (l : Launch) {D : TD} {m : Nat} {x1 : Int32} {x2 : Int64} {x4 : Int32} {τ : TS} {o_ : (Int64 × TS)} (hf : f_t_qOf x1 x2 x4 τ = some o_) : xMet (wT D m) l yX6_qOf (ws_ yX6_qOf cX6_qOf 5 (some .long)) 4 240 0 0 [.ref m, .int x1, .long x2, .int x4] τ (some (.long o_.1), o_.2) :=
  xMet_of (by decide) (Nat.le_of_ble_eq_true rfl) KT_moved (fun _ _ => trivial) (fun K _ _ _ => ok_f_t_qOf hf (fun _ h => by rw [h]))
theorem hd_f_t_qOf : yX6_qOf.cls = RX6 ∧ yX6_qOf.cls ≠ "java/lang/invoke/MethodHandle" ∧ yX6_qOf.cls ≠ "java/lang/invoke/VarHandle" ∧ (parseMethodDescriptor yX6_qOf.desc).map (fun d => d.parameters.length) = some 3 := by decide +kernel
theorem call_f_t_qOf {D : TD} {m : Nat} {K : xK} {M : xM} {Q : State → Prop} {x1 : Int32} {x2 : Int64} {x4 : Int32} {τ : TS} {pc : Nat} {loc : List (Nat × Value)} {st : List Value} {r : Int64} {τ1 : TS} (hf : f_t_qOf x1 x2 x4 τ = some (r, τ1)) (ho : M.2.2.1 = RX6) (hfr : 5 ≤ M.2.2.2.1) (hlo : 264 ≤ M.2.2.2.2.1) (hcat : (st.map fun v => v.category).sum ≤ 8) (d : decode M.1 pc = .ok (.invokevirtual 767, 3)) (k : xV (wT D m) K M Q τ1 (pc + 3) loc (.long r :: st)) : xV (wT D m) K M Q τ pc loc (.int x4 :: .long x2 :: .int x1 :: .ref m :: st) :=
  xr_callV (As := [.int x1, .long x2, .int x4]) (rest := st) (met_f_t_qOf K.2.1 hf) (lw_V q2695 q2697 qs165 q186 q2698) hd_f_t_qOf ho hfr hlo rfl (fun H hR hK => t_recv H hR hK) rfl hcat d k
abbrev mX6_qTold : xM := (cX6_qTold, 4, RX6, 5, 300, (some .long), "qTold")
def Jt_qTold_162 (x1 : Int32) (x2 : Int32) (τ : TS) : Option ((Int32 × TS) ⊕ ((TS))) :=
  some (.inl (x2 + 1, τ))
theorem ok_Jt_qTold_162 {D : TD} {m : Nat} {K : xK} {Z : Option Value × TS} {x1 : Int32} {x2 : Int32} {τ : TS} {o_ : ((Int32 × TS) ⊕ ((TS)))} (hf : Jt_qTold_162 x1 x2 τ = some o_) (kc : ∀ s_ : Int32 × TS, o_ = .inl s_ → xV (wT D m) K mX6_qTold (xQ (wT D m) K Z) s_.2 7 [(0, .ref m), (1, .int x1), (2, .int s_.1)] []) (ke0 : ∀ e_ : TS, o_ = .inr e_ → xV (wT D m) K mX6_qTold (xQ (wT D m) K Z) e_ 168 [(0, .ref m)] []) : xV (wT D m) K mX6_qTold (xQ (wT D m) K Z) τ 162 [(0, .ref m), (1, .int x1), (2, .int x2)] [] := by
  unfold Jt_qTold_162 at hf
  refine xr_iinc (pc := 162) (loc' := [(2, .int (x2 + 1)), (0, .ref m), (1, .int x1)]) 2 dX6_qTold_162 rfl xci_1 (by decide) rfl ?_
  refine xr_goto (pc := 165) 7 dX6_qTold_165 (by decide) ?_
  refine xV_sub [1, 2, 0] rfl ?_
  exact kc _ (Option.some.inj hf).symm
def Bt_qTold_7 (x1 : Int32) (x2 : Int32) (τ : TS) : Option ((Int32 × TS) ⊕ ((TS))) :=
  if (tI τ 121) ≤ x2 then
  some (.inr τ)
  else
  if xin x2 1700 = true then
  if (tA τ 120 x2.toNatClampNeg) < 1000 then
  if (tA τ 120 x2.toNatClampNeg) < 60 then
  if (tA τ 120 x2.toNatClampNeg) < 40 then
  if (tA τ 120 x2.toNatClampNeg) = 13 then
  (f_t_qPuts 1 τ).bind fun τ1 =>
  Jt_qTold_162 x1 x2 τ1
  else
  if (tA τ 120 x2.toNatClampNeg) = 12 then
  if xin ((tI τ 127) - 1) 1700 = true then
  if xin ((tI τ 127) - 1) 1700 = true then
  Jt_qTold_162 x1 x2 (sM τ 126 ((tI τ 127) - 1).toNatClampNeg (1 - (tM τ 126 ((tI τ 127) - 1).toNatClampNeg)))
  else none
  else none
  else
  (f_t_qJoins (tA τ 120 x2.toNatClampNeg) τ).bind fun τ2 =>
  Jt_qTold_162 x1 x2 τ2
  else
  xbd (f_t_qPartOf ((tA τ 120 x2.toNatClampNeg) - 40) x1 τ) fun r3 τ3 =>
  xbd (f_t_qClip r3 τ3) fun r4 τ4 =>
  (f_t_qPuts r4 τ4).bind fun τ5 =>
  Jt_qTold_162 x1 x2 τ5
  else
  if xin ((tI τ 127) - 1) 1700 = true then
  xbd (f_t_qOf ((tA τ 120 x2.toNatClampNeg) - 60) (tM τ 126 ((tI τ 127) - 1).toNatClampNeg) x1 τ) fun r6 τ6 =>
  xbd (f_t_qClip r6 τ6) fun r7 τ7 =>
  if xin ((tI τ 127) - 1) 1700 = true then
  Jt_qTold_162 x1 x2 (sM τ7 126 ((tI τ 127) - 1).toNatClampNeg r7)
  else none
  else none
  else
  (f_t_qPuts (((tA τ 120 x2.toNatClampNeg) - 1000).toInt64) τ).bind fun τ8 =>
  Jt_qTold_162 x1 x2 τ8
  else none
theorem ok_Bt_qTold_7 {D : TD} {m : Nat} {K : xK} {Z : Option Value × TS} {x1 : Int32} {x2 : Int32} {τ : TS} {o_ : ((Int32 × TS) ⊕ ((TS)))} (hf : Bt_qTold_7 x1 x2 τ = some o_) (kc : ∀ s_ : Int32 × TS, o_ = .inl s_ → xV (wT D m) K mX6_qTold (xQ (wT D m) K Z) s_.2 7 [(0, .ref m), (1, .int x1), (2, .int s_.1)] []) (ke0 : ∀ e_ : TS, o_ = .inr e_ → xV (wT D m) K mX6_qTold (xQ (wT D m) K Z) e_ 168 [(0, .ref m)] []) : xV (wT D m) K mX6_qTold (xQ (wT D m) K Z) τ 7 [(0, .ref m), (1, .int x1), (2, .int x2)] [] := by
  unfold Bt_qTold_7 at hf
  refine xr_iload_n (pc := 7) 2 dX6_qTold_7 rfl rfl ?_
  refine xr_aload_n (pc := 8) 0 dX6_qTold_8 rfl rfl ?_
  refine xt_getI (pc := 9) 121 (by decide) q1867 rfl rfl rfl dX6_qTold_9 ?_
  refine xr_icmp_ge (pc := 12) 168 dX6_qTold_12 (by decide) (fun c_ => ?_) (fun c_ => ?_)
  · have hf := xo_pos c_ hf
    refine xV_sub [0] rfl ?_
    exact ke0 _ (Option.some.inj hf).symm
  · have hf := xo_neg c_ hf
    refine xr_aload_n (pc := 15) 0 dX6_qTold_15 rfl rfl ?_
    refine xt_getA (pc := 16) 120 (by decide) q1866 rfl rfl rfl dX6_qTold_16 ?_
    refine xr_iload_n (pc := 19) 2 dX6_qTold_19 rfl rfl ?_
    obtain ⟨hi_, hf⟩ := xo_if hf
    refine xt_iald (pc := 20) 120 rfl rfl hi_ dX6_qTold_20 ?_
    refine xr_istore_n (pc := 21) (loc' := [(3, .int (tA τ 120 x2.toNatClampNeg)), (0, .ref m), (1, .int x1), (2, .int x2)]) dX6_qTold_21 rfl (by decide) rfl ?_
    refine xr_iload_n (pc := 22) 0 dX6_qTold_22 rfl rfl ?_
    refine xr_sipush (pc := 23) dX6_qTold_23 xcs_1000 ?_
    refine xr_icmp_lt (pc := 26) 42 dX6_qTold_26 (by decide) (fun c_ => ?_) (fun c_ => ?_)
    · have hf := xo_pos c_ hf
      refine xr_iload_n (pc := 42) 0 dX6_qTold_42 rfl rfl ?_
      refine xr_bipush (pc := 43) dX6_qTold_43 xcb_60 ?_
      refine xr_icmp_lt (pc := 45) 85 dX6_qTold_45 (by decide) (fun c_ => ?_) (fun c_ => ?_)
      · have hf := xo_pos c_ hf
        refine xr_iload_n (pc := 85) 0 dX6_qTold_85 rfl rfl ?_
        refine xr_bipush (pc := 86) dX6_qTold_86 xcb_40 ?_
        refine xr_icmp_lt (pc := 88) 110 dX6_qTold_88 (by decide) (fun c_ => ?_) (fun c_ => ?_)
        · have hf := xo_pos c_ hf
          refine xr_iload_n (pc := 110) 0 dX6_qTold_110 rfl rfl ?_
          refine xr_bipush (pc := 111) dX6_qTold_111 xcb_13 ?_
          refine xr_icmp_ne (pc := 113) 124 dX6_qTold_113 (by decide) (fun c_ => ?_) (fun c_ => ?_)
          · have hf := xo_pos c_ hf
            refine xr_aload_n (pc := 116) 1 dX6_qTold_116 rfl rfl ?_
            refine xr_lconst (pc := 117) dX6_qTold_117 (by decide : _ = (1 : Int64)) ?_
            obtain ⟨τ1, hτ1, hf⟩ := xo_bind hf
            refine call_f_t_qPuts (pc := 118) hτ1 rfl (Nat.le_of_ble_eq_true rfl) (Nat.le_of_ble_eq_true rfl) (Nat.le_of_ble_eq_true rfl) dX6_qTold_118 ?_
            refine xr_goto (pc := 121) 162 dX6_qTold_121 (by decide) ?_
            refine xV_sub [1, 2, 3] rfl ?_
            exact ok_Jt_qTold_162 hf kc ke0
          · have hf := xo_neg c_ hf
            refine xr_iload_n (pc := 124) 0 dX6_qTold_124 rfl rfl ?_
            refine xr_bipush (pc := 125) dX6_qTold_125 xcb_12 ?_
            refine xr_icmp_ne (pc := 127) 157 dX6_qTold_127 (by decide) (fun c_ => ?_) (fun c_ => ?_)
            · have hf := xo_pos c_ hf
              refine xr_aload_n (pc := 130) 1 dX6_qTold_130 rfl rfl ?_
              refine xt_getA (pc := 131) 126 (by decide) q1872 rfl rfl rfl dX6_qTold_131 ?_
              refine xr_aload_n (pc := 134) 1 dX6_qTold_134 rfl rfl ?_
              refine xt_getI (pc := 135) 127 (by decide) q1873 rfl rfl rfl dX6_qTold_135 ?_
              refine xr_iconst (pc := 138) dX6_qTold_138 xci_1 ?_
              refine xr_isub (pc := 139) dX6_qTold_139 ?_
              refine xr_lconst (pc := 140) dX6_qTold_140 (by decide : _ = (1 : Int64)) ?_
              refine xr_aload_n (pc := 141) 1 dX6_qTold_141 rfl rfl ?_
              refine xt_getA (pc := 142) 126 (by decide) q1872 rfl rfl rfl dX6_qTold_142 ?_
              refine xr_aload_n (pc := 145) 1 dX6_qTold_145 rfl rfl ?_
              refine xt_getI (pc := 146) 127 (by decide) q1873 rfl rfl rfl dX6_qTold_146 ?_
              refine xr_iconst (pc := 149) dX6_qTold_149 xci_1 ?_
              refine xr_isub (pc := 150) dX6_qTold_150 ?_
              obtain ⟨hi_, hf⟩ := xo_if hf
              refine xt_lald (pc := 151) 126 rfl rfl hi_ dX6_qTold_151 ?_
              refine xr_lsub (pc := 152) dX6_qTold_152 ?_
              obtain ⟨hi_, hf⟩ := xo_if hf
              refine xt_last (pc := 153) 126 rfl rfl hi_ dX6_qTold_153 ?_
              refine xr_goto (pc := 154) 162 dX6_qTold_154 (by decide) ?_
              refine xV_sub [1, 2, 3] rfl ?_
              exact ok_Jt_qTold_162 hf kc ke0
            · have hf := xo_neg c_ hf
              refine xr_aload_n (pc := 157) 1 dX6_qTold_157 rfl rfl ?_
              refine xr_iload_n (pc := 158) 0 dX6_qTold_158 rfl rfl ?_
              obtain ⟨τ2, hτ2, hf⟩ := xo_bind hf
              refine call_f_t_qJoins (pc := 159) hτ2 rfl (Nat.le_of_ble_eq_true rfl) (Nat.le_of_ble_eq_true rfl) (Nat.le_of_ble_eq_true rfl) dX6_qTold_159 ?_
              refine xV_sub [1, 2, 3] rfl ?_
              exact ok_Jt_qTold_162 hf kc ke0
        · have hf := xo_neg c_ hf
          refine xr_aload_n (pc := 91) 1 dX6_qTold_91 rfl rfl ?_
          refine xr_aload_n (pc := 92) 1 dX6_qTold_92 rfl rfl ?_
          refine xr_iload_n (pc := 93) 0 dX6_qTold_93 rfl rfl ?_
          refine xr_bipush (pc := 94) dX6_qTold_94 xcb_40 ?_
          refine xr_isub (pc := 96) dX6_qTold_96 ?_
          refine xr_iload_n (pc := 97) 2 dX6_qTold_97 rfl rfl ?_
          obtain ⟨r3, τ3, hτ3, hf⟩ := xo_bd hf
          refine call_f_t_qPartOf (pc := 98) hτ3 rfl (Nat.le_of_ble_eq_true rfl) (Nat.le_of_ble_eq_true rfl) (Nat.le_of_ble_eq_true rfl) dX6_qTold_98 ?_
          obtain ⟨r4, τ4, hτ4, hf⟩ := xo_bd hf
          refine call_f_t_qClip (pc := 101) hτ4 rfl (Nat.le_of_ble_eq_true rfl) (Nat.le_of_ble_eq_true rfl) (Nat.le_of_ble_eq_true rfl) dX6_qTold_101 ?_
          obtain ⟨τ5, hτ5, hf⟩ := xo_bind hf
          refine call_f_t_qPuts (pc := 104) hτ5 rfl (Nat.le_of_ble_eq_true rfl) (Nat.le_of_ble_eq_true rfl) (Nat.le_of_ble_eq_true rfl) dX6_qTold_104 ?_
          refine xr_goto (pc := 107) 162 dX6_qTold_107 (by decide) ?_
          refine xV_sub [1, 2, 3] rfl ?_
          exact ok_Jt_qTold_162 hf kc ke0
      · have hf := xo_neg c_ hf
        refine xr_aload_n (pc := 48) 1 dX6_qTold_48 rfl rfl ?_
        refine xt_getA (pc := 49) 126 (by decide) q1872 rfl rfl rfl dX6_qTold_49 ?_
        refine xr_aload_n (pc := 52) 1 dX6_qTold_52 rfl rfl ?_
        refine xt_getI (pc := 53) 127 (by decide) q1873 rfl rfl rfl dX6_qTold_53 ?_
        refine xr_iconst (pc := 56) dX6_qTold_56 xci_1 ?_
        refine xr_isub (pc := 57) dX6_qTold_57 ?_
        refine xr_aload_n (pc := 58) 1 dX6_qTold_58 rfl rfl ?_
        refine xr_iload_n (pc := 59) 0 dX6_qTold_59 rfl rfl ?_
        refine xr_bipush (pc := 60) dX6_qTold_60 xcb_60 ?_
        refine xr_isub (pc := 62) dX6_qTold_62 ?_
        refine xr_aload_n (pc := 63) 1 dX6_qTold_63 rfl rfl ?_
        refine xt_getA (pc := 64) 126 (by decide) q1872 rfl rfl rfl dX6_qTold_64 ?_
        refine xr_aload_n (pc := 67) 1 dX6_qTold_67 rfl rfl ?_
        refine xt_getI (pc := 68) 127 (by decide) q1873 rfl rfl rfl dX6_qTold_68 ?_
        refine xr_iconst (pc := 71) dX6_qTold_71 xci_1 ?_
        refine xr_isub (pc := 72) dX6_qTold_72 ?_
        obtain ⟨hi_, hf⟩ := xo_if hf
        refine xt_lald (pc := 73) 126 rfl rfl hi_ dX6_qTold_73 ?_
        refine xr_iload_n (pc := 74) 2 dX6_qTold_74 rfl rfl ?_
        obtain ⟨r6, τ6, hτ6, hf⟩ := xo_bd hf
        refine call_f_t_qOf (pc := 75) hτ6 rfl (Nat.le_of_ble_eq_true rfl) (Nat.le_of_ble_eq_true rfl) (Nat.le_of_ble_eq_true rfl) dX6_qTold_75 ?_
        obtain ⟨r7, τ7, hτ7, hf⟩ := xo_bd hf
        refine call_f_t_qClip (pc := 78) hτ7 rfl (Nat.le_of_ble_eq_true rfl) (Nat.le_of_ble_eq_true rfl) (Nat.le_of_ble_eq_true rfl) dX6_qTold_78 ?_
        obtain ⟨hi_, hf⟩ := xo_if hf
        refine xt_last (pc := 81) 126 rfl rfl hi_ dX6_qTold_81 ?_
        refine xr_goto (pc := 82) 162 dX6_qTold_82 (by decide) ?_
        refine xV_sub [1, 2, 3] rfl ?_
        exact ok_Jt_qTold_162 hf kc ke0
    · have hf := xo_neg c_ hf
      refine xr_aload_n (pc := 29) 1 dX6_qTold_29 rfl rfl ?_
      refine xr_iload_n (pc := 30) 0 dX6_qTold_30 rfl rfl ?_
      refine xr_sipush (pc := 31) dX6_qTold_31 xcs_1000 ?_
      refine xr_isub (pc := 34) dX6_qTold_34 ?_
      refine xr_i2l (pc := 35) dX6_qTold_35 ?_
      obtain ⟨τ8, hτ8, hf⟩ := xo_bind hf
      refine call_f_t_qPuts (pc := 36) hτ8 rfl (Nat.le_of_ble_eq_true rfl) (Nat.le_of_ble_eq_true rfl) (Nat.le_of_ble_eq_true rfl) dX6_qTold_36 ?_
      refine xr_goto (pc := 39) 162 dX6_qTold_39 (by decide) ?_
      refine xV_sub [1, 2, 3] rfl ?_
      exact ok_Jt_qTold_162 hf kc ke0
def f_t_qTold (x1 : Int32) (τ : TS) : Option (Int64 × TS) :=
  (itr (fun s_ : Int32 × TS => Bt_qTold_7 x1 s_.1 s_.2) 4096 (0, sI τ 127 0)).bind fun b9 =>
  if xin 0 1700 = true then
  some ((tM b9 126 (0 : Int32).toNatClampNeg, b9))
  else none
theorem ok_f_t_qTold {D : TD} {m : Nat} {K : xK} {Z : Option Value × TS} {x1 : Int32} {τ : TS} {o_ : (Int64 × TS)} (hf : f_t_qTold x1 τ = some o_) (kr : ∀ r_ : (Int64 × TS), o_ = r_ → Z = (some (.long r_.1), r_.2)) : xV (wT D m) K mX6_qTold (xQ (wT D m) K Z) τ 0 [(0, .ref m), (1, .int x1)] [] := by
  unfold f_t_qTold at hf
  refine xr_aload_n (pc := 0) 0 dX6_qTold_0 rfl rfl ?_
  refine xr_iconst (pc := 1) dX6_qTold_1 xci_0 ?_
  refine xt_putI (pc := 2) 127 (by decide) q1873 rfl rfl rfl (by decide +kernel) rfl dX6_qTold_2 ?_
  refine xr_iconst (pc := 5) dX6_qTold_5 xci_0 ?_
  refine xr_istore_n (pc := 6) (loc' := [(2, .int 0), (0, .ref m), (1, .int x1)]) dX6_qTold_6 rfl (by decide) rfl ?_
  refine xV_sub [1, 2, 0] rfl ?_
  obtain ⟨b9, hb9, hf⟩ := xo_bind hf
  refine itr_rule (P := fun s_ : Int32 × TS => xV (wT D m) K mX6_qTold (xQ (wT D m) K Z) s_.2 7 [(0, .ref m), (1, .int x1), (2, .int s_.1)] []) (fun s_ o_ hB_ hc_ he_ => ok_Bt_qTold_7 hB_ hc_ (fun e_ h_ => ?_)) 4096 _ hb9
  · have e9_ := he_ _ h_
    rw [e9_]
    refine xr_aload_n (pc := 168) 0 dX6_qTold_168 rfl rfl ?_
    refine xt_getA (pc := 169) 126 (by decide) q1872 rfl rfl rfl dX6_qTold_169 ?_
    refine xr_iconst (pc := 172) dX6_qTold_172 xci_0 ?_
    obtain ⟨hi_, hf⟩ := xo_if hf
    refine xt_lald (pc := 173) 126 rfl rfl hi_ dX6_qTold_173 ?_
    rw [kr _ (Option.some.inj hf).symm]
    exact xr_lret (pc := 174) dX6_qTold_174 rfl
theorem met_f_t_qTold (l : Launch) {D : TD} {m : Nat} {x1 : Int32} {τ : TS} {o_ : (Int64 × TS)} (hf : f_t_qTold x1 τ = some o_) : xMet (wT D m) l yX6_qTold (ws_ yX6_qTold cX6_qTold 4 (some .long)) 5 300 0 0 [.ref m, .int x1] τ (some (.long o_.1), o_.2) :=
  xMet_of (by decide) (Nat.le_of_ble_eq_true rfl) KT_moved (fun _ _ => trivial) (fun K _ _ _ => ok_f_t_qTold hf (fun _ h => by rw [h]))
theorem hd_f_t_qTold : yX6_qTold.cls = RX6 ∧ yX6_qTold.cls ≠ "java/lang/invoke/MethodHandle" ∧ yX6_qTold.cls ≠ "java/lang/invoke/VarHandle" ∧ (parseMethodDescriptor yX6_qTold.desc).map (fun d => d.parameters.length) = some 1 := by decide +kernel
theorem call_f_t_qTold {D : TD} {m : Nat} {K : xK} {M : xM} {Q : State → Prop} {x1 : Int32} {τ : TS} {pc : Nat} {loc : List (Nat × Value)} {st : List Value} {r : Int64} {τ1 : TS} (hf : f_t_qTold x1 τ = some (r, τ1)) (ho : M.2.2.1 = RX6) (hfr : 6 ≤ M.2.2.2.1) (hlo : 323 ≤ M.2.2.2.2.1) (hcat : (st.map fun v => v.category).sum ≤ 8) (d : decode M.1 pc = .ok (.invokevirtual 780, 3)) (k : xV (wT D m) K M Q τ1 (pc + 3) loc (.long r :: st)) : xV (wT D m) K M Q τ pc loc (.int x1 :: .ref m :: st) :=
  xr_callV (As := [.int x1]) (rest := st) (met_f_t_qTold K.2.1 hf) (lw_V q2691 q2693 qs164 q186 q2694) hd_f_t_qTold ho hfr hlo rfl (fun H hR hK => t_recv H hR hK) rfl hcat d k
abbrev mX6_qTakes : xM := (cX6_qTakes, 6, RX6, 0, 0, none, "qTakes")
def Jt_qTakes_133 (τ : TS) : Option TS :=
  some (sI τ 129 0)
theorem ok_Jt_qTakes_133 {D : TD} {m : Nat} {K : xK} {Z : Option Value × TS} {τ : TS} {o_ : TS} (hf : Jt_qTakes_133 τ = some o_) (kr : ∀ r_ : TS, o_ = r_ → Z = (none, r_)) : xV (wT D m) K mX6_qTakes (xQ (wT D m) K Z) τ 133 [(0, .ref m)] [] := by
  unfold Jt_qTakes_133 at hf
  refine xr_aload_n (pc := 133) 0 dX6_qTakes_133 rfl rfl ?_
  refine xr_iconst (pc := 134) dX6_qTakes_134 xci_0 ?_
  refine xt_putZ (pc := 135) 129 (by decide) q1875 rfl rfl rfl (by decide +kernel) (by decide) (by decide) rfl dX6_qTakes_135 ?_
  rw [kr _ (Option.some.inj hf).symm]
  exact xr_vret (pc := 138) dX6_qTakes_138 rfl
def Jt_qTakes_128 (x2 : Int64) (τ : TS) : Option TS :=
  Jt_qTakes_133 (sL τ 128 x2)
theorem ok_Jt_qTakes_128 {D : TD} {m : Nat} {K : xK} {Z : Option Value × TS} {x2 : Int64} {τ : TS} {o_ : TS} (hf : Jt_qTakes_128 x2 τ = some o_) (kr : ∀ r_ : TS, o_ = r_ → Z = (none, r_)) : xV (wT D m) K mX6_qTakes (xQ (wT D m) K Z) τ 128 [(0, .ref m), (2, .long x2)] [] := by
  unfold Jt_qTakes_128 at hf
  refine xr_aload_n (pc := 128) 0 dX6_qTakes_128 rfl rfl ?_
  refine xr_lload_n (pc := 129) 1 dX6_qTakes_129 rfl rfl ?_
  refine xt_putL (pc := 130) 128 (by decide) q1874 rfl rfl rfl (by decide +kernel) rfl dX6_qTakes_130 ?_
  refine xV_sub [0] rfl ?_
  exact ok_Jt_qTakes_133 hf kr
def Jt_qTakes_90 (x1 : Int32) (x2 : Int64) (τ : TS) : Option TS :=
  if x1 ≤ 3 then
  Jt_qTakes_133 τ
  else
  if (tI τ 129) = 0 then
  if x1 = 4 then
  if (lg_cmp x2 (tL τ 128)) ≤ 0 then
  Jt_qTakes_133 τ
  else
  Jt_qTakes_128 x2 τ
  else
  if 0 ≤ (lg_cmp x2 (tL τ 128)) then
  Jt_qTakes_133 τ
  else
  Jt_qTakes_128 x2 τ
  else
  Jt_qTakes_128 x2 τ
theorem ok_Jt_qTakes_90 {D : TD} {m : Nat} {K : xK} {Z : Option Value × TS} {x1 : Int32} {x2 : Int64} {τ : TS} {o_ : TS} (hf : Jt_qTakes_90 x1 x2 τ = some o_) (kr : ∀ r_ : TS, o_ = r_ → Z = (none, r_)) : xV (wT D m) K mX6_qTakes (xQ (wT D m) K Z) τ 90 [(0, .ref m), (1, .int x1), (2, .long x2)] [] := by
  unfold Jt_qTakes_90 at hf
  refine xr_iload_n (pc := 90) 1 dX6_qTakes_90 rfl rfl ?_
  refine xr_iconst (pc := 91) dX6_qTakes_91 xci_3 ?_
  refine xr_icmp_le (pc := 92) 133 dX6_qTakes_92 (by decide) (fun c_ => ?_) (fun c_ => ?_)
  · have hf := xo_pos c_ hf
    refine xV_sub [0] rfl ?_
    exact ok_Jt_qTakes_133 hf kr
  · have hf := xo_neg c_ hf
    refine xr_aload_n (pc := 95) 0 dX6_qTakes_95 rfl rfl ?_
    refine xt_getI (pc := 96) 129 (by decide) q1875 rfl rfl rfl dX6_qTakes_96 ?_
    refine xr_if_ne (pc := 99) 128 dX6_qTakes_99 (by decide) (fun c_ => ?_) (fun c_ => ?_)
    · have hf := xo_pos c_ hf
      refine xr_iload_n (pc := 102) 1 dX6_qTakes_102 rfl rfl ?_
      refine xr_iconst (pc := 103) dX6_qTakes_103 xci_4 ?_
      refine xr_icmp_ne (pc := 104) 119 dX6_qTakes_104 (by decide) (fun c_ => ?_) (fun c_ => ?_)
      · have hf := xo_pos c_ hf
        refine xr_lload_n (pc := 107) 2 dX6_qTakes_107 rfl rfl ?_
        refine xr_aload_n (pc := 108) 0 dX6_qTakes_108 rfl rfl ?_
        refine xt_getL (pc := 109) 128 (by decide) q1874 rfl rfl rfl dX6_qTakes_109 ?_
        refine xr_lcmp (pc := 112) dX6_qTakes_112 ?_
        refine xr_if_le (pc := 113) 133 dX6_qTakes_113 (by decide) (fun c_ => ?_) (fun c_ => ?_)
        · have hf := xo_pos c_ hf
          refine xV_sub [0] rfl ?_
          exact ok_Jt_qTakes_133 hf kr
        · have hf := xo_neg c_ hf
          refine xr_goto (pc := 116) 128 dX6_qTakes_116 (by decide) ?_
          refine xV_sub [0, 2] rfl ?_
          exact ok_Jt_qTakes_128 hf kr
      · have hf := xo_neg c_ hf
        refine xr_lload_n (pc := 119) 2 dX6_qTakes_119 rfl rfl ?_
        refine xr_aload_n (pc := 120) 0 dX6_qTakes_120 rfl rfl ?_
        refine xt_getL (pc := 121) 128 (by decide) q1874 rfl rfl rfl dX6_qTakes_121 ?_
        refine xr_lcmp (pc := 124) dX6_qTakes_124 ?_
        refine xr_if_ge (pc := 125) 133 dX6_qTakes_125 (by decide) (fun c_ => ?_) (fun c_ => ?_)
        · have hf := xo_pos c_ hf
          refine xV_sub [0] rfl ?_
          exact ok_Jt_qTakes_133 hf kr
        · have hf := xo_neg c_ hf
          refine xV_sub [0, 2] rfl ?_
          exact ok_Jt_qTakes_128 hf kr
    · have hf := xo_neg c_ hf
      refine xV_sub [0, 2] rfl ?_
      exact ok_Jt_qTakes_128 hf kr
def Jt_qTakes_75 (x1 : Int32) (x2 : Int64) (τ : TS) : Option TS :=
  if x1 = 3 then
  Jt_qTakes_90 x1 x2 (sL τ 128 ((tL τ 128) + x2))
  else
  Jt_qTakes_90 x1 x2 τ
theorem ok_Jt_qTakes_75 {D : TD} {m : Nat} {K : xK} {Z : Option Value × TS} {x1 : Int32} {x2 : Int64} {τ : TS} {o_ : TS} (hf : Jt_qTakes_75 x1 x2 τ = some o_) (kr : ∀ r_ : TS, o_ = r_ → Z = (none, r_)) : xV (wT D m) K mX6_qTakes (xQ (wT D m) K Z) τ 75 [(0, .ref m), (1, .int x1), (2, .long x2)] [] := by
  unfold Jt_qTakes_75 at hf
  refine xr_iload_n (pc := 75) 1 dX6_qTakes_75 rfl rfl ?_
  refine xr_iconst (pc := 76) dX6_qTakes_76 xci_3 ?_
  refine xr_icmp_ne (pc := 77) 90 dX6_qTakes_77 (by decide) (fun c_ => ?_) (fun c_ => ?_)
  · have hf := xo_pos c_ hf
    refine xr_aload_n (pc := 80) 0 dX6_qTakes_80 rfl rfl ?_
    refine xr_dup (pc := 81) dX6_qTakes_81 rfl ?_
    refine xt_getL (pc := 82) 128 (by decide) q1874 rfl rfl rfl dX6_qTakes_82 ?_
    refine xr_lload_n (pc := 85) 2 dX6_qTakes_85 rfl rfl ?_
    refine xr_ladd (pc := 86) dX6_qTakes_86 ?_
    refine xt_putL (pc := 87) 128 (by decide) q1874 rfl rfl rfl (by decide +kernel) rfl dX6_qTakes_87 ?_
    exact ok_Jt_qTakes_90 hf kr
  · have hf := xo_neg c_ hf
    exact ok_Jt_qTakes_90 hf kr
def Jt_qTakes_55 (x1 : Int32) (x2 : Int64) (x5 : Int32) (τ : TS) : Option TS :=
  if x1 = 2 then
  if x5 = 0 then
  Jt_qTakes_75 x1 x2 τ
  else
  Jt_qTakes_75 x1 x2 (sL τ 128 ((tL τ 128) + 1))
  else
  Jt_qTakes_75 x1 x2 τ
theorem ok_Jt_qTakes_55 {D : TD} {m : Nat} {K : xK} {Z : Option Value × TS} {x1 : Int32} {x2 : Int64} {x5 : Int32} {τ : TS} {o_ : TS} (hf : Jt_qTakes_55 x1 x2 x5 τ = some o_) (kr : ∀ r_ : TS, o_ = r_ → Z = (none, r_)) : xV (wT D m) K mX6_qTakes (xQ (wT D m) K Z) τ 55 [(0, .ref m), (1, .int x1), (2, .long x2), (5, .int x5)] [] := by
  unfold Jt_qTakes_55 at hf
  refine xr_iload_n (pc := 55) 1 dX6_qTakes_55 rfl rfl ?_
  refine xr_iconst (pc := 56) dX6_qTakes_56 xci_2 ?_
  refine xr_icmp_ne (pc := 57) 75 dX6_qTakes_57 (by decide) (fun c_ => ?_) (fun c_ => ?_)
  · have hf := xo_pos c_ hf
    refine xr_iload (pc := 60) 3 dX6_qTakes_60 rfl ?_
    refine xr_if_eq (pc := 62) 75 dX6_qTakes_62 (by decide) (fun c_ => ?_) (fun c_ => ?_)
    · have hf := xo_pos c_ hf
      refine xV_sub [0, 1, 2] rfl ?_
      exact ok_Jt_qTakes_75 hf kr
    · have hf := xo_neg c_ hf
      refine xr_aload_n (pc := 65) 0 dX6_qTakes_65 rfl rfl ?_
      refine xr_dup (pc := 66) dX6_qTakes_66 rfl ?_
      refine xt_getL (pc := 67) 128 (by decide) q1874 rfl rfl rfl dX6_qTakes_67 ?_
      refine xr_lconst (pc := 70) dX6_qTakes_70 (by decide : _ = (1 : Int64)) ?_
      refine xr_ladd (pc := 71) dX6_qTakes_71 ?_
      refine xt_putL (pc := 72) 128 (by decide) q1874 rfl rfl rfl (by decide +kernel) rfl dX6_qTakes_72 ?_
      refine xV_sub [0, 1, 2] rfl ?_
      exact ok_Jt_qTakes_75 hf kr
  · have hf := xo_neg c_ hf
    refine xV_sub [0, 1, 2] rfl ?_
    exact ok_Jt_qTakes_75 hf kr
def Jt_qTakes_48 (x1 : Int32) (x2 : Int64) (x4 : Int32) (x5 : Int32) (τ : TS) : Option TS :=
  Jt_qTakes_55 x1 x2 x5 (sL τ 128 x4.toInt64)
theorem ok_Jt_qTakes_48 {D : TD} {m : Nat} {K : xK} {Z : Option Value × TS} {x1 : Int32} {x2 : Int64} {x4 : Int32} {x5 : Int32} {τ : TS} {o_ : TS} (hf : Jt_qTakes_48 x1 x2 x4 x5 τ = some o_) (kr : ∀ r_ : TS, o_ = r_ → Z = (none, r_)) : xV (wT D m) K mX6_qTakes (xQ (wT D m) K Z) τ 48 [(0, .ref m), (1, .int x1), (2, .long x2), (4, .int x4), (5, .int x5)] [] := by
  unfold Jt_qTakes_48 at hf
  refine xr_aload_n (pc := 48) 0 dX6_qTakes_48 rfl rfl ?_
  refine xr_iload (pc := 49) 3 dX6_qTakes_49 rfl ?_
  refine xr_i2l (pc := 51) dX6_qTakes_51 ?_
  refine xt_putL (pc := 52) 128 (by decide) q1874 rfl rfl rfl (by decide +kernel) rfl dX6_qTakes_52 ?_
  refine xV_sub [0, 1, 2, 4] rfl ?_
  exact ok_Jt_qTakes_55 hf kr
def Jt_qTakes_38 (x1 : Int32) (x2 : Int64) (x4 : Int32) (x5 : Int32) (τ : TS) : Option TS :=
  if x1 = 1 then
  if x5 = 0 then
  Jt_qTakes_55 x1 x2 x5 τ
  else
  Jt_qTakes_48 x1 x2 x4 x5 τ
  else
  Jt_qTakes_55 x1 x2 x5 τ
theorem ok_Jt_qTakes_38 {D : TD} {m : Nat} {K : xK} {Z : Option Value × TS} {x1 : Int32} {x2 : Int64} {x4 : Int32} {x5 : Int32} {τ : TS} {o_ : TS} (hf : Jt_qTakes_38 x1 x2 x4 x5 τ = some o_) (kr : ∀ r_ : TS, o_ = r_ → Z = (none, r_)) : xV (wT D m) K mX6_qTakes (xQ (wT D m) K Z) τ 38 [(0, .ref m), (1, .int x1), (2, .long x2), (4, .int x4), (5, .int x5)] [] := by
  unfold Jt_qTakes_38 at hf
  refine xr_iload_n (pc := 38) 1 dX6_qTakes_38 rfl rfl ?_
  refine xr_iconst (pc := 39) dX6_qTakes_39 xci_1 ?_
  refine xr_icmp_ne (pc := 40) 55 dX6_qTakes_40 (by decide) (fun c_ => ?_) (fun c_ => ?_)
  · have hf := xo_pos c_ hf
    refine xr_iload (pc := 43) 4 dX6_qTakes_43 rfl ?_
    refine xr_if_eq (pc := 45) 55 dX6_qTakes_45 (by decide) (fun c_ => ?_) (fun c_ => ?_)
    · have hf := xo_pos c_ hf
      refine xV_sub [0, 1, 2, 4] rfl ?_
      exact ok_Jt_qTakes_55 hf kr
    · have hf := xo_neg c_ hf
      exact ok_Jt_qTakes_48 hf kr
  · have hf := xo_neg c_ hf
    refine xV_sub [0, 1, 2, 4] rfl ?_
    exact ok_Jt_qTakes_55 hf kr
def Jt_qTakes_16 (x1 : Int32) (x2 : Int64) (x4 : Int32) (s0 : Int32) (τ : TS) : Option TS :=
  if x1 = 0 then
  if s0 = 0 then
  Jt_qTakes_38 x1 x2 x4 s0 τ
  else
  if (lg_cmp (tL τ 128) (-1)) = 0 then
  Jt_qTakes_48 x1 x2 x4 s0 τ
  else
  Jt_qTakes_38 x1 x2 x4 s0 τ
  else
  Jt_qTakes_38 x1 x2 x4 s0 τ
theorem ok_Jt_qTakes_16 {D : TD} {m : Nat} {K : xK} {Z : Option Value × TS} {x1 : Int32} {x2 : Int64} {x4 : Int32} {s0 : Int32} {τ : TS} {o_ : TS} (hf : Jt_qTakes_16 x1 x2 x4 s0 τ = some o_) (kr : ∀ r_ : TS, o_ = r_ → Z = (none, r_)) : xV (wT D m) K mX6_qTakes (xQ (wT D m) K Z) τ 16 [(0, .ref m), (1, .int x1), (2, .long x2), (4, .int x4)] [.int s0] := by
  unfold Jt_qTakes_16 at hf
  refine xr_istore (pc := 16) (loc' := [(5, .int s0), (0, .ref m), (1, .int x1), (2, .long x2), (4, .int x4)]) dX6_qTakes_16 (by decide) rfl ?_
  refine xr_iload_n (pc := 18) 2 dX6_qTakes_18 rfl rfl ?_
  refine xr_if_ne (pc := 19) 38 dX6_qTakes_19 (by decide) (fun c_ => ?_) (fun c_ => ?_)
  · have hf := xo_pos c_ hf
    refine xr_iload (pc := 22) 0 dX6_qTakes_22 rfl ?_
    refine xr_if_eq (pc := 24) 38 dX6_qTakes_24 (by decide) (fun c_ => ?_) (fun c_ => ?_)
    · have hf := xo_pos c_ hf
      refine xV_sub [1, 2, 3, 4, 0] rfl ?_
      exact ok_Jt_qTakes_38 hf kr
    · have hf := xo_neg c_ hf
      refine xr_aload_n (pc := 27) 1 dX6_qTakes_27 rfl rfl ?_
      refine xt_getL (pc := 28) 128 (by decide) q1874 rfl rfl rfl dX6_qTakes_28 ?_
      refine xr_ldc2 (pc := 31) q2550 dX6_qTakes_31 ?_
      refine xr_lcmp (pc := 34) dX6_qTakes_34 ?_
      refine xr_if_eq (pc := 35) 48 dX6_qTakes_35 (by decide) (fun c_ => ?_) (fun c_ => ?_)
      · have hf := xo_pos c_ hf
        refine xV_sub [1, 2, 3, 4, 0] rfl ?_
        exact ok_Jt_qTakes_48 hf kr
      · have hf := xo_neg c_ hf
        refine xV_sub [1, 2, 3, 4, 0] rfl ?_
        exact ok_Jt_qTakes_38 hf kr
  · have hf := xo_neg c_ hf
    refine xV_sub [1, 2, 3, 4, 0] rfl ?_
    exact ok_Jt_qTakes_38 hf kr
def Jt_qTakes_15 (x1 : Int32) (x2 : Int64) (x4 : Int32) (τ : TS) : Option TS :=
  Jt_qTakes_16 x1 x2 x4 0 τ
theorem ok_Jt_qTakes_15 {D : TD} {m : Nat} {K : xK} {Z : Option Value × TS} {x1 : Int32} {x2 : Int64} {x4 : Int32} {τ : TS} {o_ : TS} (hf : Jt_qTakes_15 x1 x2 x4 τ = some o_) (kr : ∀ r_ : TS, o_ = r_ → Z = (none, r_)) : xV (wT D m) K mX6_qTakes (xQ (wT D m) K Z) τ 15 [(0, .ref m), (1, .int x1), (2, .long x2), (4, .int x4)] [] := by
  unfold Jt_qTakes_15 at hf
  refine xr_iconst (pc := 15) dX6_qTakes_15 xci_0 ?_
  exact ok_Jt_qTakes_16 hf kr
def f_t_qTakes (x1 : Int32) (x2 : Int64) (x4 : Int32) (τ : TS) : Option TS :=
  if 3 ≤ x1 then
  Jt_qTakes_15 x1 x2 x4 τ
  else
  if (lg_cmp x2 1) = 0 then
  Jt_qTakes_16 x1 x2 x4 1 τ
  else
  Jt_qTakes_15 x1 x2 x4 τ
theorem ok_f_t_qTakes {D : TD} {m : Nat} {K : xK} {Z : Option Value × TS} {x1 : Int32} {x2 : Int64} {x4 : Int32} {τ : TS} {o_ : TS} (hf : f_t_qTakes x1 x2 x4 τ = some o_) (kr : ∀ r_ : TS, o_ = r_ → Z = (none, r_)) : xV (wT D m) K mX6_qTakes (xQ (wT D m) K Z) τ 0 [(0, .ref m), (1, .int x1), (2, .long x2), (4, .int x4)] [] := by
  unfold f_t_qTakes at hf
  refine xr_iload_n (pc := 0) 1 dX6_qTakes_0 rfl rfl ?_
  refine xr_iconst (pc := 1) dX6_qTakes_1 xci_3 ?_
  refine xr_icmp_ge (pc := 2) 15 dX6_qTakes_2 (by decide) (fun c_ => ?_) (fun c_ => ?_)
  · have hf := xo_pos c_ hf
    exact ok_Jt_qTakes_15 hf kr
  · have hf := xo_neg c_ hf
    refine xr_lload_n (pc := 5) 2 dX6_qTakes_5 rfl rfl ?_
    refine xr_lconst (pc := 6) dX6_qTakes_6 (by decide : _ = (1 : Int64)) ?_
    refine xr_lcmp (pc := 7) dX6_qTakes_7 ?_
    refine xr_if_ne (pc := 8) 15 dX6_qTakes_8 (by decide) (fun c_ => ?_) (fun c_ => ?_)
    · have hf := xo_pos c_ hf
      refine xr_iconst (pc := 11) dX6_qTakes_11 xci_1 ?_
      refine xr_goto (pc := 12) 16 dX6_qTakes_12 (by decide) ?_
      exact ok_Jt_qTakes_16 hf kr
    · have hf := xo_neg c_ hf
      exact ok_Jt_qTakes_15 hf kr
theorem met_f_t_qTakes (l : Launch) {D : TD} {m : Nat} {x1 : Int32} {x2 : Int64} {x4 : Int32} {τ : TS} {o_ : TS} (hf : f_t_qTakes x1 x2 x4 τ = some o_) : xMet (wT D m) l yX6_qTakes (ws_ yX6_qTakes cX6_qTakes 6 none) 0 0 0 0 [.ref m, .int x1, .long x2, .int x4] τ (none, o_) :=
  xMet_of (by decide) (Nat.le_of_ble_eq_true rfl) KT_moved (fun _ _ => trivial) (fun K _ _ _ => ok_f_t_qTakes hf (fun _ h => by rw [h]))
theorem hd_f_t_qTakes : yX6_qTakes.cls = RX6 ∧ yX6_qTakes.cls ≠ "java/lang/invoke/MethodHandle" ∧ yX6_qTakes.cls ≠ "java/lang/invoke/VarHandle" ∧ (parseMethodDescriptor yX6_qTakes.desc).map (fun d => d.parameters.length) = some 3 := by decide +kernel
theorem call_f_t_qTakes {D : TD} {m : Nat} {K : xK} {M : xM} {Q : State → Prop} {x1 : Int32} {x2 : Int64} {x4 : Int32} {τ : TS} {pc : Nat} {loc : List (Nat × Value)} {st : List Value} {τ1 : TS} (hf : f_t_qTakes x1 x2 x4 τ = some τ1) (ho : M.2.2.1 = RX6) (hfr : 1 ≤ M.2.2.2.1) (hlo : 25 ≤ M.2.2.2.2.1) (hcat : (st.map fun v => v.category).sum ≤ 8) (d : decode M.1 pc = .ok (.invokevirtual 783, 3)) (k : xV (wT D m) K M Q τ1 (pc + 3) loc st) : xV (wT D m) K M Q τ pc loc (.int x4 :: .long x2 :: .int x1 :: .ref m :: st) :=
  xr_callV (As := [.int x1, .long x2, .int x4]) (rest := st) (met_f_t_qTakes K.2.1 hf) (lw_V q2699 q2701 qs166 q186 q2702) hd_f_t_qTakes ho hfr hlo rfl (fun H hR hK => t_recv H hR hK) rfl hcat d k
abbrev mX6_ask : xM := (cX6_ask, 3, RX6, 9, 540, (some .long), "ask")
def Bt_ask_183 (x1 : Int32) (x2 : Int32) (τ : TS) : Option ((Int32 × TS) ⊕ ((TS))) :=
  xbd (f_t_lordMany τ) fun r4 τ4 =>
  if r4 ≤ x2 then
  some (.inr τ4)
  else
  xbd (f_t_bendsOf x2 τ4) fun r5 τ5 =>
  if xin x2 5 = true then
  some (.inl (x2 + 1, sA τ5 69 x2.toNatClampNeg r5))
  else none
theorem ok_Bt_ask_183 {D : TD} {m : Nat} {K : xK} {Z : Option Value × TS} {x1 : Int32} {x2 : Int32} {τ : TS} {o_ : ((Int32 × TS) ⊕ ((TS)))} (hf : Bt_ask_183 x1 x2 τ = some o_) (kc : ∀ s_ : Int32 × TS, o_ = .inl s_ → xV (wT D m) K mX6_ask (xQ (wT D m) K Z) s_.2 183 [(0, .ref m), (1, .int x1), (2, .int s_.1)] []) (ke0 : ∀ e_ : TS, o_ = .inr e_ → xV (wT D m) K mX6_ask (xQ (wT D m) K Z) e_ 208 [(0, .ref m), (1, .int x1)] []) : xV (wT D m) K mX6_ask (xQ (wT D m) K Z) τ 183 [(0, .ref m), (1, .int x1), (2, .int x2)] [] := by
  unfold Bt_ask_183 at hf
  refine xr_iload_n (pc := 183) 2 dX6_ask_183 rfl rfl ?_
  refine xr_aload_n (pc := 184) 0 dX6_ask_184 rfl rfl ?_
  obtain ⟨r4, τ4, hτ4, hf⟩ := xo_bd hf
  refine call_f_t_lordMany (pc := 185) hτ4 rfl (Nat.le_of_ble_eq_true rfl) (Nat.le_of_ble_eq_true rfl) (Nat.le_of_ble_eq_true rfl) dX6_ask_185 ?_
  refine xr_icmp_ge (pc := 188) 208 dX6_ask_188 (by decide) (fun c_ => ?_) (fun c_ => ?_)
  · have hf := xo_pos c_ hf
    refine xV_sub [0, 1] rfl ?_
    exact ke0 _ (Option.some.inj hf).symm
  · have hf := xo_neg c_ hf
    refine xr_aload_n (pc := 191) 0 dX6_ask_191 rfl rfl ?_
    refine xt_getA (pc := 192) 69 (by decide) q1815 rfl rfl rfl dX6_ask_192 ?_
    refine xr_iload_n (pc := 195) 2 dX6_ask_195 rfl rfl ?_
    refine xr_aload_n (pc := 196) 0 dX6_ask_196 rfl rfl ?_
    refine xr_iload_n (pc := 197) 2 dX6_ask_197 rfl rfl ?_
    obtain ⟨r5, τ5, hτ5, hf⟩ := xo_bd hf
    refine call_f_t_bendsOf (pc := 198) hτ5 rfl (Nat.le_of_ble_eq_true rfl) (Nat.le_of_ble_eq_true rfl) (Nat.le_of_ble_eq_true rfl) dX6_ask_198 ?_
    obtain ⟨hi_, hf⟩ := xo_if hf
    refine xt_iast (pc := 201) 69 rfl rfl hi_ dX6_ask_201 ?_
    refine xr_iinc (pc := 202) (loc' := [(2, .int (x2 + 1)), (0, .ref m), (1, .int x1)]) 2 dX6_ask_202 rfl xci_1 (by decide) rfl ?_
    refine xr_goto (pc := 205) 183 dX6_ask_205 (by decide) ?_
    refine xV_sub [1, 2, 0] rfl ?_
    exact kc _ (Option.some.inj hf).symm
def Bt_ask_215 (x1 : Int32) (x2 : Int32) (τ : TS) : Option ((Int32 × TS) ⊕ ((TS))) :=
  xbd (f_t_lordMany τ) fun r7 τ7 =>
  if r7 ≤ x2 then
  some (.inr τ7)
  else
  xbd (f_t_qTold x2 τ7) fun r8 τ8 =>
  (f_t_qTakes x1 r8 x2 τ8).bind fun τ9 =>
  some (.inl (x2 + 1, τ9))
theorem ok_Bt_ask_215 {D : TD} {m : Nat} {K : xK} {Z : Option Value × TS} {x1 : Int32} {x2 : Int32} {τ : TS} {o_ : ((Int32 × TS) ⊕ ((TS)))} (hf : Bt_ask_215 x1 x2 τ = some o_) (kc : ∀ s_ : Int32 × TS, o_ = .inl s_ → xV (wT D m) K mX6_ask (xQ (wT D m) K Z) s_.2 215 [(0, .ref m), (1, .int x1), (2, .int s_.1)] []) (ke0 : ∀ e_ : TS, o_ = .inr e_ → xV (wT D m) K mX6_ask (xQ (wT D m) K Z) e_ 240 [(0, .ref m)] []) : xV (wT D m) K mX6_ask (xQ (wT D m) K Z) τ 215 [(0, .ref m), (1, .int x1), (2, .int x2)] [] := by
  unfold Bt_ask_215 at hf
  refine xr_iload_n (pc := 215) 2 dX6_ask_215 rfl rfl ?_
  refine xr_aload_n (pc := 216) 0 dX6_ask_216 rfl rfl ?_
  obtain ⟨r7, τ7, hτ7, hf⟩ := xo_bd hf
  refine call_f_t_lordMany (pc := 217) hτ7 rfl (Nat.le_of_ble_eq_true rfl) (Nat.le_of_ble_eq_true rfl) (Nat.le_of_ble_eq_true rfl) dX6_ask_217 ?_
  refine xr_icmp_ge (pc := 220) 240 dX6_ask_220 (by decide) (fun c_ => ?_) (fun c_ => ?_)
  · have hf := xo_pos c_ hf
    refine xV_sub [0] rfl ?_
    exact ke0 _ (Option.some.inj hf).symm
  · have hf := xo_neg c_ hf
    refine xr_aload_n (pc := 223) 0 dX6_ask_223 rfl rfl ?_
    refine xr_iload_n (pc := 224) 1 dX6_ask_224 rfl rfl ?_
    refine xr_aload_n (pc := 225) 0 dX6_ask_225 rfl rfl ?_
    refine xr_iload_n (pc := 226) 2 dX6_ask_226 rfl rfl ?_
    obtain ⟨r8, τ8, hτ8, hf⟩ := xo_bd hf
    refine call_f_t_qTold (pc := 227) hτ8 rfl (Nat.le_of_ble_eq_true rfl) (Nat.le_of_ble_eq_true rfl) (Nat.le_of_ble_eq_true rfl) dX6_ask_227 ?_
    refine xr_iload_n (pc := 230) 2 dX6_ask_230 rfl rfl ?_
    obtain ⟨τ9, hτ9, hf⟩ := xo_bind hf
    refine call_f_t_qTakes (pc := 231) hτ9 rfl (Nat.le_of_ble_eq_true rfl) (Nat.le_of_ble_eq_true rfl) (Nat.le_of_ble_eq_true rfl) dX6_ask_231 ?_
    refine xr_iinc (pc := 234) (loc' := [(2, .int (x2 + 1)), (0, .ref m), (1, .int x1)]) 2 dX6_ask_234 rfl xci_1 (by decide) rfl ?_
    refine xr_goto (pc := 237) 215 dX6_ask_237 (by decide) ?_
    refine xV_sub [1, 2, 0] rfl ?_
    exact kc _ (Option.some.inj hf).symm
def Jt_ask_173 (x1 : Int32) (s0 : Int64) (τ : TS) : Option (Int64 × TS) :=
  (itr (fun s_ : Int32 × TS => Bt_ask_183 x1 s_.1 s_.2) 4096 (0, sI (sL τ 128 s0) 129 1)).bind fun b6 =>
  (itr (fun s_ : Int32 × TS => Bt_ask_215 x1 s_.1 s_.2) 4096 (0, sI b6 61 2)).bind fun b10 =>
  some ((tL b10 128, b10))
theorem ok_Jt_ask_173 {D : TD} {m : Nat} {K : xK} {Z : Option Value × TS} {x1 : Int32} {s0 : Int64} {τ : TS} {o_ : (Int64 × TS)} (hf : Jt_ask_173 x1 s0 τ = some o_) (kr : ∀ r_ : (Int64 × TS), o_ = r_ → Z = (some (.long r_.1), r_.2)) : xV (wT D m) K mX6_ask (xQ (wT D m) K Z) τ 173 [(0, .ref m), (1, .int x1)] [.long s0, .ref m] := by
  unfold Jt_ask_173 at hf
  refine xt_putL (pc := 173) 128 (by decide) q1874 rfl rfl rfl (by decide +kernel) rfl dX6_ask_173 ?_
  refine xr_aload_n (pc := 176) 0 dX6_ask_176 rfl rfl ?_
  refine xr_iconst (pc := 177) dX6_ask_177 xci_1 ?_
  refine xt_putZ (pc := 178) 129 (by decide) q1875 rfl rfl rfl (by decide +kernel) (by decide) (by decide) rfl dX6_ask_178 ?_
  refine xr_iconst (pc := 181) dX6_ask_181 xci_0 ?_
  refine xr_istore_n (pc := 182) (loc' := [(2, .int 0), (0, .ref m), (1, .int x1)]) dX6_ask_182 rfl (by decide) rfl ?_
  refine xV_sub [1, 2, 0] rfl ?_
  obtain ⟨b6, hb6, hf⟩ := xo_bind hf
  refine itr_rule (P := fun s_ : Int32 × TS => xV (wT D m) K mX6_ask (xQ (wT D m) K Z) s_.2 183 [(0, .ref m), (1, .int x1), (2, .int s_.1)] []) (fun s_ o_ hB_ hc_ he_ => ok_Bt_ask_183 hB_ hc_ (fun e_ h_ => ?_)) 4096 _ hb6
  · have e9_ := he_ _ h_
    rw [e9_]
    refine xr_aload_n (pc := 208) 0 dX6_ask_208 rfl rfl ?_
    refine xr_iconst (pc := 209) dX6_ask_209 xci_2 ?_
    refine xt_putI (pc := 210) 61 (by decide) q1807 rfl rfl rfl (by decide +kernel) rfl dX6_ask_210 ?_
    refine xr_iconst (pc := 213) dX6_ask_213 xci_0 ?_
    refine xr_istore_n (pc := 214) (loc' := [(2, .int 0), (0, .ref m), (1, .int x1)]) dX6_ask_214 rfl (by decide) rfl ?_
    refine xV_sub [1, 2, 0] rfl ?_
    obtain ⟨b10, hb10, hf⟩ := xo_bind hf
    refine itr_rule (P := fun s_ : Int32 × TS => xV (wT D m) K mX6_ask (xQ (wT D m) K Z) s_.2 215 [(0, .ref m), (1, .int x1), (2, .int s_.1)] []) (fun s_ o_ hB_ hc_ he_ => ok_Bt_ask_215 hB_ hc_ (fun e_ h_ => ?_)) 4096 _ hb10
    · have e9_ := he_ _ h_
      rw [e9_]
      refine xr_aload_n (pc := 240) 0 dX6_ask_240 rfl rfl ?_
      refine xt_getL (pc := 241) 128 (by decide) q1874 rfl rfl rfl dX6_ask_241 ?_
      rw [kr _ (Option.some.inj hf).symm]
      exact xr_lret (pc := 244) dX6_ask_244 rfl
def Jt_ask_133 (x1 : Int32) (τ : TS) : Option (Int64 × TS) :=
  if (tI (sI (sI τ 7 (tI τ 5)) 8 (tI (sI τ 7 (tI τ 5)) 6)) 5) = 0 then
  if 2 ≤ x1 then
  Jt_ask_173 x1 0 (sI (sI τ 7 (tI τ 5)) 8 (tI (sI τ 7 (tI τ 5)) 6))
  else
  Jt_ask_173 x1 (-1) (sI (sI τ 7 (tI τ 5)) 8 (tI (sI τ 7 (tI τ 5)) 6))
  else
  some (((-1000000000000000), sI (sI τ 7 (tI τ 5)) 8 (tI (sI τ 7 (tI τ 5)) 6)))
theorem ok_Jt_ask_133 {D : TD} {m : Nat} {K : xK} {Z : Option Value × TS} {x1 : Int32} {τ : TS} {o_ : (Int64 × TS)} (hf : Jt_ask_133 x1 τ = some o_) (kr : ∀ r_ : (Int64 × TS), o_ = r_ → Z = (some (.long r_.1), r_.2)) : xV (wT D m) K mX6_ask (xQ (wT D m) K Z) τ 133 [(0, .ref m), (1, .int x1)] [] := by
  unfold Jt_ask_133 at hf
  refine xr_aload_n (pc := 133) 0 dX6_ask_133 rfl rfl ?_
  refine xr_aload_n (pc := 134) 0 dX6_ask_134 rfl rfl ?_
  refine xt_getI (pc := 135) 5 (by decide) q1751 rfl rfl rfl dX6_ask_135 ?_
  refine xt_putI (pc := 138) 7 (by decide) q1753 rfl rfl rfl (by decide +kernel) rfl dX6_ask_138 ?_
  refine xr_aload_n (pc := 141) 0 dX6_ask_141 rfl rfl ?_
  refine xr_aload_n (pc := 142) 0 dX6_ask_142 rfl rfl ?_
  refine xt_getI (pc := 143) 6 (by decide) q1752 rfl rfl rfl dX6_ask_143 ?_
  refine xt_putI (pc := 146) 8 (by decide) q1754 rfl rfl rfl (by decide +kernel) rfl dX6_ask_146 ?_
  refine xr_aload_n (pc := 149) 0 dX6_ask_149 rfl rfl ?_
  refine xt_getI (pc := 150) 5 (by decide) q1751 rfl rfl rfl dX6_ask_150 ?_
  refine xr_if_eq (pc := 153) 160 dX6_ask_153 (by decide) (fun c_ => ?_) (fun c_ => ?_)
  · have hf := xo_pos c_ hf
    refine xr_aload_n (pc := 160) 0 dX6_ask_160 rfl rfl ?_
    refine xr_iload_n (pc := 161) 1 dX6_ask_161 rfl rfl ?_
    refine xr_iconst (pc := 162) dX6_ask_162 xci_2 ?_
    refine xr_icmp_ge (pc := 163) 172 dX6_ask_163 (by decide) (fun c_ => ?_) (fun c_ => ?_)
    · have hf := xo_pos c_ hf
      refine xr_lconst (pc := 172) dX6_ask_172 (by decide : _ = (0 : Int64)) ?_
      exact ok_Jt_ask_173 hf kr
    · have hf := xo_neg c_ hf
      refine xr_ldc2 (pc := 166) q2550 dX6_ask_166 ?_
      refine xr_goto (pc := 169) 173 dX6_ask_169 (by decide) ?_
      exact ok_Jt_ask_173 hf kr
  · have hf := xo_neg c_ hf
    refine xr_ldc2 (pc := 156) q2474 dX6_ask_156 ?_
    rw [kr _ (Option.some.inj hf).symm]
    exact xr_lret (pc := 159) dX6_ask_159 rfl
def Jt_ask_109 (x1 : Int32) (τ : TS) : Option (Int64 × TS) :=
  if (tI τ 5) = 0 then
  xbd (f_t_look τ) fun r3 τ3 =>
  if r3 = (-1) then
  Jt_ask_133 x1 τ3
  else
  (f_t_fail 1 (tI τ3 2) τ3).bind fun τ11 =>
  Jt_ask_133 x1 τ11
  else
  Jt_ask_133 x1 τ
theorem ok_Jt_ask_109 {D : TD} {m : Nat} {K : xK} {Z : Option Value × TS} {x1 : Int32} {τ : TS} {o_ : (Int64 × TS)} (hf : Jt_ask_109 x1 τ = some o_) (kr : ∀ r_ : (Int64 × TS), o_ = r_ → Z = (some (.long r_.1), r_.2)) : xV (wT D m) K mX6_ask (xQ (wT D m) K Z) τ 109 [(0, .ref m), (1, .int x1)] [] := by
  unfold Jt_ask_109 at hf
  refine xr_aload_n (pc := 109) 0 dX6_ask_109 rfl rfl ?_
  refine xt_getI (pc := 110) 5 (by decide) q1751 rfl rfl rfl dX6_ask_110 ?_
  refine xr_if_ne (pc := 113) 133 dX6_ask_113 (by decide) (fun c_ => ?_) (fun c_ => ?_)
  · have hf := xo_pos c_ hf
    refine xr_aload_n (pc := 116) 0 dX6_ask_116 rfl rfl ?_
    obtain ⟨r3, τ3, hτ3, hf⟩ := xo_bd hf
    refine call_f_t_look (pc := 117) hτ3 rfl (Nat.le_of_ble_eq_true rfl) (Nat.le_of_ble_eq_true rfl) (Nat.le_of_ble_eq_true rfl) dX6_ask_117 ?_
    refine xr_iconst (pc := 120) dX6_ask_120 xci_m1 ?_
    refine xr_icmp_eq (pc := 121) 133 dX6_ask_121 (by decide) (fun c_ => ?_) (fun c_ => ?_)
    · have hf := xo_pos c_ hf
      exact ok_Jt_ask_133 hf kr
    · have hf := xo_neg c_ hf
      refine xr_aload_n (pc := 124) 0 dX6_ask_124 rfl rfl ?_
      refine xr_iconst (pc := 125) dX6_ask_125 xci_1 ?_
      refine xr_aload_n (pc := 126) 0 dX6_ask_126 rfl rfl ?_
      refine xt_getI (pc := 127) 2 (by decide) q1748 rfl rfl rfl dX6_ask_127 ?_
      obtain ⟨τ11, hτ11, hf⟩ := xo_bind hf
      refine call_f_t_fail (pc := 130) hτ11 rfl (Nat.le_of_ble_eq_true rfl) (Nat.le_of_ble_eq_true rfl) (Nat.le_of_ble_eq_true rfl) dX6_ask_130 ?_
      exact ok_Jt_ask_133 hf kr
  · have hf := xo_neg c_ hf
    exact ok_Jt_ask_133 hf kr
def Jt_ask_98 (x1 : Int32) (τ : TS) : Option (Int64 × TS) :=
  if (tI τ 5) = 0 then
  (f_t_qSums τ).bind fun τ2 =>
  Jt_ask_109 x1 τ2
  else
  Jt_ask_109 x1 τ
theorem ok_Jt_ask_98 {D : TD} {m : Nat} {K : xK} {Z : Option Value × TS} {x1 : Int32} {τ : TS} {o_ : (Int64 × TS)} (hf : Jt_ask_98 x1 τ = some o_) (kr : ∀ r_ : (Int64 × TS), o_ = r_ → Z = (some (.long r_.1), r_.2)) : xV (wT D m) K mX6_ask (xQ (wT D m) K Z) τ 98 [(0, .ref m), (1, .int x1)] [] := by
  unfold Jt_ask_98 at hf
  refine xr_aload_n (pc := 98) 0 dX6_ask_98 rfl rfl ?_
  refine xt_getI (pc := 99) 5 (by decide) q1751 rfl rfl rfl dX6_ask_99 ?_
  refine xr_if_ne (pc := 102) 109 dX6_ask_102 (by decide) (fun c_ => ?_) (fun c_ => ?_)
  · have hf := xo_pos c_ hf
    refine xr_aload_n (pc := 105) 0 dX6_ask_105 rfl rfl ?_
    obtain ⟨τ2, hτ2, hf⟩ := xo_bind hf
    refine call_f_t_qSums (pc := 106) hτ2 rfl (Nat.le_of_ble_eq_true rfl) (Nat.le_of_ble_eq_true rfl) (Nat.le_of_ble_eq_true rfl) dX6_ask_106 ?_
    exact ok_Jt_ask_109 hf kr
  · have hf := xo_neg c_ hf
    exact ok_Jt_ask_109 hf kr
def f_t_ask (τ : TS) : Option (Int64 × TS) :=
  if (tI τ 60) = 0 then
  some (((-1000000000000000), sI τ 1 0))
  else
  xbd (f_t_qKind (sI (sI (sI (sI (sI (sI (sI (sI (sI (sI (sI τ 3 (tI τ 1)) 1 0) 2 0) 4 (-1)) 5 0) 6 (-1)) 61 2) 121 0) 123 0) 124 0) 125 0)) fun r1 τ1 =>
  if (tI τ1 5) = 0 then
  if 3 ≤ r1 then
  Jt_ask_98 r1 τ1
  else
  (f_t_qTest τ1).bind fun τ12 =>
  Jt_ask_109 r1 τ12
  else
  Jt_ask_98 r1 τ1
theorem ok_f_t_ask {D : TD} {m : Nat} {K : xK} {Z : Option Value × TS} {τ : TS} {o_ : (Int64 × TS)} (hf : f_t_ask τ = some o_) (kr : ∀ r_ : (Int64 × TS), o_ = r_ → Z = (some (.long r_.1), r_.2)) : xV (wT D m) K mX6_ask (xQ (wT D m) K Z) τ 0 [(0, .ref m)] [] := by
  unfold f_t_ask at hf
  refine xr_aload_n (pc := 0) 0 dX6_ask_0 rfl rfl ?_
  refine xt_getI (pc := 1) 60 (by decide) q1806 rfl rfl rfl dX6_ask_1 ?_
  refine xr_if_ne (pc := 4) 16 dX6_ask_4 (by decide) (fun c_ => ?_) (fun c_ => ?_)
  · have hf := xo_pos c_ hf
    refine xr_aload_n (pc := 7) 0 dX6_ask_7 rfl rfl ?_
    refine xr_iconst (pc := 8) dX6_ask_8 xci_0 ?_
    refine xt_putI (pc := 9) 1 (by decide) q1747 rfl rfl rfl (by decide +kernel) rfl dX6_ask_9 ?_
    refine xr_ldc2 (pc := 12) q2474 dX6_ask_12 ?_
    rw [kr _ (Option.some.inj hf).symm]
    exact xr_lret (pc := 15) dX6_ask_15 rfl
  · have hf := xo_neg c_ hf
    refine xr_aload_n (pc := 16) 0 dX6_ask_16 rfl rfl ?_
    refine xr_aload_n (pc := 17) 0 dX6_ask_17 rfl rfl ?_
    refine xt_getI (pc := 18) 1 (by decide) q1747 rfl rfl rfl dX6_ask_18 ?_
    refine xt_putI (pc := 21) 3 (by decide) q1749 rfl rfl rfl (by decide +kernel) rfl dX6_ask_21 ?_
    refine xr_aload_n (pc := 24) 0 dX6_ask_24 rfl rfl ?_
    refine xr_iconst (pc := 25) dX6_ask_25 xci_0 ?_
    refine xt_putI (pc := 26) 1 (by decide) q1747 rfl rfl rfl (by decide +kernel) rfl dX6_ask_26 ?_
    refine xr_aload_n (pc := 29) 0 dX6_ask_29 rfl rfl ?_
    refine xr_iconst (pc := 30) dX6_ask_30 xci_0 ?_
    refine xt_putI (pc := 31) 2 (by decide) q1748 rfl rfl rfl (by decide +kernel) rfl dX6_ask_31 ?_
    refine xr_aload_n (pc := 34) 0 dX6_ask_34 rfl rfl ?_
    refine xr_iconst (pc := 35) dX6_ask_35 xci_m1 ?_
    refine xt_putI (pc := 36) 4 (by decide) q1750 rfl rfl rfl (by decide +kernel) rfl dX6_ask_36 ?_
    refine xr_aload_n (pc := 39) 0 dX6_ask_39 rfl rfl ?_
    refine xr_iconst (pc := 40) dX6_ask_40 xci_0 ?_
    refine xt_putI (pc := 41) 5 (by decide) q1751 rfl rfl rfl (by decide +kernel) rfl dX6_ask_41 ?_
    refine xr_aload_n (pc := 44) 0 dX6_ask_44 rfl rfl ?_
    refine xr_iconst (pc := 45) dX6_ask_45 xci_m1 ?_
    refine xt_putI (pc := 46) 6 (by decide) q1752 rfl rfl rfl (by decide +kernel) rfl dX6_ask_46 ?_
    refine xr_aload_n (pc := 49) 0 dX6_ask_49 rfl rfl ?_
    refine xr_iconst (pc := 50) dX6_ask_50 xci_2 ?_
    refine xt_putI (pc := 51) 61 (by decide) q1807 rfl rfl rfl (by decide +kernel) rfl dX6_ask_51 ?_
    refine xr_aload_n (pc := 54) 0 dX6_ask_54 rfl rfl ?_
    refine xr_iconst (pc := 55) dX6_ask_55 xci_0 ?_
    refine xt_putI (pc := 56) 121 (by decide) q1867 rfl rfl rfl (by decide +kernel) rfl dX6_ask_56 ?_
    refine xr_aload_n (pc := 59) 0 dX6_ask_59 rfl rfl ?_
    refine xr_iconst (pc := 60) dX6_ask_60 xci_0 ?_
    refine xt_putI (pc := 61) 123 (by decide) q1869 rfl rfl rfl (by decide +kernel) rfl dX6_ask_61 ?_
    refine xr_aload_n (pc := 64) 0 dX6_ask_64 rfl rfl ?_
    refine xr_iconst (pc := 65) dX6_ask_65 xci_0 ?_
    refine xt_putI (pc := 66) 124 (by decide) q1870 rfl rfl rfl (by decide +kernel) rfl dX6_ask_66 ?_
    refine xr_aload_n (pc := 69) 0 dX6_ask_69 rfl rfl ?_
    refine xr_iconst (pc := 70) dX6_ask_70 xci_0 ?_
    refine xt_putI (pc := 71) 125 (by decide) q1871 rfl rfl rfl (by decide +kernel) rfl dX6_ask_71 ?_
    refine xr_aload_n (pc := 74) 0 dX6_ask_74 rfl rfl ?_
    obtain ⟨r1, τ1, hτ1, hf⟩ := xo_bd hf
    refine call_f_t_qKind (pc := 75) hτ1 rfl (Nat.le_of_ble_eq_true rfl) (Nat.le_of_ble_eq_true rfl) (Nat.le_of_ble_eq_true rfl) dX6_ask_75 ?_
    refine xr_istore_n (pc := 78) (loc' := [(1, .int r1), (0, .ref m)]) dX6_ask_78 rfl (by decide) rfl ?_
    refine xr_aload_n (pc := 79) 1 dX6_ask_79 rfl rfl ?_
    refine xt_getI (pc := 80) 5 (by decide) q1751 rfl rfl rfl dX6_ask_80 ?_
    refine xr_if_ne (pc := 83) 98 dX6_ask_83 (by decide) (fun c_ => ?_) (fun c_ => ?_)
    · have hf := xo_pos c_ hf
      refine xr_iload_n (pc := 86) 0 dX6_ask_86 rfl rfl ?_
      refine xr_iconst (pc := 87) dX6_ask_87 xci_3 ?_
      refine xr_icmp_ge (pc := 88) 98 dX6_ask_88 (by decide) (fun c_ => ?_) (fun c_ => ?_)
      · have hf := xo_pos c_ hf
        refine xV_sub [1, 0] rfl ?_
        exact ok_Jt_ask_98 hf kr
      · have hf := xo_neg c_ hf
        refine xr_aload_n (pc := 91) 1 dX6_ask_91 rfl rfl ?_
        obtain ⟨τ12, hτ12, hf⟩ := xo_bind hf
        refine call_f_t_qTest (pc := 92) hτ12 rfl (Nat.le_of_ble_eq_true rfl) (Nat.le_of_ble_eq_true rfl) (Nat.le_of_ble_eq_true rfl) dX6_ask_92 ?_
        refine xr_goto (pc := 95) 109 dX6_ask_95 (by decide) ?_
        refine xV_sub [1, 0] rfl ?_
        exact ok_Jt_ask_109 hf kr
    · have hf := xo_neg c_ hf
      refine xV_sub [1, 0] rfl ?_
      exact ok_Jt_ask_98 hf kr
theorem met_f_t_ask (l : Launch) {D : TD} {m : Nat} {τ : TS} {o_ : (Int64 × TS)} (hf : f_t_ask τ = some o_) : xMet (wT D m) l yX6_ask (ws_ yX6_ask cX6_ask 3 (some .long)) 9 540 0 0 [.ref m] τ (some (.long o_.1), o_.2) :=
  xMet_of (by decide) (Nat.le_of_ble_eq_true rfl) KT_moved (fun _ _ => trivial) (fun K _ _ _ => ok_f_t_ask hf (fun _ h => by rw [h]))
abbrev mX6_writes : xM := (cX6_writes, 2, RX6, 0, 0, none, "writes")
def f_t_writes (x1 : Int32) (τ : TS) : Option TS :=
  if xin (tI τ 131) 191 = true then
  some (sI (sA τ 130 (tI τ 131).toNatClampNeg x1) 131 ((tI (sA τ 130 (tI τ 131).toNatClampNeg x1) 131) + 1))
  else none
theorem ok_f_t_writes {D : TD} {m : Nat} {K : xK} {Z : Option Value × TS} {x1 : Int32} {τ : TS} {o_ : TS} (hf : f_t_writes x1 τ = some o_) (kr : ∀ r_ : TS, o_ = r_ → Z = (none, r_)) : xV (wT D m) K mX6_writes (xQ (wT D m) K Z) τ 0 [(0, .ref m), (1, .int x1)] [] := by
  unfold f_t_writes at hf
  refine xr_aload_n (pc := 0) 0 dX6_writes_0 rfl rfl ?_
  refine xt_getA (pc := 1) 130 (by decide) q1876 rfl rfl rfl dX6_writes_1 ?_
  refine xr_aload_n (pc := 4) 0 dX6_writes_4 rfl rfl ?_
  refine xt_getI (pc := 5) 131 (by decide) q1877 rfl rfl rfl dX6_writes_5 ?_
  refine xr_iload_n (pc := 8) 1 dX6_writes_8 rfl rfl ?_
  obtain ⟨hi_, hf⟩ := xo_if hf
  refine xt_iast (pc := 9) 130 rfl rfl hi_ dX6_writes_9 ?_
  refine xr_aload_n (pc := 10) 0 dX6_writes_10 rfl rfl ?_
  refine xr_dup (pc := 11) dX6_writes_11 rfl ?_
  refine xt_getI (pc := 12) 131 (by decide) q1877 rfl rfl rfl dX6_writes_12 ?_
  refine xr_iconst (pc := 15) dX6_writes_15 xci_1 ?_
  refine xr_iadd (pc := 16) dX6_writes_16 ?_
  refine xt_putI (pc := 17) 131 (by decide) q1877 rfl rfl rfl (by decide +kernel) rfl dX6_writes_17 ?_
  rw [kr _ (Option.some.inj hf).symm]
  exact xr_vret (pc := 20) dX6_writes_20 rfl
theorem met_f_t_writes (l : Launch) {D : TD} {m : Nat} {x1 : Int32} {τ : TS} {o_ : TS} (hf : f_t_writes x1 τ = some o_) : xMet (wT D m) l yX6_writes (ws_ yX6_writes cX6_writes 2 none) 0 0 0 0 [.ref m, .int x1] τ (none, o_) :=
  xMet_of (by decide) (Nat.le_of_ble_eq_true rfl) KT_moved (fun _ _ => trivial) (fun K _ _ _ => ok_f_t_writes hf (fun _ h => by rw [h]))
theorem hd_f_t_writes : yX6_writes.cls = RX6 ∧ yX6_writes.cls ≠ "java/lang/invoke/MethodHandle" ∧ yX6_writes.cls ≠ "java/lang/invoke/VarHandle" ∧ (parseMethodDescriptor yX6_writes.desc).map (fun d => d.parameters.length) = some 1 := by decide +kernel
theorem call_f_t_writes {D : TD} {m : Nat} {K : xK} {M : xM} {Q : State → Prop} {x1 : Int32} {τ : TS} {pc : Nat} {loc : List (Nat × Value)} {st : List Value} {τ1 : TS} (hf : f_t_writes x1 τ = some τ1) (ho : M.2.2.1 = RX6) (hfr : 1 ≤ M.2.2.2.1) (hlo : 21 ≤ M.2.2.2.2.1) (hcat : (st.map fun v => v.category).sum ≤ 8) (d : decode M.1 pc = .ok (.invokevirtual 790, 3)) (k : xV (wT D m) K M Q τ1 (pc + 3) loc st) : xV (wT D m) K M Q τ pc loc (.int x1 :: .ref m :: st) :=
  xr_callV (As := [.int x1]) (rest := st) (met_f_t_writes K.2.1 hf) (lw_V q2711 q2713 qs168 q186 q2714) hd_f_t_writes ho hfr hlo rfl (fun H hR hK => t_recv H hR hK) rfl hcat d k
abbrev mX6_writesTwo : xM := (cX6_writesTwo, 2, RX6, 1, 60, none, "writesTwo")
def f_t_writesTwo (x1 : Int32) (τ : TS) : Option TS :=
  (f_t_writes (x1 / 256) τ).bind fun τ1 =>
  (f_t_writes (x1 - x1 / 256 * 256) τ1).bind fun τ2 =>
  some (τ2)
theorem ok_f_t_writesTwo {D : TD} {m : Nat} {K : xK} {Z : Option Value × TS} {x1 : Int32} {τ : TS} {o_ : TS} (hf : f_t_writesTwo x1 τ = some o_) (kr : ∀ r_ : TS, o_ = r_ → Z = (none, r_)) : xV (wT D m) K mX6_writesTwo (xQ (wT D m) K Z) τ 0 [(0, .ref m), (1, .int x1)] [] := by
  unfold f_t_writesTwo at hf
  refine xr_aload_n (pc := 0) 0 dX6_writesTwo_0 rfl rfl ?_
  refine xr_iload_n (pc := 1) 1 dX6_writesTwo_1 rfl rfl ?_
  refine xr_sipush (pc := 2) dX6_writesTwo_2 xcs_256 ?_
  refine xr_idiv (pc := 5) dX6_writesTwo_5 (by decide) ?_
  obtain ⟨τ1, hτ1, hf⟩ := xo_bind hf
  refine call_f_t_writes (pc := 6) hτ1 rfl (Nat.le_of_ble_eq_true rfl) (Nat.le_of_ble_eq_true rfl) (Nat.le_of_ble_eq_true rfl) dX6_writesTwo_6 ?_
  refine xr_aload_n (pc := 9) 0 dX6_writesTwo_9 rfl rfl ?_
  refine xr_iload_n (pc := 10) 1 dX6_writesTwo_10 rfl rfl ?_
  refine xr_sipush (pc := 11) dX6_writesTwo_11 xcs_256 ?_
  refine xr_irem (pc := 14) dX6_writesTwo_14 (by decide) ?_
  obtain ⟨τ2, hτ2, hf⟩ := xo_bind hf
  refine call_f_t_writes (pc := 15) hτ2 rfl (Nat.le_of_ble_eq_true rfl) (Nat.le_of_ble_eq_true rfl) (Nat.le_of_ble_eq_true rfl) dX6_writesTwo_15 ?_
  rw [kr _ (Option.some.inj hf).symm]
  exact xr_vret (pc := 18) dX6_writesTwo_18 rfl
theorem met_f_t_writesTwo (l : Launch) {D : TD} {m : Nat} {x1 : Int32} {τ : TS} {o_ : TS} (hf : f_t_writesTwo x1 τ = some o_) : xMet (wT D m) l yX6_writesTwo (ws_ yX6_writesTwo cX6_writesTwo 2 none) 1 60 0 0 [.ref m, .int x1] τ (none, o_) :=
  xMet_of (by decide) (Nat.le_of_ble_eq_true rfl) KT_moved (fun _ _ => trivial) (fun K _ _ _ => ok_f_t_writesTwo hf (fun _ h => by rw [h]))
theorem hd_f_t_writesTwo : yX6_writesTwo.cls = RX6 ∧ yX6_writesTwo.cls ≠ "java/lang/invoke/MethodHandle" ∧ yX6_writesTwo.cls ≠ "java/lang/invoke/VarHandle" ∧ (parseMethodDescriptor yX6_writesTwo.desc).map (fun d => d.parameters.length) = some 1 := by decide +kernel
theorem call_f_t_writesTwo {D : TD} {m : Nat} {K : xK} {M : xM} {Q : State → Prop} {x1 : Int32} {τ : TS} {pc : Nat} {loc : List (Nat × Value)} {st : List Value} {τ1 : TS} (hf : f_t_writesTwo x1 τ = some τ1) (ho : M.2.2.1 = RX6) (hfr : 2 ≤ M.2.2.2.1) (hlo : 81 ≤ M.2.2.2.2.1) (hcat : (st.map fun v => v.category).sum ≤ 8) (d : decode M.1 pc = .ok (.invokevirtual 793, 3)) (k : xV (wT D m) K M Q τ1 (pc + 3) loc st) : xV (wT D m) K M Q τ pc loc (.int x1 :: .ref m :: st) :=
  xr_callV (As := [.int x1]) (rest := st) (met_f_t_writesTwo K.2.1 hf) (lw_V q2707 q2709 qs167 q186 q2710) hd_f_t_writesTwo ho hfr hlo rfl (fun H hR hK => t_recv H hR hK) rfl hcat d k
abbrev mX6_checked : xM := (cX6_checked, 4, RX6, 0, 0, (some .int), "checked")
def Bt_checked_6 (x0 : Nat) (x1 : Int32) (x2 : Int32) (x3 : Int32) (τ : TS) : Option ((Int32 × Int32 × TS) ⊕ ((Int32 × TS))) :=
  if x1 ≤ x3 then
  some (.inr (x2, τ))
  else
  if t_ak x0 = 0 then
  if xin x3 (t_len x0) = true then
  some (.inl (((3 * x2) + (tA τ x0 x3.toNatClampNeg)) - ((3 * x2) + (tA τ x0 x3.toNatClampNeg)) / 251 * 251, x3 + 1, τ))
  else none
  else none
theorem ok_Bt_checked_6 {D : TD} {m : Nat} {K : xK} {Z : Option Value × TS} {x0 : Nat} {x1 : Int32} {x2 : Int32} {x3 : Int32} {τ : TS} {o_ : ((Int32 × Int32 × TS) ⊕ ((Int32 × TS)))} (hf : Bt_checked_6 x0 x1 x2 x3 τ = some o_) (kc : ∀ s_ : Int32 × Int32 × TS, o_ = .inl s_ → xV (wT D m) K mX6_checked (xQ (wT D m) K Z) s_.2.2 6 [(0, .ref (tAd m x0)), (1, .int x1), (2, .int s_.1), (3, .int s_.2.1)] []) (ke0 : ∀ e_ : Int32 × TS, o_ = .inr e_ → xV (wT D m) K mX6_checked (xQ (wT D m) K Z) e_.2 29 [(2, .int e_.1)] []) : xV (wT D m) K mX6_checked (xQ (wT D m) K Z) τ 6 [(0, .ref (tAd m x0)), (1, .int x1), (2, .int x2), (3, .int x3)] [] := by
  unfold Bt_checked_6 at hf
  refine xr_iload_n (pc := 6) 3 dX6_checked_6 rfl rfl ?_
  refine xr_iload_n (pc := 7) 1 dX6_checked_7 rfl rfl ?_
  refine xr_icmp_ge (pc := 8) 29 dX6_checked_8 (by decide) (fun c_ => ?_) (fun c_ => ?_)
  · have hf := xo_pos c_ hf
    refine xV_sub [2] rfl ?_
    exact ke0 _ (Option.some.inj hf).symm
  · have hf := xo_neg c_ hf
    refine xr_iconst (pc := 11) dX6_checked_11 xci_3 ?_
    refine xr_iload_n (pc := 12) 2 dX6_checked_12 rfl rfl ?_
    refine xr_imul (pc := 13) dX6_checked_13 ?_
    refine xr_aload_n (pc := 14) 0 dX6_checked_14 rfl rfl ?_
    refine xr_iload_n (pc := 15) 3 dX6_checked_15 rfl rfl ?_
    obtain ⟨hk_, hf⟩ := xo_if hf
    obtain ⟨hi_, hf⟩ := xo_if hf
    refine xt_iald (pc := 16) x0 rfl hk_ hi_ dX6_checked_16 ?_
    refine xr_iadd (pc := 17) dX6_checked_17 ?_
    refine xr_sipush (pc := 18) dX6_checked_18 xcs_251 ?_
    refine xr_irem (pc := 21) dX6_checked_21 (by decide) ?_
    refine xr_istore_n (pc := 22) (loc' := [(2, .int (((3 * x2) + (tA τ x0 x3.toNatClampNeg)) - ((3 * x2) + (tA τ x0 x3.toNatClampNeg)) / 251 * 251)), (0, .ref (tAd m x0)), (1, .int x1), (3, .int x3)]) dX6_checked_22 rfl (by decide) rfl ?_
    refine xr_iinc (pc := 23) (loc' := [(3, .int (x3 + 1)), (2, .int (((3 * x2) + (tA τ x0 x3.toNatClampNeg)) - ((3 * x2) + (tA τ x0 x3.toNatClampNeg)) / 251 * 251)), (0, .ref (tAd m x0)), (1, .int x1)]) 3 dX6_checked_23 rfl xci_1 (by decide) rfl ?_
    refine xr_goto (pc := 26) 6 dX6_checked_26 (by decide) ?_
    refine xV_sub [2, 3, 1, 0] rfl ?_
    exact kc _ (Option.some.inj hf).symm
def f_t_checked (x0 : Nat) (x1 : Int32) (τ : TS) : Option (Int32 × TS) :=
  (itr (fun s_ : Int32 × Int32 × TS => Bt_checked_6 x0 x1 s_.1 s_.2.1 s_.2.2) 4096 (179, 0, τ)).bind fun b1 =>
  some ((b1.1, b1.2))
theorem ok_f_t_checked {D : TD} {m : Nat} {K : xK} {Z : Option Value × TS} {x0 : Nat} {x1 : Int32} {τ : TS} {o_ : (Int32 × TS)} (hf : f_t_checked x0 x1 τ = some o_) (kr : ∀ r_ : (Int32 × TS), o_ = r_ → Z = (some (.int r_.1), r_.2)) : xV (wT D m) K mX6_checked (xQ (wT D m) K Z) τ 0 [(0, .ref (tAd m x0)), (1, .int x1)] [] := by
  unfold f_t_checked at hf
  refine xr_sipush (pc := 0) dX6_checked_0 xcs_179 ?_
  refine xr_istore_n (pc := 3) (loc' := [(2, .int 179), (0, .ref (tAd m x0)), (1, .int x1)]) dX6_checked_3 rfl (by decide) rfl ?_
  refine xr_iconst (pc := 4) dX6_checked_4 xci_0 ?_
  refine xr_istore_n (pc := 5) (loc' := [(3, .int 0), (2, .int 179), (0, .ref (tAd m x0)), (1, .int x1)]) dX6_checked_5 rfl (by decide) rfl ?_
  refine xV_sub [2, 3, 1, 0] rfl ?_
  obtain ⟨b1, hb1, hf⟩ := xo_bind hf
  refine itr_rule (P := fun s_ : Int32 × Int32 × TS => xV (wT D m) K mX6_checked (xQ (wT D m) K Z) s_.2.2 6 [(0, .ref (tAd m x0)), (1, .int x1), (2, .int s_.1), (3, .int s_.2.1)] []) (fun s_ o_ hB_ hc_ he_ => ok_Bt_checked_6 hB_ hc_ (fun e_ h_ => ?_)) 4096 _ hb1
  · have e9_ := he_ _ h_
    rw [e9_]
    refine xr_iload_n (pc := 29) 0 dX6_checked_29 rfl rfl ?_
    rw [kr _ (Option.some.inj hf).symm]
    exact xr_iret (pc := 30) dX6_checked_30 rfl
theorem met_f_t_checked (l : Launch) {D : TD} {m : Nat} {x0 : Nat} {x1 : Int32} {τ : TS} {o_ : (Int32 × TS)} (hf : f_t_checked x0 x1 τ = some o_) : xMet (wT D m) l yX6_checked (ws_ yX6_checked cX6_checked 4 (some .int)) 0 0 0 0 [.ref (tAd m x0), .int x1] τ (some (.int o_.1), o_.2) :=
  xMet_of (by decide) (Nat.le_of_ble_eq_true rfl) KT_moved (fun _ _ => trivial) (fun K _ _ _ => ok_f_t_checked hf (fun _ h => by rw [h]))
theorem hd_f_t_checked : yX6_checked.cls ≠ "java/lang/invoke/MethodHandle" ∧ yX6_checked.cls ≠ "java/lang/invoke/VarHandle" ∧ (parseMethodDescriptor yX6_checked.desc).map (fun d => d.parameters.length) = some 2 := by decide +kernel
theorem call_f_t_checked {D : TD} {m : Nat} {K : xK} {M : xM} {Q : State → Prop} {x0 : Nat} {x1 : Int32} {τ : TS} {pc : Nat} {loc : List (Nat × Value)} {st : List Value} {r : Int32} {τ1 : TS} (hf : f_t_checked x0 x1 τ = some (r, τ1)) (ho : M.2.2.1 = RX6) (hfr : 1 ≤ M.2.2.2.1) (hlo : 23 ≤ M.2.2.2.2.1) (hcat : (st.map fun v => v.category).sum ≤ 8) (d : decode M.1 pc = .ok (.invokestatic 797, 3)) (k : xV (wT D m) K M Q τ1 (pc + 3) loc (.int r :: st)) : xV (wT D m) K M Q τ pc loc (.int x1 :: .ref (tAd m x0) :: st) :=
  xr_callS (As := [.ref (tAd m x0), .int x1]) (rest := st) (met_f_t_checked K.2.1 hf) (lw_S q2716 q2717 q186 q2718) hd_f_t_checked ho hfr hlo rfl rfl hcat d k
abbrev mX6_image : xM := (cX6_image, 3, RX6, 2, 120, (some .int), "image")
def Bt_image_45 (x1 : Int32) (τ : TS) : Option ((Int32 × TS) ⊕ ((TS))) :=
  xbd (f_t_columnMany τ) fun r4 τ4 =>
  if r4 ≤ x1 then
  some (.inr τ4)
  else
  xbd (f_t_rowOf x1 τ4) fun r5 τ5 =>
  (f_t_writes r5 τ5).bind fun τ6 =>
  some (.inl (x1 + 1, τ6))
theorem ok_Bt_image_45 {D : TD} {m : Nat} {K : xK} {Z : Option Value × TS} {x1 : Int32} {τ : TS} {o_ : ((Int32 × TS) ⊕ ((TS)))} (hf : Bt_image_45 x1 τ = some o_) (kc : ∀ s_ : Int32 × TS, o_ = .inl s_ → xV (wT D m) K mX6_image (xQ (wT D m) K Z) s_.2 45 [(0, .ref m), (1, .int s_.1)] []) (ke0 : ∀ e_ : TS, o_ = .inr e_ → xV (wT D m) K mX6_image (xQ (wT D m) K Z) e_ 68 [(0, .ref m)] []) : xV (wT D m) K mX6_image (xQ (wT D m) K Z) τ 45 [(0, .ref m), (1, .int x1)] [] := by
  unfold Bt_image_45 at hf
  refine xr_iload_n (pc := 45) 1 dX6_image_45 rfl rfl ?_
  refine xr_aload_n (pc := 46) 0 dX6_image_46 rfl rfl ?_
  obtain ⟨r4, τ4, hτ4, hf⟩ := xo_bd hf
  refine call_f_t_columnMany (pc := 47) hτ4 rfl (Nat.le_of_ble_eq_true rfl) (Nat.le_of_ble_eq_true rfl) (Nat.le_of_ble_eq_true rfl) dX6_image_47 ?_
  refine xr_icmp_ge (pc := 50) 68 dX6_image_50 (by decide) (fun c_ => ?_) (fun c_ => ?_)
  · have hf := xo_pos c_ hf
    refine xV_sub [0] rfl ?_
    exact ke0 _ (Option.some.inj hf).symm
  · have hf := xo_neg c_ hf
    refine xr_aload_n (pc := 53) 0 dX6_image_53 rfl rfl ?_
    refine xr_aload_n (pc := 54) 0 dX6_image_54 rfl rfl ?_
    refine xr_iload_n (pc := 55) 1 dX6_image_55 rfl rfl ?_
    obtain ⟨r5, τ5, hτ5, hf⟩ := xo_bd hf
    refine call_f_t_rowOf (pc := 56) hτ5 rfl (Nat.le_of_ble_eq_true rfl) (Nat.le_of_ble_eq_true rfl) (Nat.le_of_ble_eq_true rfl) dX6_image_56 ?_
    obtain ⟨τ6, hτ6, hf⟩ := xo_bind hf
    refine call_f_t_writes (pc := 59) hτ6 rfl (Nat.le_of_ble_eq_true rfl) (Nat.le_of_ble_eq_true rfl) (Nat.le_of_ble_eq_true rfl) dX6_image_59 ?_
    refine xr_iinc (pc := 62) (loc' := [(1, .int (x1 + 1)), (0, .ref m)]) 1 dX6_image_62 rfl xci_1 (by decide) rfl ?_
    refine xr_goto (pc := 65) 45 dX6_image_65 (by decide) ?_
    refine xV_sub [1, 0] rfl ?_
    exact kc _ (Option.some.inj hf).symm
def Bt_image_80 (x1 : Int32) (x2 : Int32) (τ : TS) : Option ((Int32 × TS) ⊕ ((TS))) :=
  xbd (f_t_rowsMany τ) fun r9 τ9 =>
  if r9 ≤ x2 then
  some (.inr τ9)
  else
  xbd (f_t_willowsAt ((8 * x1) + x2) τ9) fun r10 τ10 =>
  (f_t_writes r10 τ10).bind fun τ11 =>
  xbd (f_t_everAt ((8 * x1) + x2) τ11) fun r12 τ12 =>
  (f_t_writes r12 τ12).bind fun τ13 =>
  some (.inl (x2 + 1, τ13))
theorem ok_Bt_image_80 {D : TD} {m : Nat} {K : xK} {Z : Option Value × TS} {x1 : Int32} {x2 : Int32} {τ : TS} {o_ : ((Int32 × TS) ⊕ ((TS)))} (hf : Bt_image_80 x1 x2 τ = some o_) (kc : ∀ s_ : Int32 × TS, o_ = .inl s_ → xV (wT D m) K mX6_image (xQ (wT D m) K Z) s_.2 80 [(0, .ref m), (1, .int x1), (2, .int s_.1)] []) (ke0 : ∀ e_ : TS, o_ = .inr e_ → xV (wT D m) K mX6_image (xQ (wT D m) K Z) e_ 122 [(0, .ref m), (1, .int x1)] []) : xV (wT D m) K mX6_image (xQ (wT D m) K Z) τ 80 [(0, .ref m), (1, .int x1), (2, .int x2)] [] := by
  unfold Bt_image_80 at hf
  refine xr_iload_n (pc := 80) 2 dX6_image_80 rfl rfl ?_
  refine xr_aload_n (pc := 81) 0 dX6_image_81 rfl rfl ?_
  obtain ⟨r9, τ9, hτ9, hf⟩ := xo_bd hf
  refine call_f_t_rowsMany (pc := 82) hτ9 rfl (Nat.le_of_ble_eq_true rfl) (Nat.le_of_ble_eq_true rfl) (Nat.le_of_ble_eq_true rfl) dX6_image_82 ?_
  refine xr_icmp_ge (pc := 85) 122 dX6_image_85 (by decide) (fun c_ => ?_) (fun c_ => ?_)
  · have hf := xo_pos c_ hf
    refine xV_sub [0, 1] rfl ?_
    exact ke0 _ (Option.some.inj hf).symm
  · have hf := xo_neg c_ hf
    refine xr_aload_n (pc := 88) 0 dX6_image_88 rfl rfl ?_
    refine xr_aload_n (pc := 89) 0 dX6_image_89 rfl rfl ?_
    refine xr_bipush (pc := 90) dX6_image_90 xcb_8 ?_
    refine xr_iload_n (pc := 92) 1 dX6_image_92 rfl rfl ?_
    refine xr_imul (pc := 93) dX6_image_93 ?_
    refine xr_iload_n (pc := 94) 2 dX6_image_94 rfl rfl ?_
    refine xr_iadd (pc := 95) dX6_image_95 ?_
    obtain ⟨r10, τ10, hτ10, hf⟩ := xo_bd hf
    refine call_f_t_willowsAt (pc := 96) hτ10 rfl (Nat.le_of_ble_eq_true rfl) (Nat.le_of_ble_eq_true rfl) (Nat.le_of_ble_eq_true rfl) dX6_image_96 ?_
    obtain ⟨τ11, hτ11, hf⟩ := xo_bind hf
    refine call_f_t_writes (pc := 99) hτ11 rfl (Nat.le_of_ble_eq_true rfl) (Nat.le_of_ble_eq_true rfl) (Nat.le_of_ble_eq_true rfl) dX6_image_99 ?_
    refine xr_aload_n (pc := 102) 0 dX6_image_102 rfl rfl ?_
    refine xr_aload_n (pc := 103) 0 dX6_image_103 rfl rfl ?_
    refine xr_bipush (pc := 104) dX6_image_104 xcb_8 ?_
    refine xr_iload_n (pc := 106) 1 dX6_image_106 rfl rfl ?_
    refine xr_imul (pc := 107) dX6_image_107 ?_
    refine xr_iload_n (pc := 108) 2 dX6_image_108 rfl rfl ?_
    refine xr_iadd (pc := 109) dX6_image_109 ?_
    obtain ⟨r12, τ12, hτ12, hf⟩ := xo_bd hf
    refine call_f_t_everAt (pc := 110) hτ12 rfl (Nat.le_of_ble_eq_true rfl) (Nat.le_of_ble_eq_true rfl) (Nat.le_of_ble_eq_true rfl) dX6_image_110 ?_
    obtain ⟨τ13, hτ13, hf⟩ := xo_bind hf
    refine call_f_t_writes (pc := 113) hτ13 rfl (Nat.le_of_ble_eq_true rfl) (Nat.le_of_ble_eq_true rfl) (Nat.le_of_ble_eq_true rfl) dX6_image_113 ?_
    refine xr_iinc (pc := 116) (loc' := [(2, .int (x2 + 1)), (0, .ref m), (1, .int x1)]) 2 dX6_image_116 rfl xci_1 (by decide) rfl ?_
    refine xr_goto (pc := 119) 80 dX6_image_119 (by decide) ?_
    refine xV_sub [1, 2, 0] rfl ?_
    exact kc _ (Option.some.inj hf).symm
def Bt_image_70 (x1 : Int32) (τ : TS) : Option ((Int32 × TS) ⊕ ((TS))) :=
  xbd (f_t_columnMany τ) fun r8 τ8 =>
  if r8 ≤ x1 then
  some (.inr τ8)
  else
  (itr (fun s_ : Int32 × TS => Bt_image_80 x1 s_.1 s_.2) 4096 (0, τ8)).bind fun b14 =>
  some (.inl (x1 + 1, b14))
theorem ok_Bt_image_70 {D : TD} {m : Nat} {K : xK} {Z : Option Value × TS} {x1 : Int32} {τ : TS} {o_ : ((Int32 × TS) ⊕ ((TS)))} (hf : Bt_image_70 x1 τ = some o_) (kc : ∀ s_ : Int32 × TS, o_ = .inl s_ → xV (wT D m) K mX6_image (xQ (wT D m) K Z) s_.2 70 [(0, .ref m), (1, .int s_.1)] []) (ke0 : ∀ e_ : TS, o_ = .inr e_ → xV (wT D m) K mX6_image (xQ (wT D m) K Z) e_ 128 [(0, .ref m)] []) : xV (wT D m) K mX6_image (xQ (wT D m) K Z) τ 70 [(0, .ref m), (1, .int x1)] [] := by
  unfold Bt_image_70 at hf
  refine xr_iload_n (pc := 70) 1 dX6_image_70 rfl rfl ?_
  refine xr_aload_n (pc := 71) 0 dX6_image_71 rfl rfl ?_
  obtain ⟨r8, τ8, hτ8, hf⟩ := xo_bd hf
  refine call_f_t_columnMany (pc := 72) hτ8 rfl (Nat.le_of_ble_eq_true rfl) (Nat.le_of_ble_eq_true rfl) (Nat.le_of_ble_eq_true rfl) dX6_image_72 ?_
  refine xr_icmp_ge (pc := 75) 128 dX6_image_75 (by decide) (fun c_ => ?_) (fun c_ => ?_)
  · have hf := xo_pos c_ hf
    refine xV_sub [0] rfl ?_
    exact ke0 _ (Option.some.inj hf).symm
  · have hf := xo_neg c_ hf
    refine xr_iconst (pc := 78) dX6_image_78 xci_0 ?_
    refine xr_istore_n (pc := 79) (loc' := [(2, .int 0), (0, .ref m), (1, .int x1)]) dX6_image_79 rfl (by decide) rfl ?_
    refine xV_sub [1, 2, 0] rfl ?_
    obtain ⟨b14, hb14, hf⟩ := xo_bind hf
    refine itr_rule (P := fun s_ : Int32 × TS => xV (wT D m) K mX6_image (xQ (wT D m) K Z) s_.2 80 [(0, .ref m), (1, .int x1), (2, .int s_.1)] []) (fun s_ o_ hB_ hc_ he_ => ok_Bt_image_80 hB_ hc_ (fun e_ h_ => ?_)) 4096 _ hb14
    · have e9_ := he_ _ h_
      rw [e9_]
      refine xr_iinc (pc := 122) (loc' := [(1, .int (x1 + 1)), (0, .ref m)]) 1 dX6_image_122 rfl xci_1 (by decide) rfl ?_
      refine xr_goto (pc := 125) 70 dX6_image_125 (by decide) ?_
      refine xV_sub [1, 0] rfl ?_
      exact kc _ (Option.some.inj hf).symm
def Jt_image_152 (x1 : Int32) (s0 : Int32) (τ : TS) : Option ((Int32 × TS) ⊕ ((TS))) :=
  (f_t_writes s0 τ).bind fun τ18 =>
  xbd (f_t_purseOf x1 τ18) fun r19 τ19 =>
  (f_t_writesTwo r19 τ19).bind fun τ20 =>
  some (.inl (x1 + 1, τ20))
theorem ok_Jt_image_152 {D : TD} {m : Nat} {K : xK} {Z : Option Value × TS} {x1 : Int32} {s0 : Int32} {τ : TS} {o_ : ((Int32 × TS) ⊕ ((TS)))} (hf : Jt_image_152 x1 s0 τ = some o_) (kc : ∀ s_ : Int32 × TS, o_ = .inl s_ → xV (wT D m) K mX6_image (xQ (wT D m) K Z) s_.2 130 [(0, .ref m), (1, .int s_.1)] []) (ke0 : ∀ e_ : TS, o_ = .inr e_ → xV (wT D m) K mX6_image (xQ (wT D m) K Z) e_ 170 [(0, .ref m)] []) : xV (wT D m) K mX6_image (xQ (wT D m) K Z) τ 152 [(0, .ref m), (1, .int x1)] [.int s0, .ref m] := by
  unfold Jt_image_152 at hf
  obtain ⟨τ18, hτ18, hf⟩ := xo_bind hf
  refine call_f_t_writes (pc := 152) hτ18 rfl (Nat.le_of_ble_eq_true rfl) (Nat.le_of_ble_eq_true rfl) (Nat.le_of_ble_eq_true rfl) dX6_image_152 ?_
  refine xr_aload_n (pc := 155) 0 dX6_image_155 rfl rfl ?_
  refine xr_aload_n (pc := 156) 0 dX6_image_156 rfl rfl ?_
  refine xr_iload_n (pc := 157) 1 dX6_image_157 rfl rfl ?_
  obtain ⟨r19, τ19, hτ19, hf⟩ := xo_bd hf
  refine call_f_t_purseOf (pc := 158) hτ19 rfl (Nat.le_of_ble_eq_true rfl) (Nat.le_of_ble_eq_true rfl) (Nat.le_of_ble_eq_true rfl) dX6_image_158 ?_
  obtain ⟨τ20, hτ20, hf⟩ := xo_bind hf
  refine call_f_t_writesTwo (pc := 161) hτ20 rfl (Nat.le_of_ble_eq_true rfl) (Nat.le_of_ble_eq_true rfl) (Nat.le_of_ble_eq_true rfl) dX6_image_161 ?_
  refine xr_iinc (pc := 164) (loc' := [(1, .int (x1 + 1)), (0, .ref m)]) 1 dX6_image_164 rfl xci_1 (by decide) rfl ?_
  refine xr_goto (pc := 167) 130 dX6_image_167 (by decide) ?_
  refine xV_sub [1, 0] rfl ?_
  exact kc _ (Option.some.inj hf).symm
def Bt_image_130 (x1 : Int32) (τ : TS) : Option ((Int32 × TS) ⊕ ((TS))) :=
  xbd (f_t_lordMany τ) fun r16 τ16 =>
  if r16 ≤ x1 then
  some (.inr τ16)
  else
  xbd (f_t_doesOffer x1 τ16) fun r17 τ17 =>
  if r17 = 0 then
  Jt_image_152 x1 0 τ17
  else
  Jt_image_152 x1 1 τ17
theorem ok_Bt_image_130 {D : TD} {m : Nat} {K : xK} {Z : Option Value × TS} {x1 : Int32} {τ : TS} {o_ : ((Int32 × TS) ⊕ ((TS)))} (hf : Bt_image_130 x1 τ = some o_) (kc : ∀ s_ : Int32 × TS, o_ = .inl s_ → xV (wT D m) K mX6_image (xQ (wT D m) K Z) s_.2 130 [(0, .ref m), (1, .int s_.1)] []) (ke0 : ∀ e_ : TS, o_ = .inr e_ → xV (wT D m) K mX6_image (xQ (wT D m) K Z) e_ 170 [(0, .ref m)] []) : xV (wT D m) K mX6_image (xQ (wT D m) K Z) τ 130 [(0, .ref m), (1, .int x1)] [] := by
  unfold Bt_image_130 at hf
  refine xr_iload_n (pc := 130) 1 dX6_image_130 rfl rfl ?_
  refine xr_aload_n (pc := 131) 0 dX6_image_131 rfl rfl ?_
  obtain ⟨r16, τ16, hτ16, hf⟩ := xo_bd hf
  refine call_f_t_lordMany (pc := 132) hτ16 rfl (Nat.le_of_ble_eq_true rfl) (Nat.le_of_ble_eq_true rfl) (Nat.le_of_ble_eq_true rfl) dX6_image_132 ?_
  refine xr_icmp_ge (pc := 135) 170 dX6_image_135 (by decide) (fun c_ => ?_) (fun c_ => ?_)
  · have hf := xo_pos c_ hf
    refine xV_sub [0] rfl ?_
    exact ke0 _ (Option.some.inj hf).symm
  · have hf := xo_neg c_ hf
    refine xr_aload_n (pc := 138) 0 dX6_image_138 rfl rfl ?_
    refine xr_aload_n (pc := 139) 0 dX6_image_139 rfl rfl ?_
    refine xr_iload_n (pc := 140) 1 dX6_image_140 rfl rfl ?_
    obtain ⟨r17, τ17, hτ17, hf⟩ := xo_bd hf
    refine call_f_t_doesOffer (pc := 141) hτ17 rfl (Nat.le_of_ble_eq_true rfl) (Nat.le_of_ble_eq_true rfl) (Nat.le_of_ble_eq_true rfl) dX6_image_141 ?_
    refine xr_if_eq (pc := 144) 151 dX6_image_144 (by decide) (fun c_ => ?_) (fun c_ => ?_)
    · have hf := xo_pos c_ hf
      refine xr_iconst (pc := 151) dX6_image_151 xci_0 ?_
      exact ok_Jt_image_152 hf kc ke0
    · have hf := xo_neg c_ hf
      refine xr_iconst (pc := 147) dX6_image_147 xci_1 ?_
      refine xr_goto (pc := 148) 152 dX6_image_148 (by decide) ?_
      exact ok_Jt_image_152 hf kc ke0
def f_t_image (τ : TS) : Option (Int32 × TS) :=
  if xin 0 303 = true then
  (f_t_writesTwo (tA (sI τ 131 0) 62 (0 : Int32).toNatClampNeg) (sI τ 131 0)).bind fun τ1 =>
  if xin 1 303 = true then
  (f_t_writes ((tA τ1 62 (1 : Int32).toNatClampNeg) / 65536) τ1).bind fun τ2 =>
  if xin 1 303 = true then
  (f_t_writesTwo ((tA τ2 62 (1 : Int32).toNatClampNeg) - (tA τ2 62 (1 : Int32).toNatClampNeg) / 65536 * 65536) τ2).bind fun τ3 =>
  (itr (fun s_ : Int32 × TS => Bt_image_45 s_.1 s_.2) 4096 (0, τ3)).bind fun b7 =>
  (itr (fun s_ : Int32 × TS => Bt_image_70 s_.1 s_.2) 4096 (0, b7)).bind fun b15 =>
  (itr (fun s_ : Int32 × TS => Bt_image_130 s_.1 s_.2) 4096 (0, b15)).bind fun b21 =>
  xbd (f_t_checked 130 (tI b21 131) b21) fun r22 τ22 =>
  (f_t_writes r22 τ22).bind fun τ23 =>
  some ((tI τ23 131, τ23))
  else none
  else none
  else none
theorem ok_f_t_image {D : TD} {m : Nat} {K : xK} {Z : Option Value × TS} {τ : TS} {o_ : (Int32 × TS)} (hf : f_t_image τ = some o_) (kr : ∀ r_ : (Int32 × TS), o_ = r_ → Z = (some (.int r_.1), r_.2)) : xV (wT D m) K mX6_image (xQ (wT D m) K Z) τ 0 [(0, .ref m)] [] := by
  unfold f_t_image at hf
  refine xr_aload_n (pc := 0) 0 dX6_image_0 rfl rfl ?_
  refine xr_iconst (pc := 1) dX6_image_1 xci_0 ?_
  refine xt_putI (pc := 2) 131 (by decide) q1877 rfl rfl rfl (by decide +kernel) rfl dX6_image_2 ?_
  refine xr_aload_n (pc := 5) 0 dX6_image_5 rfl rfl ?_
  refine xr_aload_n (pc := 6) 0 dX6_image_6 rfl rfl ?_
  refine xt_getA (pc := 7) 62 (by decide) q1808 rfl rfl rfl dX6_image_7 ?_
  refine xr_iconst (pc := 10) dX6_image_10 xci_0 ?_
  obtain ⟨hi_, hf⟩ := xo_if hf
  refine xt_iald (pc := 11) 62 rfl rfl hi_ dX6_image_11 ?_
  obtain ⟨τ1, hτ1, hf⟩ := xo_bind hf
  refine call_f_t_writesTwo (pc := 12) hτ1 rfl (Nat.le_of_ble_eq_true rfl) (Nat.le_of_ble_eq_true rfl) (Nat.le_of_ble_eq_true rfl) dX6_image_12 ?_
  refine xr_aload_n (pc := 15) 0 dX6_image_15 rfl rfl ?_
  refine xr_aload_n (pc := 16) 0 dX6_image_16 rfl rfl ?_
  refine xt_getA (pc := 17) 62 (by decide) q1808 rfl rfl rfl dX6_image_17 ?_
  refine xr_iconst (pc := 20) dX6_image_20 xci_1 ?_
  obtain ⟨hi_, hf⟩ := xo_if hf
  refine xt_iald (pc := 21) 62 rfl rfl hi_ dX6_image_21 ?_
  refine xr_ldcw (pc := 22) q2715 dX6_image_22 ?_
  refine xr_idiv (pc := 25) dX6_image_25 (by decide) ?_
  obtain ⟨τ2, hτ2, hf⟩ := xo_bind hf
  refine call_f_t_writes (pc := 26) hτ2 rfl (Nat.le_of_ble_eq_true rfl) (Nat.le_of_ble_eq_true rfl) (Nat.le_of_ble_eq_true rfl) dX6_image_26 ?_
  refine xr_aload_n (pc := 29) 0 dX6_image_29 rfl rfl ?_
  refine xr_aload_n (pc := 30) 0 dX6_image_30 rfl rfl ?_
  refine xt_getA (pc := 31) 62 (by decide) q1808 rfl rfl rfl dX6_image_31 ?_
  refine xr_iconst (pc := 34) dX6_image_34 xci_1 ?_
  obtain ⟨hi_, hf⟩ := xo_if hf
  refine xt_iald (pc := 35) 62 rfl rfl hi_ dX6_image_35 ?_
  refine xr_ldcw (pc := 36) q2715 dX6_image_36 ?_
  refine xr_irem (pc := 39) dX6_image_39 (by decide) ?_
  obtain ⟨τ3, hτ3, hf⟩ := xo_bind hf
  refine call_f_t_writesTwo (pc := 40) hτ3 rfl (Nat.le_of_ble_eq_true rfl) (Nat.le_of_ble_eq_true rfl) (Nat.le_of_ble_eq_true rfl) dX6_image_40 ?_
  refine xr_iconst (pc := 43) dX6_image_43 xci_0 ?_
  refine xr_istore_n (pc := 44) (loc' := [(1, .int 0), (0, .ref m)]) dX6_image_44 rfl (by decide) rfl ?_
  refine xV_sub [1, 0] rfl ?_
  obtain ⟨b7, hb7, hf⟩ := xo_bind hf
  refine itr_rule (P := fun s_ : Int32 × TS => xV (wT D m) K mX6_image (xQ (wT D m) K Z) s_.2 45 [(0, .ref m), (1, .int s_.1)] []) (fun s_ o_ hB_ hc_ he_ => ok_Bt_image_45 hB_ hc_ (fun e_ h_ => ?_)) 4096 _ hb7
  · have e9_ := he_ _ h_
    rw [e9_]
    refine xr_iconst (pc := 68) dX6_image_68 xci_0 ?_
    refine xr_istore_n (pc := 69) (loc' := [(1, .int 0), (0, .ref m)]) dX6_image_69 rfl (by decide) rfl ?_
    refine xV_sub [1, 0] rfl ?_
    obtain ⟨b15, hb15, hf⟩ := xo_bind hf
    refine itr_rule (P := fun s_ : Int32 × TS => xV (wT D m) K mX6_image (xQ (wT D m) K Z) s_.2 70 [(0, .ref m), (1, .int s_.1)] []) (fun s_ o_ hB_ hc_ he_ => ok_Bt_image_70 hB_ hc_ (fun e_ h_ => ?_)) 4096 _ hb15
    · have e9_ := he_ _ h_
      rw [e9_]
      refine xr_iconst (pc := 128) dX6_image_128 xci_0 ?_
      refine xr_istore_n (pc := 129) (loc' := [(1, .int 0), (0, .ref m)]) dX6_image_129 rfl (by decide) rfl ?_
      refine xV_sub [1, 0] rfl ?_
      obtain ⟨b21, hb21, hf⟩ := xo_bind hf
      refine itr_rule (P := fun s_ : Int32 × TS => xV (wT D m) K mX6_image (xQ (wT D m) K Z) s_.2 130 [(0, .ref m), (1, .int s_.1)] []) (fun s_ o_ hB_ hc_ he_ => ok_Bt_image_130 hB_ hc_ (fun e_ h_ => ?_)) 4096 _ hb21
      · have e9_ := he_ _ h_
        rw [e9_]
        refine xr_aload_n (pc := 170) 0 dX6_image_170 rfl rfl ?_
        refine xr_aload_n (pc := 171) 0 dX6_image_171 rfl rfl ?_
        refine xt_getA (pc := 172) 130 (by decide) q1876 rfl rfl rfl dX6_image_172 ?_
        refine xr_aload_n (pc := 175) 0 dX6_image_175 rfl rfl ?_
        refine xt_getI (pc := 176) 131 (by decide) q1877 rfl rfl rfl dX6_image_176 ?_
        obtain ⟨r22, τ22, hτ22, hf⟩ := xo_bd hf
        refine call_f_t_checked (pc := 179) hτ22 rfl (Nat.le_of_ble_eq_true rfl) (Nat.le_of_ble_eq_true rfl) (Nat.le_of_ble_eq_true rfl) dX6_image_179 ?_
        obtain ⟨τ23, hτ23, hf⟩ := xo_bind hf
        refine call_f_t_writes (pc := 182) hτ23 rfl (Nat.le_of_ble_eq_true rfl) (Nat.le_of_ble_eq_true rfl) (Nat.le_of_ble_eq_true rfl) dX6_image_182 ?_
        refine xr_aload_n (pc := 185) 0 dX6_image_185 rfl rfl ?_
        refine xt_getI (pc := 186) 131 (by decide) q1877 rfl rfl rfl dX6_image_186 ?_
        rw [kr _ (Option.some.inj hf).symm]
        exact xr_iret (pc := 189) dX6_image_189 rfl
theorem met_f_t_image (l : Launch) {D : TD} {m : Nat} {τ : TS} {o_ : (Int32 × TS)} (hf : f_t_image τ = some o_) : xMet (wT D m) l yX6_image (ws_ yX6_image cX6_image 3 (some .int)) 2 120 0 0 [.ref m] τ (some (.int o_.1), o_.2) :=
  xMet_of (by decide) (Nat.le_of_ble_eq_true rfl) KT_moved (fun _ _ => trivial) (fun K _ _ _ => ok_f_t_image hf (fun _ h => by rw [h]))
abbrev mX6_octet : xM := (cX6_octet, 2, RX6, 0, 0, (some .int), "octet")
def Jt_octet_21 (τ : TS) : Option (Int32 × TS) :=
  some (((-1), τ))
theorem ok_Jt_octet_21 {D : TD} {m : Nat} {K : xK} {Z : Option Value × TS} {τ : TS} {o_ : (Int32 × TS)} (hf : Jt_octet_21 τ = some o_) (kr : ∀ r_ : (Int32 × TS), o_ = r_ → Z = (some (.int r_.1), r_.2)) : xV (wT D m) K mX6_octet (xQ (wT D m) K Z) τ 21 [] [] := by
  unfold Jt_octet_21 at hf
  refine xr_iconst (pc := 21) dX6_octet_21 xci_m1 ?_
  rw [kr _ (Option.some.inj hf).symm]
  exact xr_iret (pc := 22) dX6_octet_22 rfl
def f_t_octet (x1 : Int32) (τ : TS) : Option (Int32 × TS) :=
  if x1 < 0 then
  Jt_octet_21 τ
  else
  if (tI τ 131) ≤ x1 then
  Jt_octet_21 τ
  else
  if xin x1 191 = true then
  some ((tA τ 130 x1.toNatClampNeg, τ))
  else none
theorem ok_f_t_octet {D : TD} {m : Nat} {K : xK} {Z : Option Value × TS} {x1 : Int32} {τ : TS} {o_ : (Int32 × TS)} (hf : f_t_octet x1 τ = some o_) (kr : ∀ r_ : (Int32 × TS), o_ = r_ → Z = (some (.int r_.1), r_.2)) : xV (wT D m) K mX6_octet (xQ (wT D m) K Z) τ 0 [(0, .ref m), (1, .int x1)] [] := by
  unfold f_t_octet at hf
  refine xr_iload_n (pc := 0) 1 dX6_octet_0 rfl rfl ?_
  refine xr_if_lt (pc := 1) 21 dX6_octet_1 (by decide) (fun c_ => ?_) (fun c_ => ?_)
  · have hf := xo_pos c_ hf
    refine xV_sub [] rfl ?_
    exact ok_Jt_octet_21 hf kr
  · have hf := xo_neg c_ hf
    refine xr_iload_n (pc := 4) 1 dX6_octet_4 rfl rfl ?_
    refine xr_aload_n (pc := 5) 0 dX6_octet_5 rfl rfl ?_
    refine xt_getI (pc := 6) 131 (by decide) q1877 rfl rfl rfl dX6_octet_6 ?_
    refine xr_icmp_ge (pc := 9) 21 dX6_octet_9 (by decide) (fun c_ => ?_) (fun c_ => ?_)
    · have hf := xo_pos c_ hf
      refine xV_sub [] rfl ?_
      exact ok_Jt_octet_21 hf kr
    · have hf := xo_neg c_ hf
      refine xr_aload_n (pc := 12) 0 dX6_octet_12 rfl rfl ?_
      refine xt_getA (pc := 13) 130 (by decide) q1876 rfl rfl rfl dX6_octet_13 ?_
      refine xr_iload_n (pc := 16) 1 dX6_octet_16 rfl rfl ?_
      obtain ⟨hi_, hf⟩ := xo_if hf
      refine xt_iald (pc := 17) 130 rfl rfl hi_ dX6_octet_17 ?_
      refine xr_goto (pc := 18) 22 dX6_octet_18 (by decide) ?_
      rw [kr _ (Option.some.inj hf).symm]
      exact xr_iret (pc := 22) dX6_octet_22 rfl
theorem met_f_t_octet (l : Launch) {D : TD} {m : Nat} {x1 : Int32} {τ : TS} {o_ : (Int32 × TS)} (hf : f_t_octet x1 τ = some o_) : xMet (wT D m) l yX6_octet (ws_ yX6_octet cX6_octet 2 (some .int)) 0 0 0 0 [.ref m, .int x1] τ (some (.int o_.1), o_.2) :=
  xMet_of (by decide) (Nat.le_of_ble_eq_true rfl) KT_moved (fun _ _ => trivial) (fun K _ _ _ => ok_f_t_octet hf (fun _ h => by rw [h]))
abbrev mX6_cellsFrom : xM := (cX6_cellsFrom, 1, RX6, 1, 60, (some .int), "cellsFrom")
def f_t_cellsFrom (τ : TS) : Option (Int32 × TS) :=
  xbd (f_t_columnMany τ) fun r1 τ1 =>
  some ((5 + r1, τ1))
theorem ok_f_t_cellsFrom {D : TD} {m : Nat} {K : xK} {Z : Option Value × TS} {τ : TS} {o_ : (Int32 × TS)} (hf : f_t_cellsFrom τ = some o_) (kr : ∀ r_ : (Int32 × TS), o_ = r_ → Z = (some (.int r_.1), r_.2)) : xV (wT D m) K mX6_cellsFrom (xQ (wT D m) K Z) τ 0 [(0, .ref m)] [] := by
  unfold f_t_cellsFrom at hf
  refine xr_iconst (pc := 0) dX6_cellsFrom_0 xci_5 ?_
  refine xr_aload_n (pc := 1) 0 dX6_cellsFrom_1 rfl rfl ?_
  obtain ⟨r1, τ1, hτ1, hf⟩ := xo_bd hf
  refine call_f_t_columnMany (pc := 2) hτ1 rfl (Nat.le_of_ble_eq_true rfl) (Nat.le_of_ble_eq_true rfl) (Nat.le_of_ble_eq_true rfl) dX6_cellsFrom_2 ?_
  refine xr_iadd (pc := 5) dX6_cellsFrom_5 ?_
  rw [kr _ (Option.some.inj hf).symm]
  exact xr_iret (pc := 6) dX6_cellsFrom_6 rfl
theorem met_f_t_cellsFrom (l : Launch) {D : TD} {m : Nat} {τ : TS} {o_ : (Int32 × TS)} (hf : f_t_cellsFrom τ = some o_) : xMet (wT D m) l yX6_cellsFrom (ws_ yX6_cellsFrom cX6_cellsFrom 1 (some .int)) 1 60 0 0 [.ref m] τ (some (.int o_.1), o_.2) :=
  xMet_of (by decide) (Nat.le_of_ble_eq_true rfl) KT_moved (fun _ _ => trivial) (fun K _ _ _ => ok_f_t_cellsFrom hf (fun _ h => by rw [h]))
theorem hd_f_t_cellsFrom : yX6_cellsFrom.cls = RX6 ∧ yX6_cellsFrom.cls ≠ "java/lang/invoke/MethodHandle" ∧ yX6_cellsFrom.cls ≠ "java/lang/invoke/VarHandle" ∧ (parseMethodDescriptor yX6_cellsFrom.desc).map (fun d => d.parameters.length) = some 0 := by decide +kernel
theorem call_f_t_cellsFrom {D : TD} {m : Nat} {K : xK} {M : xM} {Q : State → Prop} {τ : TS} {pc : Nat} {loc : List (Nat × Value)} {st : List Value} {r : Int32} {τ1 : TS} (hf : f_t_cellsFrom τ = some (r, τ1)) (ho : M.2.2.1 = RX6) (hfr : 2 ≤ M.2.2.2.1) (hlo : 80 ≤ M.2.2.2.2.1) (hcat : (st.map fun v => v.category).sum ≤ 8) (d : decode M.1 pc = .ok (.invokevirtual 801, 3)) (k : xV (wT D m) K M Q τ1 (pc + 3) loc (.int r :: st)) : xV (wT D m) K M Q τ pc loc (.ref m :: st) :=
  xr_callV (As := []) (rest := st) (met_f_t_cellsFrom K.2.1 hf) (lw_V q2735 q2737 qs171 q186 q2738) hd_f_t_cellsFrom ho hfr hlo rfl (fun H hR hK => t_recv H hR hK) rfl hcat d k
