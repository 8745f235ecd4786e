set_option maxRecDepth 100000
theorem xcb_50 : (Int8.ofInt 50).toInt32 = 50 := by decide +kernel
theorem xcb_98 : (Int8.ofInt 98).toInt32 = 98 := by decide +kernel
theorem xcb_101 : (Int8.ofInt 101).toInt32 = 101 := by decide +kernel
theorem xcb_102 : (Int8.ofInt 102).toInt32 = 102 := by decide +kernel
theorem xcb_104 : (Int8.ofInt 104).toInt32 = 104 := by decide +kernel
theorem xcb_105 : (Int8.ofInt 105).toInt32 = 105 := by decide +kernel
theorem xcb_106 : (Int8.ofInt 106).toInt32 = 106 := by decide +kernel
theorem xcb_108 : (Int8.ofInt 108).toInt32 = 108 := by decide +kernel
theorem xcb_109 : (Int8.ofInt 109).toInt32 = 109 := by decide +kernel
theorem xcb_110 : (Int8.ofInt 110).toInt32 = 110 := by decide +kernel
theorem xcb_111 : (Int8.ofInt 111).toInt32 = 111 := by decide +kernel
theorem xcb_112 : (Int8.ofInt 112).toInt32 = 112 := by decide +kernel
theorem xcb_114 : (Int8.ofInt 114).toInt32 = 114 := by decide +kernel
theorem xcb_115 : (Int8.ofInt 115).toInt32 = 115 := by decide +kernel
theorem xcb_116 : (Int8.ofInt 116).toInt32 = 116 := by decide +kernel
theorem xcb_117 : (Int8.ofInt 117).toInt32 = 117 := by decide +kernel
theorem xcb_118 : (Int8.ofInt 118).toInt32 = 118 := by decide +kernel
theorem xcb_119 : (Int8.ofInt 119).toInt32 = 119 := by decide +kernel
theorem xcb_120 : (Int8.ofInt 120).toInt32 = 120 := by decide +kernel
theorem xcb_121 : (Int8.ofInt 121).toInt32 = 121 := by decide +kernel
theorem xcs_160 : (Int16.ofInt 160).toInt32 = 160 := by decide +kernel
theorem xcs_191 : (Int16.ofInt 191).toInt32 = 191 := by decide +kernel
theorem xcs_248 : (Int16.ofInt 248).toInt32 = 248 := by decide +kernel
theorem xcs_640 : (Int16.ofInt 640).toInt32 = 640 := by decide +kernel
theorem xcs_783 : (Int16.ofInt 783).toInt32 = 783 := by decide +kernel
theorem xcs_1700 : (Int16.ofInt 1700).toInt32 = 1700 := by decide +kernel
theorem xcs_3200 : (Int16.ofInt 3200).toInt32 = 3200 := by decide +kernel
theorem xcs_6060 : (Int16.ofInt 6060).toInt32 = 6060 := by decide +kernel
def xzI : Int32 ⊕ Nat → Option Value ⊕ Nat
  | .inl v => .inl (some (.int v))
  | .inr q => .inr q
def xzJ : Int64 ⊕ Nat → Option Value ⊕ Nat
  | .inl v => .inl (some (.long v))
  | .inr q => .inr q
def xzR : Nat ⊕ Nat → Option Value ⊕ Nat
  | .inl v => .inl (some (.ref v))
  | .inr q => .inr q
def xzV : Unit ⊕ Nat → Option Value ⊕ Nat
  | .inl _ => .inl none
  | .inr q => .inr q
def xbx {α β : Type} (o : Option ((α ⊕ Nat) × CS)) (f : α → CS → Option β) (h : Nat → CS → Option β) : Option β :=
  match o with
  | none => none
  | some (.inl v, t) => f v t
  | some (.inr q, t) => h q t
theorem xo_bx {α β : Type} {o : Option ((α ⊕ Nat) × CS)} {f : α → CS → Option β} {h : Nat → CS → Option β} {r : β} (e : xbx o f h = some r) : (∃ v t, o = some (.inl v, t) ∧ f v t = some r) ∨ (∃ q t, o = some (.inr q, t) ∧ h q t = some r) := by
  rcases o with _ | ⟨v | q, t⟩
  · cases e
  · exact Or.inl ⟨v, t, rfl, e⟩
  · exact Or.inr ⟨q, t, rfl, e⟩
abbrev mX2_byteAt : xM := (cX2_byteAt, 2, RX2, 0, 0, (some .int), "byteAt")
def Jc_X2_byteAt_28 (g : CG) (τ : CC) : Option (Int32 × CC) :=
  some (((-1), τ))
theorem ok_Jc_X2_byteAt_28 {D : CD} {P : CP} {K : xK} {g : CG} {Z : Option Value × CS} {τ : CC} {o_ : (Int32 × CC)} (hf : Jc_X2_byteAt_28 g τ = some o_) (kr : ∀ r_ : (Int32 × CC), o_ = r_ → Z = (some (.int r_.1), (g, r_.2))) : xV (wC D P) K mX2_byteAt (xQ (wC D P) K Z) (g, τ) 28 [] [] := by
  unfold Jc_X2_byteAt_28 at hf
  refine xr_iconst (pc := 28) dX2_byteAt_28 xci_m1 ?_
  rw [kr _ (Option.some.inj hf).symm]
  exact xr_iret (pc := 29) dX2_byteAt_29 rfl
def f_c_X2_byteAt (g : CG) (x0 : Nat) (x1 : Int32) (τ : CC) : Option (Int32 × CC) :=
  if x1 < 0 then
  Jc_X2_byteAt_28 g τ
  else
  if gT g x0 = 3 then
  if (cI τ 301 x0) ≤ x1 then
  Jc_X2_byteAt_28 g τ
  else
  (gR g 307 x0).bind fun b2 =>
  if gT g b2 = 1 then
  (gR g 101 b2).bind fun b4 =>
  if gT g b4 = 103 then
  if xin x1 (gN g b4) = true then
  some (((cA τ b4 x1.toNatClampNeg) &&& 255, τ))
  else none
  else none
  else none
  else none
theorem ok_f_c_X2_byteAt {D : CD} {P : CP} {K : xK} {g : CG} {Z : Option Value × CS} {x0 : Nat} {x1 : Int32} {τ : CC} {o_ : (Int32 × CC)} (hf : f_c_X2_byteAt g x0 x1 τ = some o_) (kr : ∀ r_ : (Int32 × CC), o_ = r_ → Z = (some (.int r_.1), (g, r_.2))) : xV (wC D P) K mX2_byteAt (xQ (wC D P) K Z) (g, τ) 0 [(0, .ref x0), (1, .int x1)] [] := by
  unfold f_c_X2_byteAt at hf
  refine xr_iload_n (pc := 0) 1 dX2_byteAt_0 rfl rfl ?_
  refine xr_if_lt (pc := 1) 28 dX2_byteAt_1 (by decide) (fun c_ => ?_) (fun c_ => ?_)
  · have hf := xo_pos c_ hf
    refine xV_sub [] rfl ?_
    exact ok_Jc_X2_byteAt_28 hf kr
  · have hf := xo_neg c_ hf
    refine xr_iload_n (pc := 4) 1 dX2_byteAt_4 rfl rfl ?_
    refine xr_aload_n (pc := 5) 0 dX2_byteAt_5 rfl rfl ?_
    obtain ⟨ht1, hf⟩ := xo_if hf
    refine yc_getI (pc := 6) 3 1 301 (gKo ht1 (by decide)) (by decide) (by decide) (by decide) rfl rfl q389 (ys_eq rfl) rfl dX2_byteAt_6 ?_
    refine xr_icmp_ge (pc := 9) 28 dX2_byteAt_9 (by decide) (fun c_ => ?_) (fun c_ => ?_)
    · have hf := xo_pos c_ hf
      refine xV_sub [] rfl ?_
      exact ok_Jc_X2_byteAt_28 hf kr
    · have hf := xo_neg c_ hf
      refine xr_aload_n (pc := 12) 0 dX2_byteAt_12 rfl rfl ?_
      obtain ⟨b2, hb2, hf⟩ := xo_bind hf
      refine yc_getFs (pc := 13) 3 7 307 (gKo ht1 (by decide)) (by decide) (by decide) (by decide) rfl rfl hb2 q395 (ys_eq rfl) rfl dX2_byteAt_13 ?_
      obtain ⟨ht3, hf⟩ := xo_if hf
      obtain ⟨b4, hb4, hf⟩ := xo_bind hf
      refine yc_getFsN (pc := 16) 1 1 101 (gKo ht3 (by decide)) (by decide) (by decide) (by decide) rfl rfl hb4 q485 (ys_eq rfl) rfl dX2_byteAt_16 ?_
      refine xr_iload_n (pc := 19) 1 dX2_byteAt_19 rfl rfl ?_
      obtain ⟨ht5, hf⟩ := xo_if hf
      obtain ⟨hi_, hf⟩ := xo_if hf
      refine yc_bald (pc := 20) (gKo ht5 (by decide)) hi_ dX2_byteAt_20 ?_
      refine xr_sipush (pc := 21) dX2_byteAt_21 xcs_255 ?_
      refine xr_iand (pc := 24) dX2_byteAt_24 ?_
      refine xr_goto (pc := 25) 29 dX2_byteAt_25 (by decide) ?_
      rw [kr _ (Option.some.inj hf).symm]
      exact xr_iret (pc := 29) dX2_byteAt_29 rfl
theorem met_f_c_X2_byteAt (l : Launch) {D : CD} {P : CP} {g : CG} {x0 : Nat} {x1 : Int32} {τ : CC} {o_ : (Int32 × CC)} (hf : f_c_X2_byteAt g x0 x1 τ = some o_) : xMet (wC D P) l yX2_byteAt (ws_ yX2_byteAt cX2_byteAt 2 (some .int)) 0 0 (grc g) (grs g) [.ref x0, .int x1] (g, τ) (some (.int o_.1), (g, o_.2)) := 
  xMet_of (by decide) (Nat.le_of_ble_eq_true rfl) KC_moved RPC_of (fun K _ _ _ => ok_f_c_X2_byteAt hf (fun _ h => by rw [h]))
theorem hd_f_c_X2_byteAt : yX2_byteAt.cls ≠ "java/lang/invoke/MethodHandle" ∧ yX2_byteAt.cls ≠ "java/lang/invoke/VarHandle" ∧ (parseMethodDescriptor yX2_byteAt.desc).map (fun d => d.parameters.length) = some 1 := by decide +kernel
theorem call_f_c_X2_byteAt_X2_39 {D : CD} {P : CP} {K : xK} {M : xM} {Q : State → Prop} {g : CG} {c : CC} {x0 : Nat} {x1 : Int32} {pc : Nat} {loc : List (Nat × Value)} {st : List Value} {r : Int32} {c1 : CC} (hf : f_c_X2_byteAt g x0 x1 c = some (r, c1)) (hr : gK g x0 = 3) (ho : M.2.2.1 = RX2) (hfr : 1 ≤ M.2.2.2.1) (hlo : 21 ≤ M.2.2.2.2.1) (hcat : (st.map fun v => v.category).sum ≤ 8) (d : decode M.1 pc = .ok (.invokevirtual 39, 3)) (k : xV (wC D P) K M Q (g, c1) (pc + 3) loc (.int r :: st)) : xV (wC D P) K M Q (g, c) pc loc (.int x1 :: .ref x0 :: st) :=
  yc_callV (As := [.int x1]) (rest := st) (met_f_c_X2_byteAt K.2.1 hf) (lw_V q606 q608 qs7 q179 q609) ⟨rfl, hd_f_c_X2_byteAt⟩ ho hfr hlo rfl hr (by decide) (by decide) rfl rfl hcat d k
abbrev mX2_here : xM := (cX2_here, 1, RX2, 1, 60, (some .int), "here")
def Jc_X2_here_26 (g : CG) (x0 : Nat) (τ : CC) : Option ((CC) ⊕ ((CC))) :=
  if gT g x0 = 3 then
  some (.inl (uI τ 302 x0 ((cI τ 302 x0) + 1)))
  else none
theorem ok_Jc_X2_here_26 {D : CD} {P : CP} {K : xK} {g : CG} {Z : Option Value × CS} {x0 : Nat} {τ : CC} {o_ : ((CC) ⊕ ((CC)))} (hf : Jc_X2_here_26 g x0 τ = some o_) (kc : ∀ s_ : CC, o_ = .inl s_ → xV (wC D P) K mX2_here (xQ (wC D P) K Z) (g, s_) 0 [(0, .ref x0)] []) (ke0 : ∀ e_ : CC, o_ = .inr e_ → xV (wC D P) K mX2_here (xQ (wC D P) K Z) (g, e_) 39 [(0, .ref x0)] []) : xV (wC D P) K mX2_here (xQ (wC D P) K Z) (g, τ) 26 [(0, .ref x0)] [] := by
  unfold Jc_X2_here_26 at hf
  refine xr_aload_n (pc := 26) 0 dX2_here_26 rfl rfl ?_
  refine xr_dup (pc := 27) dX2_here_27 rfl ?_
  obtain ⟨ht3, hf⟩ := xo_if hf
  refine yc_getI (pc := 28) 3 2 302 (gKo ht3 (by decide)) (by decide) (by decide) (by decide) rfl rfl q390 (ys_eq rfl) rfl dX2_here_28 ?_
  refine xr_iconst (pc := 31) dX2_here_31 xci_1 ?_
  refine xr_iadd (pc := 32) dX2_here_32 ?_
  refine yc_putI (pc := 33) 3 2 302 ht3 (by decide) (by decide) (by decide) rfl rfl rfl (ty := .int) (by decide +kernel) rfl rfl q390 (ys_eq rfl) rfl dX2_here_33 ?_
  refine xr_goto (pc := 36) 0 dX2_here_36 (by decide) ?_
  exact kc _ (Option.some.inj hf).symm
def Bc_X2_here_0 (g : CG) (x0 : Nat) (τ : CC) : Option ((CC) ⊕ ((CC))) :=
  if gT g x0 = 3 then
  xbd (f_c_X2_byteAt g x0 (cI τ 302 x0) τ) fun r2 τ2 =>
  if r2 = 32 then
  Jc_X2_here_26 g x0 τ2
  else
  xbd (f_c_X2_byteAt g x0 (cI τ2 302 x0) τ2) fun r4 τ4 =>
  if r4 = 10 then
  Jc_X2_here_26 g x0 τ4
  else
  some (.inr τ4)
  else none
theorem ok_Bc_X2_here_0 {D : CD} {P : CP} {K : xK} {g : CG} {Z : Option Value × CS} {x0 : Nat} {τ : CC} {o_ : ((CC) ⊕ ((CC)))} (hf : Bc_X2_here_0 g x0 τ = some o_) (kc : ∀ s_ : CC, o_ = .inl s_ → xV (wC D P) K mX2_here (xQ (wC D P) K Z) (g, s_) 0 [(0, .ref x0)] []) (ke0 : ∀ e_ : CC, o_ = .inr e_ → xV (wC D P) K mX2_here (xQ (wC D P) K Z) (g, e_) 39 [(0, .ref x0)] []) : xV (wC D P) K mX2_here (xQ (wC D P) K Z) (g, τ) 0 [(0, .ref x0)] [] := by
  unfold Bc_X2_here_0 at hf
  refine xr_aload_n (pc := 0) 0 dX2_here_0 rfl rfl ?_
  refine xr_aload_n (pc := 1) 0 dX2_here_1 rfl rfl ?_
  obtain ⟨ht1, hf⟩ := xo_if hf
  refine yc_getI (pc := 2) 3 2 302 (gKo ht1 (by decide)) (by decide) (by decide) (by decide) rfl rfl q390 (ys_eq rfl) rfl dX2_here_2 ?_
  obtain ⟨r2, τ2, hτ2, hf⟩ := xo_bd hf
  refine call_f_c_X2_byteAt_X2_39 (pc := 5) hτ2 (gKo ht1 (by decide)) rfl (Nat.le_of_ble_eq_true rfl) (Nat.le_of_ble_eq_true rfl) (Nat.le_of_ble_eq_true rfl) dX2_here_5 ?_
  refine xr_bipush (pc := 8) dX2_here_8 xcb_32 ?_
  refine xr_icmp_eq (pc := 10) 26 dX2_here_10 (by decide) (fun c_ => ?_) (fun c_ => ?_)
  · have hf := xo_pos c_ hf
    exact ok_Jc_X2_here_26 hf kc ke0
  · have hf := xo_neg c_ hf
    refine xr_aload_n (pc := 13) 0 dX2_here_13 rfl rfl ?_
    refine xr_aload_n (pc := 14) 0 dX2_here_14 rfl rfl ?_
    refine yc_getI (pc := 15) 3 2 302 (gKo ht1 (by decide)) (by decide) (by decide) (by decide) rfl rfl q390 (ys_eq rfl) rfl dX2_here_15 ?_
    obtain ⟨r4, τ4, hτ4, hf⟩ := xo_bd hf
    refine call_f_c_X2_byteAt_X2_39 (pc := 18) hτ4 (gKo ht1 (by decide)) rfl (Nat.le_of_ble_eq_true rfl) (Nat.le_of_ble_eq_true rfl) (Nat.le_of_ble_eq_true rfl) dX2_here_18 ?_
    refine xr_bipush (pc := 21) dX2_here_21 xcb_10 ?_
    refine xr_icmp_ne (pc := 23) 39 dX2_here_23 (by decide) (fun c_ => ?_) (fun c_ => ?_)
    · have hf := xo_pos c_ hf
      exact ok_Jc_X2_here_26 hf kc ke0
    · have hf := xo_neg c_ hf
      exact ke0 _ (Option.some.inj hf).symm
def f_c_X2_here (g : CG) (x0 : Nat) (τ : CC) : Option (Int32 × CC) :=
  (itr (fun s_ : CC => Bc_X2_here_0 g x0 s_) 4096 τ).bind fun b5 =>
  if gT g x0 = 3 then
  xbd (f_c_X2_byteAt g x0 (cI b5 302 x0) b5) fun r7 τ7 =>
  some ((r7, τ7))
  else none
theorem ok_f_c_X2_here {D : CD} {P : CP} {K : xK} {g : CG} {Z : Option Value × CS} {x0 : Nat} {τ : CC} {o_ : (Int32 × CC)} (hf : f_c_X2_here g x0 τ = some o_) (kr : ∀ r_ : (Int32 × CC), o_ = r_ → Z = (some (.int r_.1), (g, r_.2))) : xV (wC D P) K mX2_here (xQ (wC D P) K Z) (g, τ) 0 [(0, .ref x0)] [] := by
  unfold f_c_X2_here at hf
  obtain ⟨b5, hb5, hf⟩ := xo_bind hf
  refine itr_rule (P := fun s_ : CC => xV (wC D P) K mX2_here (xQ (wC D P) K Z) (g, s_) 0 [(0, .ref x0)] []) (fun s_ o_ hB_ hc_ he_ => ok_Bc_X2_here_0 hB_ hc_ (fun e_ h_ => ?_)) 4096 _ hb5
  · have e9_ := he_ _ h_
    rw [e9_]
    refine xr_aload_n (pc := 39) 0 dX2_here_39 rfl rfl ?_
    refine xr_aload_n (pc := 40) 0 dX2_here_40 rfl rfl ?_
    obtain ⟨ht6, hf⟩ := xo_if hf
    refine yc_getI (pc := 41) 3 2 302 (gKo ht6 (by decide)) (by decide) (by decide) (by decide) rfl rfl q390 (ys_eq rfl) rfl dX2_here_41 ?_
    obtain ⟨r7, τ7, hτ7, hf⟩ := xo_bd hf
    refine call_f_c_X2_byteAt_X2_39 (pc := 44) hτ7 (gKo ht6 (by decide)) rfl (Nat.le_of_ble_eq_true rfl) (Nat.le_of_ble_eq_true rfl) (Nat.le_of_ble_eq_true rfl) dX2_here_44 ?_
    rw [kr _ (Option.some.inj hf).symm]
    exact xr_iret (pc := 47) dX2_here_47 rfl
theorem met_f_c_X2_here (l : Launch) {D : CD} {P : CP} {g : CG} {x0 : Nat} {τ : CC} {o_ : (Int32 × CC)} (hf : f_c_X2_here g x0 τ = some o_) : xMet (wC D P) l yX2_here (ws_ yX2_here cX2_here 1 (some .int)) 1 60 (grc g) (grs g) [.ref x0] (g, τ) (some (.int o_.1), (g, o_.2)) := 
  xMet_of (by decide) (Nat.le_of_ble_eq_true rfl) KC_moved RPC_of (fun K _ _ _ => ok_f_c_X2_here hf (fun _ h => by rw [h]))
abbrev mX2_wrong : xM := (cX2_wrong, 3, RX2, 0, 0, (some (.object "BentRiver$Fault")), "wrong")
def f_c_X2_wrong (g : CG) (x0 : Nat) (x1 : Int32) (x2 : Int32) (τ : CC) : Option (Nat × CC) :=
  if gT g x0 = 3 then
  (gR g 300 x0).bind fun b2 =>
  if gT g b2 = 4 then
  some ((b2, uI (uI τ 406 b2 x1) 407 b2 x2))
  else none
  else none
theorem ok_f_c_X2_wrong {D : CD} {P : CP} {K : xK} {g : CG} {Z : Option Value × CS} {x0 : Nat} {x1 : Int32} {x2 : Int32} {τ : CC} {o_ : (Nat × CC)} (hf : f_c_X2_wrong g x0 x1 x2 τ = some o_) (kr : ∀ r_ : (Nat × CC), o_ = r_ → Z = (some (.ref r_.1), (g, r_.2))) : xV (wC D P) K mX2_wrong (xQ (wC D P) K Z) (g, τ) 0 [(0, .ref x0), (1, .int x1), (2, .int x2)] [] := by
  unfold f_c_X2_wrong at hf
  refine xr_aload_n (pc := 0) 0 dX2_wrong_0 rfl rfl ?_
  obtain ⟨ht1, hf⟩ := xo_if hf
  obtain ⟨b2, hb2, hf⟩ := xo_bind hf
  refine yc_getFs (pc := 1) 3 0 300 (gKo ht1 (by decide)) (by decide) (by decide) (by decide) rfl rfl hb2 q388 (ys_eq rfl) rfl dX2_wrong_1 ?_
  refine xr_iload_n (pc := 4) 1 dX2_wrong_4 rfl rfl ?_
  obtain ⟨ht3, hf⟩ := xo_if hf
  refine yc_putIN (pc := 5) 4 6 406 ht3 (by decide) (by decide) (by decide) rfl rfl rfl (ty := .int) (by decide +kernel) rfl rfl q366 (ys_eq rfl) rfl dX2_wrong_5 ?_
  refine xr_aload_n (pc := 8) 0 dX2_wrong_8 rfl rfl ?_
  refine yc_getFs (pc := 9) 3 0 300 (gKo ht1 (by decide)) (by decide) (by decide) (by decide) rfl rfl hb2 q388 (ys_eq rfl) rfl dX2_wrong_9 ?_
  refine xr_iload_n (pc := 12) 2 dX2_wrong_12 rfl rfl ?_
  refine yc_putIN (pc := 13) 4 7 407 ht3 (by decide) (by decide) (by decide) rfl rfl rfl (ty := .int) (by decide +kernel) rfl rfl q368 (ys_eq rfl) rfl dX2_wrong_13 ?_
  refine xr_aload_n (pc := 16) 0 dX2_wrong_16 rfl rfl ?_
  refine yc_getFs (pc := 17) 3 0 300 (gKo ht1 (by decide)) (by decide) (by decide) (by decide) rfl rfl hb2 q388 (ys_eq rfl) rfl dX2_wrong_17 ?_
  rw [kr _ (Option.some.inj hf).symm]
  exact xr_aret (pc := 20) dX2_wrong_20 rfl (Or.inl ⟨_, rfl⟩)
theorem met_f_c_X2_wrong (l : Launch) {D : CD} {P : CP} {g : CG} {x0 : Nat} {x1 : Int32} {x2 : Int32} {τ : CC} {o_ : (Nat × CC)} (hf : f_c_X2_wrong g x0 x1 x2 τ = some o_) : xMet (wC D P) l yX2_wrong (ws_ yX2_wrong cX2_wrong 3 (some (.object "BentRiver$Fault"))) 0 0 (grc g) (grs g) [.ref x0, .int x1, .int x2] (g, τ) (some (.ref o_.1), (g, o_.2)) := 
  xMet_of (by decide) (Nat.le_of_ble_eq_true rfl) KC_moved RPC_of (fun K _ _ _ => ok_f_c_X2_wrong hf (fun _ h => by rw [h]))
theorem hd_f_c_X2_here : yX2_here.cls ≠ "java/lang/invoke/MethodHandle" ∧ yX2_here.cls ≠ "java/lang/invoke/VarHandle" ∧ (parseMethodDescriptor yX2_here.desc).map (fun d => d.parameters.length) = some 0 := by decide +kernel
theorem call_f_c_X2_here_X2_43 {D : CD} {P : CP} {K : xK} {M : xM} {Q : State → Prop} {g : CG} {c : CC} {x0 : Nat} {pc : Nat} {loc : List (Nat × Value)} {st : List Value} {r : Int32} {c1 : CC} (hf : f_c_X2_here g x0 c = some (r, c1)) (hr : gK g x0 = 3) (ho : M.2.2.1 = RX2) (hfr : 2 ≤ M.2.2.2.1) (hlo : 80 ≤ M.2.2.2.2.1) (hcat : (st.map fun v => v.category).sum ≤ 8) (d : decode M.1 pc = .ok (.invokevirtual 43, 3)) (k : xV (wC D P) K M Q (g, c1) (pc + 3) loc (.int r :: st)) : xV (wC D P) K M Q (g, c) pc loc (.ref x0 :: st) :=
  yc_callV (As := []) (rest := st) (met_f_c_X2_here K.2.1 hf) (lw_V q602 q604 qs6 q179 q605) ⟨rfl, hd_f_c_X2_here⟩ ho hfr hlo rfl hr (by decide) (by decide) rfl rfl hcat d k
abbrev mX2_takes : xM := (cX2_takes, 3, RX2, 2, 120, (some .boolean), "takes")
def Jc_X2_takes_28 (g : CG) (x2 : Int32) (s0 : Int32) (s1 : Int32) (s2 : Nat) (τ : CC) : Option (Int32 × CC) :=
  if gT g s2 = 3 then
  some ((x2 &&& 1, uI τ 302 s2 (s1 + s0)))
  else none
theorem ok_Jc_X2_takes_28 {D : CD} {P : CP} {K : xK} {g : CG} {Z : Option Value × CS} {x2 : Int32} {s0 : Int32} {s1 : Int32} {s2 : Nat} {τ : CC} {o_ : (Int32 × CC)} (hf : Jc_X2_takes_28 g x2 s0 s1 s2 τ = some o_) (kr : ∀ r_ : (Int32 × CC), o_ = r_ → Z = (some (.int r_.1), (g, r_.2))) : xV (wC D P) K mX2_takes (xQ (wC D P) K Z) (g, τ) 28 [(2, .int x2)] [.int s0, .int s1, .ref s2] := by
  unfold Jc_X2_takes_28 at hf
  refine xr_iadd (pc := 28) dX2_takes_28 ?_
  obtain ⟨ht4, hf⟩ := xo_if hf
  refine yc_putI (pc := 29) 3 2 302 ht4 (by decide) (by decide) (by decide) rfl rfl rfl (ty := .int) (by decide +kernel) rfl rfl q390 (ys_eq rfl) rfl dX2_takes_29 ?_
  refine xr_iload_n (pc := 32) 0 dX2_takes_32 rfl rfl ?_
  rw [kr _ (Option.some.inj hf).symm]
  exact xr_zret (pc := 33) dX2_takes_33 rfl rfl
def Jc_X2_takes_13 (g : CG) (x0 : Nat) (s0 : Int32) (τ : CC) : Option (Int32 × CC) :=
  if gT g x0 = 3 then
  if s0 = 0 then
  Jc_X2_takes_28 g s0 0 (cI τ 302 x0) x0 τ
  else
  Jc_X2_takes_28 g s0 1 (cI τ 302 x0) x0 τ
  else none
theorem ok_Jc_X2_takes_13 {D : CD} {P : CP} {K : xK} {g : CG} {Z : Option Value × CS} {x0 : Nat} {s0 : Int32} {τ : CC} {o_ : (Int32 × CC)} (hf : Jc_X2_takes_13 g x0 s0 τ = some o_) (kr : ∀ r_ : (Int32 × CC), o_ = r_ → Z = (some (.int r_.1), (g, r_.2))) : xV (wC D P) K mX2_takes (xQ (wC D P) K Z) (g, τ) 13 [(0, .ref x0)] [.int s0] := by
  unfold Jc_X2_takes_13 at hf
  refine xr_istore_n (pc := 13) (loc' := [(2, .int s0), (0, .ref x0)]) dX2_takes_13 rfl (by decide) rfl ?_
  refine xr_aload_n (pc := 14) 1 dX2_takes_14 rfl rfl ?_
  refine xr_dup (pc := 15) dX2_takes_15 rfl ?_
  obtain ⟨ht3, hf⟩ := xo_if hf
  refine yc_getI (pc := 16) 3 2 302 (gKo ht3 (by decide)) (by decide) (by decide) (by decide) rfl rfl q390 (ys_eq rfl) rfl dX2_takes_16 ?_
  refine xr_iload_n (pc := 19) 0 dX2_takes_19 rfl rfl ?_
  refine xr_if_eq (pc := 20) 27 dX2_takes_20 (by decide) (fun c_ => ?_) (fun c_ => ?_)
  · have hf := xo_pos c_ hf
    refine xr_iconst (pc := 27) dX2_takes_27 xci_0 ?_
    refine xV_sub [0] rfl ?_
    exact ok_Jc_X2_takes_28 hf kr
  · have hf := xo_neg c_ hf
    refine xr_iconst (pc := 23) dX2_takes_23 xci_1 ?_
    refine xr_goto (pc := 24) 28 dX2_takes_24 (by decide) ?_
    refine xV_sub [0] rfl ?_
    exact ok_Jc_X2_takes_28 hf kr
def f_c_X2_takes (g : CG) (x0 : Nat) (x1 : Int32) (τ : CC) : Option (Int32 × CC) :=
  if gT g x0 = 3 then
  xbd (f_c_X2_here g x0 τ) fun r2 τ2 =>
  if r2 = x1 then
  Jc_X2_takes_13 g x0 1 τ2
  else
  Jc_X2_takes_13 g x0 0 τ2
  else none
theorem ok_f_c_X2_takes {D : CD} {P : CP} {K : xK} {g : CG} {Z : Option Value × CS} {x0 : Nat} {x1 : Int32} {τ : CC} {o_ : (Int32 × CC)} (hf : f_c_X2_takes g x0 x1 τ = some o_) (kr : ∀ r_ : (Int32 × CC), o_ = r_ → Z = (some (.int r_.1), (g, r_.2))) : xV (wC D P) K mX2_takes (xQ (wC D P) K Z) (g, τ) 0 [(0, .ref x0), (1, .int x1)] [] := by
  unfold f_c_X2_takes at hf
  refine xr_aload_n (pc := 0) 0 dX2_takes_0 rfl rfl ?_
  obtain ⟨ht1, hf⟩ := xo_if hf
  obtain ⟨r2, τ2, hτ2, hf⟩ := xo_bd hf
  refine call_f_c_X2_here_X2_43 (pc := 1) hτ2 (gKo ht1 (by decide)) rfl (Nat.le_of_ble_eq_true rfl) (Nat.le_of_ble_eq_true rfl) (Nat.le_of_ble_eq_true rfl) dX2_takes_1 ?_
  refine xr_iload_n (pc := 4) 1 dX2_takes_4 rfl rfl ?_
  refine xr_icmp_ne (pc := 5) 12 dX2_takes_5 (by decide) (fun c_ => ?_) (fun c_ => ?_)
  · have hf := xo_pos c_ hf
    refine xr_iconst (pc := 8) dX2_takes_8 xci_1 ?_
    refine xr_goto (pc := 9) 13 dX2_takes_9 (by decide) ?_
    refine xV_sub [0] rfl ?_
    exact ok_Jc_X2_takes_13 hf kr
  · have hf := xo_neg c_ hf
    refine xr_iconst (pc := 12) dX2_takes_12 xci_0 ?_
    refine xV_sub [0] rfl ?_
    exact ok_Jc_X2_takes_13 hf kr
theorem met_f_c_X2_takes (l : Launch) {D : CD} {P : CP} {g : CG} {x0 : Nat} {x1 : Int32} {τ : CC} {o_ : (Int32 × CC)} (hf : f_c_X2_takes g x0 x1 τ = some o_) : xMet (wC D P) l yX2_takes (ws_ yX2_takes cX2_takes 3 (some .boolean)) 2 120 (grc g) (grs g) [.ref x0, .int x1] (g, τ) (some (.int o_.1), (g, o_.2)) := 
  xMet_of (by decide) (Nat.le_of_ble_eq_true rfl) KC_moved RPC_of (fun K _ _ _ => ok_f_c_X2_takes hf (fun _ h => by rw [h]))
abbrev mJ9_equals : xM := (cJ9_equals, 3, RJ9, 0, 0, (some .boolean), "equals")
def Bc_J9_equals_9 (g : CG) (x0 : Nat) (x1 : Nat) (x2 : Int32) (τ : CC) : Option ((Int32 × CC) ⊕ ((CC) ⊕ ((Int32 × CC)))) :=
  if gK g x0 = 103 then
  if (Int32.ofNat (gN g x0)) ≤ x2 then
  some (.inr (.inl τ))
  else
  if xin x2 (gN g x0) = true then
  if gK g x1 = 103 then
  if xin x2 (gN g x1) = true then
  if (cA τ x0 x2.toNatClampNeg) = (cA τ x1 x2.toNatClampNeg) then
  some (.inl (x2 + 1, τ))
  else
  some (.inr (.inr (0, τ)))
  else none
  else none
  else none
  else none
theorem ok_Bc_J9_equals_9 {D : CD} {P : CP} {K : xK} {g : CG} {Z : Option Value × CS} {x0 : Nat} {x1 : Nat} {x2 : Int32} {τ : CC} {o_ : ((Int32 × CC) ⊕ ((CC) ⊕ ((Int32 × CC))))} (hf : Bc_J9_equals_9 g x0 x1 x2 τ = some o_) (kc : ∀ s_ : Int32 × CC, o_ = .inl s_ → xV (wC D P) K mJ9_equals (xQ (wC D P) K Z) (g, s_.2) 9 [(0, .ref x0), (1, .ref x1), (2, .int s_.1)] []) (ke0 : ∀ e_ : CC, o_ = .inr (.inl e_) → xV (wC D P) K mJ9_equals (xQ (wC D P) K Z) (g, e_) 32 [] []) (kr : ∀ r_ : (Int32 × CC), o_ = .inr (.inr r_) → Z = (some (.int r_.1), (g, r_.2))) : xV (wC D P) K mJ9_equals (xQ (wC D P) K Z) (g, τ) 9 [(0, .ref x0), (1, .ref x1), (2, .int x2)] [] := by
  unfold Bc_J9_equals_9 at hf
  refine xr_iload_n (pc := 9) 2 dJ9_equals_9 rfl rfl ?_
  refine xr_aload_n (pc := 10) 0 dJ9_equals_10 rfl rfl ?_
  obtain ⟨ht3, hf⟩ := xo_if hf
  refine yc_alen (pc := 11) 103 ht3 (by decide) (by decide) dJ9_equals_11 ?_
  refine xr_icmp_ge (pc := 12) 32 dJ9_equals_12 (by decide) (fun c_ => ?_) (fun c_ => ?_)
  · have hf := xo_pos c_ hf
    refine xV_sub [] rfl ?_
    exact ke0 _ (Option.some.inj hf).symm
  · have hf := xo_neg c_ hf
    refine xr_aload_n (pc := 15) 0 dJ9_equals_15 rfl rfl ?_
    refine xr_iload_n (pc := 16) 2 dJ9_equals_16 rfl rfl ?_
    obtain ⟨hi_, hf⟩ := xo_if hf
    refine yc_bald (pc := 17) ht3 hi_ dJ9_equals_17 ?_
    refine xr_aload_n (pc := 18) 1 dJ9_equals_18 rfl rfl ?_
    refine xr_iload_n (pc := 19) 2 dJ9_equals_19 rfl rfl ?_
    obtain ⟨ht4, hf⟩ := xo_if hf
    obtain ⟨hi_, hf⟩ := xo_if hf
    refine yc_bald (pc := 20) ht4 hi_ dJ9_equals_20 ?_
    refine xr_icmp_eq (pc := 21) 26 dJ9_equals_21 (by decide) (fun c_ => ?_) (fun c_ => ?_)
    · have hf := xo_pos c_ hf
      refine xr_iinc (pc := 26) (loc' := [(2, .int (x2 + 1)), (0, .ref x0), (1, .ref x1)]) 2 dJ9_equals_26 rfl xci_1 (by decide) rfl ?_
      refine xr_goto (pc := 29) 9 dJ9_equals_29 (by decide) ?_
      refine xV_sub [1, 2, 0] rfl ?_
      exact kc _ (Option.some.inj hf).symm
    · have hf := xo_neg c_ hf
      refine xr_iconst (pc := 24) dJ9_equals_24 xci_0 ?_
      rw [kr _ (Option.some.inj hf).symm]
      exact xr_zret (pc := 25) dJ9_equals_25 rfl xz_0
def f_c_J9_equals (g : CG) (x0 : Nat) (x1 : Nat) (τ : CC) : Option (Int32 × CC) :=
  if gK g x0 = 103 then
  if gK g x1 = 103 then
  if (Int32.ofNat (gN g x0)) = (Int32.ofNat (gN g x1)) then
  (itr (fun s_ : Int32 × CC => Bc_J9_equals_9 g x0 x1 s_.1 s_.2) 4096 (0, τ)).bind fun b5 =>
  (Sum.elim (fun e6 => some ((1, e6))) (fun r_ => some r_)) b5
  else
  some ((0, τ))
  else none
  else none
theorem ok_f_c_J9_equals {D : CD} {P : CP} {K : xK} {g : CG} {Z : Option Value × CS} {x0 : Nat} {x1 : Nat} {τ : CC} {o_ : (Int32 × CC)} (hf : f_c_J9_equals g x0 x1 τ = some o_) (kr : ∀ r_ : (Int32 × CC), o_ = r_ → Z = (some (.int r_.1), (g, r_.2))) : xV (wC D P) K mJ9_equals (xQ (wC D P) K Z) (g, τ) 0 [(0, .ref x0), (1, .ref x1)] [] := by
  unfold f_c_J9_equals at hf
  refine xr_aload_n (pc := 0) 0 dJ9_equals_0 rfl rfl ?_
  obtain ⟨ht1, hf⟩ := xo_if hf
  refine yc_alen (pc := 1) 103 ht1 (by decide) (by decide) dJ9_equals_1 ?_
  refine xr_aload_n (pc := 2) 1 dJ9_equals_2 rfl rfl ?_
  obtain ⟨ht2, hf⟩ := xo_if hf
  refine yc_alen (pc := 3) 103 ht2 (by decide) (by decide) dJ9_equals_3 ?_
  refine xr_icmp_ne (pc := 4) 34 dJ9_equals_4 (by decide) (fun c_ => ?_) (fun c_ => ?_)
  · have hf := xo_pos c_ hf
    refine xr_iconst (pc := 7) dJ9_equals_7 xci_0 ?_
    refine xr_istore_n (pc := 8) (loc' := [(2, .int 0), (0, .ref x0), (1, .ref x1)]) dJ9_equals_8 rfl (by decide) rfl ?_
    refine xV_sub [1, 2, 0] rfl ?_
    obtain ⟨b5, hb5, hf⟩ := xo_bind hf
    refine itr_rule (P := fun s_ : Int32 × CC => xV (wC D P) K mJ9_equals (xQ (wC D P) K Z) (g, s_.2) 9 [(0, .ref x0), (1, .ref x1), (2, .int s_.1)] []) (fun s_ o_ hB_ hc_ he_ => ok_Bc_J9_equals_9 hB_ hc_ (fun e6 h_ => ?_) (fun r_ h_ => ?_)) 4096 _ hb5
    · have e9_ := he_ _ h_
      subst e9_
      have hf := xo_inl hf
      refine xr_iconst (pc := 32) dJ9_equals_32 xci_1 ?_
      rw [kr _ (Option.some.inj hf).symm]
      exact xr_zret (pc := 33) dJ9_equals_33 rfl xz_1
    · have e9_ := he_ _ h_
      subst e9_
      have hf := xo_inr hf
      exact kr _ (Option.some.inj hf).symm
  · have hf := xo_neg c_ hf
    refine xr_iconst (pc := 34) dJ9_equals_34 xci_0 ?_
    rw [kr _ (Option.some.inj hf).symm]
    exact xr_zret (pc := 35) dJ9_equals_35 rfl xz_0
theorem met_f_c_J9_equals (l : Launch) {D : CD} {P : CP} {g : CG} {x0 : Nat} {x1 : Nat} {τ : CC} {o_ : (Int32 × CC)} (hf : f_c_J9_equals g x0 x1 τ = some o_) : xMet (wC D P) l yJ9_equals (ws_ yJ9_equals cJ9_equals 3 (some .boolean)) 0 0 (grc g) (grs g) [.ref x0, .ref x1] (g, τ) (some (.int o_.1), (g, o_.2)) := 
  xMet_of (by decide) (Nat.le_of_ble_eq_true rfl) KC_moved RPC_of (fun K _ _ _ => ok_f_c_J9_equals hf (fun _ h => by rw [h]))
theorem hd_f_c_J9_equals : yJ9_equals.cls ≠ "java/lang/invoke/MethodHandle" ∧ yJ9_equals.cls ≠ "java/lang/invoke/VarHandle" ∧ (parseMethodDescriptor yJ9_equals.desc).map (fun d => d.parameters.length) = some 2 := by decide +kernel
theorem call_f_c_J9_equals_J6_541 {D : CD} {P : CP} {K : xK} {M : xM} {Q : State → Prop} {g : CG} {c : CC} {x0 : Nat} {x1 : Nat} {pc : Nat} {loc : List (Nat × Value)} {st : List Value} {r : Int32} {c1 : CC} (hf : f_c_J9_equals g x0 x1 c = some (r, c1)) (ho : M.2.2.1 = RJ6) (hfr : 1 ≤ M.2.2.2.1) (hlo : 22 ≤ M.2.2.2.2.1) (hcat : (st.map fun v => v.category).sum ≤ 8) (d : decode M.1 pc = .ok (.invokestatic 541, 3)) (k : xV (wC D P) K M Q (g, c1) (pc + 3) loc (.int r :: st)) : xV (wC D P) K M Q (g, c) pc loc (.ref x1 :: .ref x0 :: st) :=
  yc_callS (As := [.ref x0, .ref x1]) (rest := st) (met_f_c_J9_equals K.2.1 hf) (lw_S q706 q707 q190 q708) hd_f_c_J9_equals ho hfr hlo rfl rfl hcat d k
abbrev mJ6_equals : xM := (cJ6_equals, 3, RJ6, 1, 60, (some .boolean), "equals")
def Jc_J6_equals_54 (g : CG) (τ : CC) : Option (Int32 × CC) :=
  some ((0, τ))
theorem ok_Jc_J6_equals_54 {D : CD} {P : CP} {K : xK} {g : CG} {Z : Option Value × CS} {τ : CC} {o_ : (Int32 × CC)} (hf : Jc_J6_equals_54 g τ = some o_) (kr : ∀ r_ : (Int32 × CC), o_ = r_ → Z = (some (.int r_.1), (g, r_.2))) : xV (wC D P) K mJ6_equals (xQ (wC D P) K Z) (g, τ) 54 [] [] := by
  unfold Jc_J6_equals_54 at hf
  refine xr_iconst (pc := 54) dJ6_equals_54 xci_0 ?_
  rw [kr _ (Option.some.inj hf).symm]
  exact xr_zret (pc := 55) dJ6_equals_55 rfl xz_0
def Jc_J6_equals_36 (g : CG) (x0 : Nat) (x2 : Nat) (τ : CC) : Option (Int32 × CC) :=
  if gK g x0 = 19 then
  (gR g 1900 x0).bind fun b4 =>
  if gK g x2 = 19 then
  (gR g 1900 x2).bind fun b6 =>
  xbd (f_c_J9_equals g b4 b6 τ) fun r7 τ7 =>
  if r7 = 0 then
  Jc_J6_equals_54 g τ7
  else
  some ((1, τ7))
  else none
  else none
theorem ok_Jc_J6_equals_36 {D : CD} {P : CP} {K : xK} {g : CG} {Z : Option Value × CS} {x0 : Nat} {x2 : Nat} {τ : CC} {o_ : (Int32 × CC)} (hf : Jc_J6_equals_36 g x0 x2 τ = some o_) (kr : ∀ r_ : (Int32 × CC), o_ = r_ → Z = (some (.int r_.1), (g, r_.2))) : xV (wC D P) K mJ6_equals (xQ (wC D P) K Z) (g, τ) 36 [(0, .ref x0), (2, .ref x2)] [] := by
  unfold Jc_J6_equals_36 at hf
  refine xr_aload_n (pc := 36) 0 dJ6_equals_36 rfl rfl ?_
  obtain ⟨ht3, hf⟩ := xo_if hf
  obtain ⟨b4, hb4, hf⟩ := xo_bind hf
  refine yc_getFs (pc := 37) 19 0 1900 ht3 (by decide) (by decide) (by decide) rfl rfl hb4 q688 (ys_eq rfl) rfl dJ6_equals_37 ?_
  refine xr_aload_n (pc := 40) 1 dJ6_equals_40 rfl rfl ?_
  obtain ⟨ht5, hf⟩ := xo_if hf
  obtain ⟨b6, hb6, hf⟩ := xo_bind hf
  refine yc_getFs (pc := 41) 19 0 1900 ht5 (by decide) (by decide) (by decide) rfl rfl hb6 q688 (ys_eq rfl) rfl dJ6_equals_41 ?_
  obtain ⟨r7, τ7, hτ7, hf⟩ := xo_bd hf
  refine call_f_c_J9_equals_J6_541 (pc := 44) hτ7 rfl (Nat.le_of_ble_eq_true rfl) (Nat.le_of_ble_eq_true rfl) (Nat.le_of_ble_eq_true rfl) dJ6_equals_44 ?_
  refine xr_if_eq (pc := 47) 54 dJ6_equals_47 (by decide) (fun c_ => ?_) (fun c_ => ?_)
  · have hf := xo_pos c_ hf
    refine xV_sub [] rfl ?_
    exact ok_Jc_J6_equals_54 hf kr
  · have hf := xo_neg c_ hf
    refine xr_iconst (pc := 50) dJ6_equals_50 xci_1 ?_
    refine xr_goto (pc := 51) 55 dJ6_equals_51 (by decide) ?_
    rw [kr _ (Option.some.inj hf).symm]
    exact xr_zret (pc := 55) dJ6_equals_55 rfl xz_1
def f_c_J6_equals (g : CG) (x0 : Nat) (x1 : Nat) (τ : CC) : Option (Int32 × CC) :=
  if x0 = x1 then
  some ((1, τ))
  else
  if gK g x1 = 19 then
  if gK g x0 = 19 then
  if (cI τ 1901 x0) = (cI τ 1901 x1) then
  Jc_J6_equals_36 g x0 x1 τ
  else
  Jc_J6_equals_54 g τ
  else none
  else none
theorem ok_f_c_J6_equals {D : CD} {P : CP} {K : xK} {g : CG} {Z : Option Value × CS} {x0 : Nat} {x1 : Nat} {τ : CC} {o_ : (Int32 × CC)} (hf : f_c_J6_equals g x0 x1 τ = some o_) (kr : ∀ r_ : (Int32 × CC), o_ = r_ → Z = (some (.int r_.1), (g, r_.2))) : xV (wC D P) K mJ6_equals (xQ (wC D P) K Z) (g, τ) 0 [(0, .ref x0), (1, .ref x1)] [] := by
  unfold f_c_J6_equals at hf
  refine xr_aload_n (pc := 0) 0 dJ6_equals_0 rfl rfl ?_
  refine xr_aload_n (pc := 1) 1 dJ6_equals_1 rfl rfl ?_
  refine xr_acmp_ne (pc := 2) 7 dJ6_equals_2 (by decide) (fun c_ => ?_) (fun c_ => ?_)
  · have hf := xo_pos c_ hf
    refine xr_iconst (pc := 5) dJ6_equals_5 xci_1 ?_
    rw [kr _ (Option.some.inj hf).symm]
    exact xr_zret (pc := 6) dJ6_equals_6 rfl xz_1
  · have hf := xo_neg c_ hf
    refine xr_aload_n (pc := 7) 1 dJ6_equals_7 rfl rfl ?_
    obtain ⟨ht1, hf⟩ := xo_if hf
    refine yc_instS (pc := 8) 19 ht1 (by decide) (by decide) q627 rfl rfl dJ6_equals_8 ?_
    refine xr_if_eq (pc := 11) 54 dJ6_equals_11 (by decide) (fun c_ => ?_) (fun c_ => ?_)
    · exact absurd c_ (by decide)
    · refine xr_aload_n (pc := 14) 1 dJ6_equals_14 rfl rfl ?_
      refine yc_chkS (pc := 15) 19 ht1 (by decide) (by decide) q627 rfl rfl dJ6_equals_15 ?_
      refine xr_astore_n (pc := 18) (loc' := [(2, .ref x1), (0, .ref x0), (1, .ref x1)]) dJ6_equals_18 rfl (by decide) rfl ?_
      refine yc_gets8 (pc := 19) q637 rfl rfl dJ6_equals_19 ?_
      refine xr_if_eq (pc := 22) 36 dJ6_equals_22 (by decide) (fun c_ => ?_) (fun c_ => ?_)
      · exact absurd c_ (by decide)
      · refine xr_aload_n (pc := 25) 1 dJ6_equals_25 rfl rfl ?_
        obtain ⟨ht2, hf⟩ := xo_if hf
        refine yc_getI (pc := 26) 19 1 1901 ht2 (by decide) (by decide) (by decide) rfl rfl q689 (ys_eq rfl) rfl dJ6_equals_26 ?_
        refine xr_aload_n (pc := 29) 0 dJ6_equals_29 rfl rfl ?_
        refine yc_getI (pc := 30) 19 1 1901 ht1 (by decide) (by decide) (by decide) rfl rfl q689 (ys_eq rfl) rfl dJ6_equals_30 ?_
        refine xr_icmp_ne (pc := 33) 54 dJ6_equals_33 (by decide) (fun c_ => ?_) (fun c_ => ?_)
        · have hf := xo_pos c_ hf
          refine xV_sub [1, 0] rfl ?_
          exact ok_Jc_J6_equals_36 hf kr
        · have hf := xo_neg c_ hf
          refine xV_sub [] rfl ?_
          exact ok_Jc_J6_equals_54 hf kr
theorem met_f_c_J6_equals (l : Launch) {D : CD} {P : CP} {g : CG} {x0 : Nat} {x1 : Nat} {τ : CC} {o_ : (Int32 × CC)} (hf : f_c_J6_equals g x0 x1 τ = some o_) : xMet (wC D P) l yJ6_equals (ws_ yJ6_equals cJ6_equals 3 (some .boolean)) 1 60 (grc g) (grs g) [.ref x0, .ref x1] (g, τ) (some (.int o_.1), (g, o_.2)) := 
  xMet_of (by decide) (Nat.le_of_ble_eq_true rfl) KC_moved RPC_of (fun K _ _ _ => ok_f_c_J6_equals hf (fun _ h => by rw [h]))
theorem hd_f_c_J6_equals : yJ6_equals.cls ≠ "java/lang/invoke/MethodHandle" ∧ yJ6_equals.cls ≠ "java/lang/invoke/VarHandle" ∧ (parseMethodDescriptor yJ6_equals.desc).map (fun d => d.parameters.length) = some 1 := by decide +kernel
theorem call_f_c_J6_equals_X0_16 {D : CD} {P : CP} {K : xK} {M : xM} {Q : State → Prop} {g : CG} {c : CC} {x0 : Nat} {x1 : Nat} {pc : Nat} {loc : List (Nat × Value)} {st : List Value} {r : Int32} {c1 : CC} (hf : f_c_J6_equals g x0 x1 c = some (r, c1)) (hr : gK g x0 = 19) (ho : M.2.2.1 = RX0) (hfr : 2 ≤ M.2.2.2.1) (hlo : 82 ≤ M.2.2.2.2.1) (hcat : (st.map fun v => v.category).sum ≤ 8) (d : decode M.1 pc = .ok (.invokevirtual 16, 3)) (k : xV (wC D P) K M Q (g, c1) (pc + 3) loc (.int r :: st)) : xV (wC D P) K M Q (g, c) pc loc (.ref x1 :: .ref x0 :: st) :=
  yc_callV (As := [.ref x1]) (rest := st) (met_f_c_J6_equals K.2.1 hf) (lw_V q822 q703 q704 q187 q705) ⟨rfl, hd_f_c_J6_equals⟩ ho hfr hlo rfl hr (by decide) (by decide) rfl rfl hcat d k
abbrev mX0_find : xM := (cX0_find, 3, RX0, 2, 120, (some .int), "find")
def Bc_X0_find_2 (g : CG) (x0 : Nat) (x1 : Nat) (x2 : Int32) (τ : CC) : Option ((Int32 × CC) ⊕ ((CC) ⊕ ((Int32 × CC)))) :=
  if gK g x1 = 110 then
  if (Int32.ofNat (gN g x1)) ≤ x2 then
  some (.inr (.inl τ))
  else
  if xin x2 (gN g x1) = true then
  (cP τ x1 x2.toNatClampNeg).bind fun b2 =>
  if gK g b2 = 19 then
  xbd (f_c_J6_equals g b2 x0 τ) fun r4 τ4 =>
  if r4 = 0 then
  some (.inl (x2 + 1, τ4))
  else
  some (.inr (.inr (x2, τ4)))
  else none
  else none
  else none
theorem ok_Bc_X0_find_2 {D : CD} {P : CP} {K : xK} {g : CG} {Z : Option Value × CS} {x0 : Nat} {x1 : Nat} {x2 : Int32} {τ : CC} {o_ : ((Int32 × CC) ⊕ ((CC) ⊕ ((Int32 × CC))))} (hf : Bc_X0_find_2 g x0 x1 x2 τ = some o_) (kc : ∀ s_ : Int32 × CC, o_ = .inl s_ → xV (wC D P) K mX0_find (xQ (wC D P) K Z) (g, s_.2) 2 [(0, .ref x0), (1, .ref x1), (2, .int s_.1)] []) (ke0 : ∀ e_ : CC, o_ = .inr (.inl e_) → xV (wC D P) K mX0_find (xQ (wC D P) K Z) (g, e_) 26 [] []) (kr : ∀ r_ : (Int32 × CC), o_ = .inr (.inr r_) → Z = (some (.int r_.1), (g, r_.2))) : xV (wC D P) K mX0_find (xQ (wC D P) K Z) (g, τ) 2 [(0, .ref x0), (1, .ref x1), (2, .int x2)] [] := by
  unfold Bc_X0_find_2 at hf
  refine xr_iload_n (pc := 2) 2 dX0_find_2 rfl rfl ?_
  refine xr_aload_n (pc := 3) 1 dX0_find_3 rfl rfl ?_
  obtain ⟨ht1, hf⟩ := xo_if hf
  refine yc_alen (pc := 4) 110 ht1 (by decide) (by decide) dX0_find_4 ?_
  refine xr_icmp_ge (pc := 5) 26 dX0_find_5 (by decide) (fun c_ => ?_) (fun c_ => ?_)
  · have hf := xo_pos c_ hf
    refine xV_sub [] rfl ?_
    exact ke0 _ (Option.some.inj hf).symm
  · have hf := xo_neg c_ hf
    refine xr_aload_n (pc := 8) 1 dX0_find_8 rfl rfl ?_
    refine xr_iload_n (pc := 9) 2 dX0_find_9 rfl rfl ?_
    obtain ⟨hi_, hf⟩ := xo_if hf
    obtain ⟨b2, hb2, hf⟩ := xo_bind hf
    refine yc_aalds (pc := 10) 110 ht1 (by decide) (by decide) rfl rfl hi_ hb2 dX0_find_10 ?_
    refine xr_aload_n (pc := 11) 0 dX0_find_11 rfl rfl ?_
    obtain ⟨ht3, hf⟩ := xo_if hf
    obtain ⟨r4, τ4, hτ4, hf⟩ := xo_bd hf
    refine call_f_c_J6_equals_X0_16 (pc := 12) hτ4 ht3 rfl (Nat.le_of_ble_eq_true rfl) (Nat.le_of_ble_eq_true rfl) (Nat.le_of_ble_eq_true rfl) dX0_find_12 ?_
    refine xr_if_eq (pc := 15) 20 dX0_find_15 (by decide) (fun c_ => ?_) (fun c_ => ?_)
    · have hf := xo_pos c_ hf
      refine xr_iinc (pc := 20) (loc' := [(2, .int (x2 + 1)), (0, .ref x0), (1, .ref x1)]) 2 dX0_find_20 rfl xci_1 (by decide) rfl ?_
      refine xr_goto (pc := 23) 2 dX0_find_23 (by decide) ?_
      refine xV_sub [1, 2, 0] rfl ?_
      exact kc _ (Option.some.inj hf).symm
    · have hf := xo_neg c_ hf
      refine xr_iload_n (pc := 18) 2 dX0_find_18 rfl rfl ?_
      rw [kr _ (Option.some.inj hf).symm]
      exact xr_iret (pc := 19) dX0_find_19 rfl
def f_c_X0_find (g : CG) (x0 : Nat) (x1 : Nat) (τ : CC) : Option (Int32 × CC) :=
  (itr (fun s_ : Int32 × CC => Bc_X0_find_2 g x0 x1 s_.1 s_.2) 4096 (0, τ)).bind fun b5 =>
  (Sum.elim (fun e6 => some (((-1), e6))) (fun r_ => some r_)) b5
theorem ok_f_c_X0_find {D : CD} {P : CP} {K : xK} {g : CG} {Z : Option Value × CS} {x0 : Nat} {x1 : Nat} {τ : CC} {o_ : (Int32 × CC)} (hf : f_c_X0_find g x0 x1 τ = some o_) (kr : ∀ r_ : (Int32 × CC), o_ = r_ → Z = (some (.int r_.1), (g, r_.2))) : xV (wC D P) K mX0_find (xQ (wC D P) K Z) (g, τ) 0 [(0, .ref x0), (1, .ref x1)] [] := by
  unfold f_c_X0_find at hf
  refine xr_iconst (pc := 0) dX0_find_0 xci_0 ?_
  refine xr_istore_n (pc := 1) (loc' := [(2, .int 0), (0, .ref x0), (1, .ref x1)]) dX0_find_1 rfl (by decide) rfl ?_
  refine xV_sub [1, 2, 0] rfl ?_
  obtain ⟨b5, hb5, hf⟩ := xo_bind hf
  refine itr_rule (P := fun s_ : Int32 × CC => xV (wC D P) K mX0_find (xQ (wC D P) K Z) (g, s_.2) 2 [(0, .ref x0), (1, .ref x1), (2, .int s_.1)] []) (fun s_ o_ hB_ hc_ he_ => ok_Bc_X0_find_2 hB_ hc_ (fun e6 h_ => ?_) (fun r_ h_ => ?_)) 4096 _ hb5
  · have e9_ := he_ _ h_
    subst e9_
    have hf := xo_inl hf
    refine xr_iconst (pc := 26) dX0_find_26 xci_m1 ?_
    rw [kr _ (Option.some.inj hf).symm]
    exact xr_iret (pc := 27) dX0_find_27 rfl
  · have e9_ := he_ _ h_
    subst e9_
    have hf := xo_inr hf
    exact kr _ (Option.some.inj hf).symm
theorem met_f_c_X0_find (l : Launch) {D : CD} {P : CP} {g : CG} {x0 : Nat} {x1 : Nat} {τ : CC} {o_ : (Int32 × CC)} (hf : f_c_X0_find g x0 x1 τ = some o_) : xMet (wC D P) l yX0_find (ws_ yX0_find cX0_find 3 (some .int)) 2 120 (grc g) (grs g) [.ref x0, .ref x1] (g, τ) (some (.int o_.1), (g, o_.2)) := 
  xMet_of (by decide) (Nat.le_of_ble_eq_true rfl) KC_moved RPC_of (fun K _ _ _ => ok_f_c_X0_find hf (fun _ h => by rw [h]))
abbrev mJ10_signedHashCode : xM := (cJ10_signedHashCode, 6, RJ10, 0, 0, (some .int), "signedHashCode")
def Bc_J10_signedHashCode_8 (g : CG) (x1 : Nat) (x4 : Int32) (x0 : Int32) (x5 : Int32) (τ : CC) : Option ((Int32 × Int32 × CC) ⊕ ((Int32 × CC))) :=
  if x4 ≤ x5 then
  some (.inr (x0, τ))
  else
  if gK g x1 = 103 then
  if xin x5 (gN g x1) = true then
  some (.inl ((31 * x0) + ((cA τ x1 x5.toNatClampNeg) &&& 255), x5 + 1, τ))
  else none
  else none
theorem ok_Bc_J10_signedHashCode_8 {D : CD} {P : CP} {K : xK} {g : CG} {Z : Option Value × CS} {x1 : Nat} {x4 : Int32} {x0 : Int32} {x5 : Int32} {τ : CC} {o_ : ((Int32 × Int32 × CC) ⊕ ((Int32 × CC)))} (hf : Bc_J10_signedHashCode_8 g x1 x4 x0 x5 τ = some o_) (kc : ∀ s_ : Int32 × Int32 × CC, o_ = .inl s_ → xV (wC D P) K mJ10_signedHashCode (xQ (wC D P) K Z) (g, s_.2.2) 8 [(0, .int s_.1), (1, .ref x1), (4, .int x4), (5, .int s_.2.1)] []) (ke0 : ∀ e_ : Int32 × CC, o_ = .inr e_ → xV (wC D P) K mJ10_signedHashCode (xQ (wC D P) K Z) (g, e_.2) 35 [(0, .int e_.1)] []) : xV (wC D P) K mJ10_signedHashCode (xQ (wC D P) K Z) (g, τ) 8 [(0, .int x0), (1, .ref x1), (4, .int x4), (5, .int x5)] [] := by
  unfold Bc_J10_signedHashCode_8 at hf
  refine xr_iload (pc := 8) 3 dJ10_signedHashCode_8 rfl ?_
  refine xr_iload (pc := 10) 2 dJ10_signedHashCode_10 rfl ?_
  refine xr_icmp_ge (pc := 12) 35 dJ10_signedHashCode_12 (by decide) (fun c_ => ?_) (fun c_ => ?_)
  · have hf := xo_pos c_ hf
    refine xV_sub [0] rfl ?_
    exact ke0 _ (Option.some.inj hf).symm
  · have hf := xo_neg c_ hf
    refine xr_bipush (pc := 15) dJ10_signedHashCode_15 xcb_31 ?_
    refine xr_iload_n (pc := 17) 0 dJ10_signedHashCode_17 rfl rfl ?_
    refine xr_imul (pc := 18) dJ10_signedHashCode_18 ?_
    refine xr_aload_n (pc := 19) 1 dJ10_signedHashCode_19 rfl rfl ?_
    refine xr_iload (pc := 20) 3 dJ10_signedHashCode_20 rfl ?_
    obtain ⟨ht1, hf⟩ := xo_if hf
    obtain ⟨hi_, hf⟩ := xo_if hf
    refine yc_bald (pc := 22) ht1 hi_ dJ10_signedHashCode_22 ?_
    refine xr_sipush (pc := 23) dJ10_signedHashCode_23 xcs_255 ?_
    refine xr_iand (pc := 26) dJ10_signedHashCode_26 ?_
    refine xr_iadd (pc := 27) dJ10_signedHashCode_27 ?_
    refine xr_istore_n (pc := 28) (loc' := [(0, .int ((31 * x0) + ((cA τ x1 x5.toNatClampNeg) &&& 255))), (1, .ref x1), (4, .int x4), (5, .int x5)]) dJ10_signedHashCode_28 rfl (by decide) rfl ?_
    refine xr_iinc (pc := 29) (loc' := [(5, .int (x5 + 1)), (0, .int ((31 * x0) + ((cA τ x1 x5.toNatClampNeg) &&& 255))), (1, .ref x1), (4, .int x4)]) 3 dJ10_signedHashCode_29 rfl xci_1 (by decide) rfl ?_
    refine xr_goto (pc := 32) 8 dJ10_signedHashCode_32 (by decide) ?_
    refine xV_sub [1, 2, 3, 0] rfl ?_
    exact kc _ (Option.some.inj hf).symm
def f_c_J10_signedHashCode (g : CG) (x0 : Int32) (x1 : Nat) (x2 : Int32) (x3 : Int32) (τ : CC) : Option (Int32 × CC) :=
  (itr (fun s_ : Int32 × Int32 × CC => Bc_J10_signedHashCode_8 g x1 (x2 + x3) s_.1 s_.2.1 s_.2.2) 4096 (x0, x2, τ)).bind fun b2 =>
  some ((b2.1, b2.2))
theorem ok_f_c_J10_signedHashCode {D : CD} {P : CP} {K : xK} {g : CG} {Z : Option Value × CS} {x0 : Int32} {x1 : Nat} {x2 : Int32} {x3 : Int32} {τ : CC} {o_ : (Int32 × CC)} (hf : f_c_J10_signedHashCode g x0 x1 x2 x3 τ = some o_) (kr : ∀ r_ : (Int32 × CC), o_ = r_ → Z = (some (.int r_.1), (g, r_.2))) : xV (wC D P) K mJ10_signedHashCode (xQ (wC D P) K Z) (g, τ) 0 [(0, .int x0), (1, .ref x1), (2, .int x2), (3, .int x3)] [] := by
  unfold f_c_J10_signedHashCode at hf
  refine xr_iload_n (pc := 0) 2 dJ10_signedHashCode_0 rfl rfl ?_
  refine xr_iload_n (pc := 1) 3 dJ10_signedHashCode_1 rfl rfl ?_
  refine xr_iadd (pc := 2) dJ10_signedHashCode_2 ?_
  refine xr_istore (pc := 3) (loc' := [(4, .int (x2 + x3)), (0, .int x0), (1, .ref x1), (2, .int x2), (3, .int x3)]) dJ10_signedHashCode_3 (by decide) rfl ?_
  refine xr_iload_n (pc := 5) 3 dJ10_signedHashCode_5 rfl rfl ?_
  refine xr_istore (pc := 6) (loc' := [(5, .int x2), (4, .int (x2 + x3)), (0, .int x0), (1, .ref x1), (2, .int x2), (3, .int x3)]) dJ10_signedHashCode_6 (by decide) rfl ?_
  refine xV_sub [2, 3, 1, 0] rfl ?_
  obtain ⟨b2, hb2, hf⟩ := xo_bind hf
  refine itr_rule (P := fun s_ : Int32 × Int32 × CC => xV (wC D P) K mJ10_signedHashCode (xQ (wC D P) K Z) (g, s_.2.2) 8 [(0, .int s_.1), (1, .ref x1), (4, .int (x2 + x3)), (5, .int s_.2.1)] []) (fun s_ o_ hB_ hc_ he_ => ok_Bc_J10_signedHashCode_8 hB_ hc_ (fun e_ h_ => ?_)) 4096 _ hb2
  · have e9_ := he_ _ h_
    rw [e9_]
    refine xr_iload_n (pc := 35) 0 dJ10_signedHashCode_35 rfl rfl ?_
    rw [kr _ (Option.some.inj hf).symm]
    exact xr_iret (pc := 36) dJ10_signedHashCode_36 rfl
theorem met_f_c_J10_signedHashCode (l : Launch) {D : CD} {P : CP} {g : CG} {x0 : Int32} {x1 : Nat} {x2 : Int32} {x3 : Int32} {τ : CC} {o_ : (Int32 × CC)} (hf : f_c_J10_signedHashCode g x0 x1 x2 x3 τ = some o_) : xMet (wC D P) l yJ10_signedHashCode (ws_ yJ10_signedHashCode cJ10_signedHashCode 6 (some .int)) 0 0 (grc g) (grs g) [.int x0, .ref x1, .int x2, .int x3] (g, τ) (some (.int o_.1), (g, o_.2)) := 
  xMet_of (by decide) (Nat.le_of_ble_eq_true rfl) KC_moved RPC_of (fun K _ _ _ => ok_f_c_J10_signedHashCode hf (fun _ h => by rw [h]))
abbrev mJ10_utf16hashCode : xM := (cJ10_utf16hashCode, 6, RJ10, 0, 0, (some .int), "utf16hashCode")
def Bc_J10_utf16hashCode_8 (g : CG) (x1 : Nat) (x4 : Int32) (x0 : Int32) (x5 : Int32) (τ : CC) : Option ((Int32 × Int32 × CC) ⊕ ((Int32 × CC))) :=
  if x4 ≤ x5 then
  some (.inr (x0, τ))
  else
  none
theorem ok_Bc_J10_utf16hashCode_8 {D : CD} {P : CP} {K : xK} {g : CG} {Z : Option Value × CS} {x1 : Nat} {x4 : Int32} {x0 : Int32} {x5 : Int32} {τ : CC} {o_ : ((Int32 × Int32 × CC) ⊕ ((Int32 × CC)))} (hf : Bc_J10_utf16hashCode_8 g x1 x4 x0 x5 τ = some o_) (kc : ∀ s_ : Int32 × Int32 × CC, o_ = .inl s_ → xV (wC D P) K mJ10_utf16hashCode (xQ (wC D P) K Z) (g, s_.2.2) 8 [(0, .int s_.1), (1, .ref x1), (4, .int x4), (5, .int s_.2.1)] []) (ke0 : ∀ e_ : Int32 × CC, o_ = .inr e_ → xV (wC D P) K mJ10_utf16hashCode (xQ (wC D P) K Z) (g, e_.2) 38 [(0, .int e_.1)] []) : xV (wC D P) K mJ10_utf16hashCode (xQ (wC D P) K Z) (g, τ) 8 [(0, .int x0), (1, .ref x1), (4, .int x4), (5, .int x5)] [] := by
  unfold Bc_J10_utf16hashCode_8 at hf
  refine xr_iload (pc := 8) 3 dJ10_utf16hashCode_8 rfl ?_
  refine xr_iload (pc := 10) 2 dJ10_utf16hashCode_10 rfl ?_
  refine xr_icmp_ge (pc := 12) 38 dJ10_utf16hashCode_12 (by decide) (fun c_ => ?_) (fun c_ => ?_)
  · have hf := xo_pos c_ hf
    refine xV_sub [0] rfl ?_
    exact ke0 _ (Option.some.inj hf).symm
  · have hf := xo_neg c_ hf
    refine xr_bipush (pc := 15) dJ10_utf16hashCode_15 xcb_31 ?_
    refine xr_iload_n (pc := 17) 0 dJ10_utf16hashCode_17 rfl rfl ?_
    refine xr_imul (pc := 18) dJ10_utf16hashCode_18 ?_
    cases hf
def f_c_J10_utf16hashCode (g : CG) (x0 : Int32) (x1 : Nat) (x2 : Int32) (x3 : Int32) (τ : CC) : Option (Int32 × CC) :=
  (itr (fun s_ : Int32 × Int32 × CC => Bc_J10_utf16hashCode_8 g x1 (x2 + x3) s_.1 s_.2.1 s_.2.2) 4096 (x0, x2, τ)).bind fun b1 =>
  some ((b1.1, b1.2))
theorem ok_f_c_J10_utf16hashCode {D : CD} {P : CP} {K : xK} {g : CG} {Z : Option Value × CS} {x0 : Int32} {x1 : Nat} {x2 : Int32} {x3 : Int32} {τ : CC} {o_ : (Int32 × CC)} (hf : f_c_J10_utf16hashCode g x0 x1 x2 x3 τ = some o_) (kr : ∀ r_ : (Int32 × CC), o_ = r_ → Z = (some (.int r_.1), (g, r_.2))) : xV (wC D P) K mJ10_utf16hashCode (xQ (wC D P) K Z) (g, τ) 0 [(0, .int x0), (1, .ref x1), (2, .int x2), (3, .int x3)] [] := by
  unfold f_c_J10_utf16hashCode at hf
  refine xr_iload_n (pc := 0) 2 dJ10_utf16hashCode_0 rfl rfl ?_
  refine xr_iload_n (pc := 1) 3 dJ10_utf16hashCode_1 rfl rfl ?_
  refine xr_iadd (pc := 2) dJ10_utf16hashCode_2 ?_
  refine xr_istore (pc := 3) (loc' := [(4, .int (x2 + x3)), (0, .int x0), (1, .ref x1), (2, .int x2), (3, .int x3)]) dJ10_utf16hashCode_3 (by decide) rfl ?_
  refine xr_iload_n (pc := 5) 3 dJ10_utf16hashCode_5 rfl rfl ?_
  refine xr_istore (pc := 6) (loc' := [(5, .int x2), (4, .int (x2 + x3)), (0, .int x0), (1, .ref x1), (2, .int x2), (3, .int x3)]) dJ10_utf16hashCode_6 (by decide) rfl ?_
  refine xV_sub [2, 3, 1, 0] rfl ?_
  obtain ⟨b1, hb1, hf⟩ := xo_bind hf
  refine itr_rule (P := fun s_ : Int32 × Int32 × CC => xV (wC D P) K mJ10_utf16hashCode (xQ (wC D P) K Z) (g, s_.2.2) 8 [(0, .int s_.1), (1, .ref x1), (4, .int (x2 + x3)), (5, .int s_.2.1)] []) (fun s_ o_ hB_ hc_ he_ => ok_Bc_J10_utf16hashCode_8 hB_ hc_ (fun e_ h_ => ?_)) 4096 _ hb1
  · have e9_ := he_ _ h_
    rw [e9_]
    refine xr_iload_n (pc := 38) 0 dJ10_utf16hashCode_38 rfl rfl ?_
    rw [kr _ (Option.some.inj hf).symm]
    exact xr_iret (pc := 39) dJ10_utf16hashCode_39 rfl
theorem met_f_c_J10_utf16hashCode (l : Launch) {D : CD} {P : CP} {g : CG} {x0 : Int32} {x1 : Nat} {x2 : Int32} {x3 : Int32} {τ : CC} {o_ : (Int32 × CC)} (hf : f_c_J10_utf16hashCode g x0 x1 x2 x3 τ = some o_) : xMet (wC D P) l yJ10_utf16hashCode (ws_ yJ10_utf16hashCode cJ10_utf16hashCode 6 (some .int)) 0 0 (grc g) (grs g) [.int x0, .ref x1, .int x2, .int x3] (g, τ) (some (.int o_.1), (g, o_.2)) := 
  xMet_of (by decide) (Nat.le_of_ble_eq_true rfl) KC_moved RPC_of (fun K _ _ _ => ok_f_c_J10_utf16hashCode hf (fun _ h => by rw [h]))
abbrev mJ10_hashCode : xM := (cJ10_hashCode, 6, RJ10, 0, 0, (some .int), "hashCode")
def Bc_J10_hashCode_8 (g : CG) (x1 : Nat) (x4 : Int32) (x0 : Int32) (x5 : Int32) (τ : CC) : Option ((Int32 × Int32 × CC) ⊕ ((Int32 × CC))) :=
  if x4 ≤ x5 then
  some (.inr (x0, τ))
  else
  if gT g x1 = 102 then
  if xin x5 (gN g x1) = true then
  some (.inl ((31 * x0) + (cA τ x1 x5.toNatClampNeg), x5 + 1, τ))
  else none
  else none
theorem ok_Bc_J10_hashCode_8 {D : CD} {P : CP} {K : xK} {g : CG} {Z : Option Value × CS} {x1 : Nat} {x4 : Int32} {x0 : Int32} {x5 : Int32} {τ : CC} {o_ : ((Int32 × Int32 × CC) ⊕ ((Int32 × CC)))} (hf : Bc_J10_hashCode_8 g x1 x4 x0 x5 τ = some o_) (kc : ∀ s_ : Int32 × Int32 × CC, o_ = .inl s_ → xV (wC D P) K mJ10_hashCode (xQ (wC D P) K Z) (g, s_.2.2) 8 [(0, .int s_.1), (1, .ref x1), (4, .int x4), (5, .int s_.2.1)] []) (ke0 : ∀ e_ : Int32 × CC, o_ = .inr e_ → xV (wC D P) K mJ10_hashCode (xQ (wC D P) K Z) (g, e_.2) 31 [(0, .int e_.1)] []) : xV (wC D P) K mJ10_hashCode (xQ (wC D P) K Z) (g, τ) 8 [(0, .int x0), (1, .ref x1), (4, .int x4), (5, .int x5)] [] := by
  unfold Bc_J10_hashCode_8 at hf
  refine xr_iload (pc := 8) 3 dJ10_hashCode_8 rfl ?_
  refine xr_iload (pc := 10) 2 dJ10_hashCode_10 rfl ?_
  refine xr_icmp_ge (pc := 12) 31 dJ10_hashCode_12 (by decide) (fun c_ => ?_) (fun c_ => ?_)
  · have hf := xo_pos c_ hf
    refine xV_sub [0] rfl ?_
    exact ke0 _ (Option.some.inj hf).symm
  · have hf := xo_neg c_ hf
    refine xr_bipush (pc := 15) dJ10_hashCode_15 xcb_31 ?_
    refine xr_iload_n (pc := 17) 0 dJ10_hashCode_17 rfl rfl ?_
    refine xr_imul (pc := 18) dJ10_hashCode_18 ?_
    refine xr_aload_n (pc := 19) 1 dJ10_hashCode_19 rfl rfl ?_
    refine xr_iload (pc := 20) 3 dJ10_hashCode_20 rfl ?_
    obtain ⟨ht1, hf⟩ := xo_if hf
    obtain ⟨hi_, hf⟩ := xo_if hf
    refine yc_cald (pc := 22) (gKo ht1 (by decide)) hi_ dJ10_hashCode_22 ?_
    refine xr_iadd (pc := 23) dJ10_hashCode_23 ?_
    refine xr_istore_n (pc := 24) (loc' := [(0, .int ((31 * x0) + (cA τ x1 x5.toNatClampNeg))), (1, .ref x1), (4, .int x4), (5, .int x5)]) dJ10_hashCode_24 rfl (by decide) rfl ?_
    refine xr_iinc (pc := 25) (loc' := [(5, .int (x5 + 1)), (0, .int ((31 * x0) + (cA τ x1 x5.toNatClampNeg))), (1, .ref x1), (4, .int x4)]) 3 dJ10_hashCode_25 rfl xci_1 (by decide) rfl ?_
    refine xr_goto (pc := 28) 8 dJ10_hashCode_28 (by decide) ?_
    refine xV_sub [1, 2, 3, 0] rfl ?_
    exact kc _ (Option.some.inj hf).symm
def f_c_J10_hashCode (g : CG) (x0 : Int32) (x1 : Nat) (x2 : Int32) (x3 : Int32) (τ : CC) : Option (Int32 × CC) :=
  (itr (fun s_ : Int32 × Int32 × CC => Bc_J10_hashCode_8 g x1 (x2 + x3) s_.1 s_.2.1 s_.2.2) 4096 (x0, x2, τ)).bind fun b2 =>
  some ((b2.1, b2.2))
theorem ok_f_c_J10_hashCode {D : CD} {P : CP} {K : xK} {g : CG} {Z : Option Value × CS} {x0 : Int32} {x1 : Nat} {x2 : Int32} {x3 : Int32} {τ : CC} {o_ : (Int32 × CC)} (hf : f_c_J10_hashCode g x0 x1 x2 x3 τ = some o_) (kr : ∀ r_ : (Int32 × CC), o_ = r_ → Z = (some (.int r_.1), (g, r_.2))) : xV (wC D P) K mJ10_hashCode (xQ (wC D P) K Z) (g, τ) 0 [(0, .int x0), (1, .ref x1), (2, .int x2), (3, .int x3)] [] := by
  unfold f_c_J10_hashCode at hf
  refine xr_iload_n (pc := 0) 2 dJ10_hashCode_0 rfl rfl ?_
  refine xr_iload_n (pc := 1) 3 dJ10_hashCode_1 rfl rfl ?_
  refine xr_iadd (pc := 2) dJ10_hashCode_2 ?_
  refine xr_istore (pc := 3) (loc' := [(4, .int (x2 + x3)), (0, .int x0), (1, .ref x1), (2, .int x2), (3, .int x3)]) dJ10_hashCode_3 (by decide) rfl ?_
  refine xr_iload_n (pc := 5) 3 dJ10_hashCode_5 rfl rfl ?_
  refine xr_istore (pc := 6) (loc' := [(5, .int x2), (4, .int (x2 + x3)), (0, .int x0), (1, .ref x1), (2, .int x2), (3, .int x3)]) dJ10_hashCode_6 (by decide) rfl ?_
  refine xV_sub [2, 3, 1, 0] rfl ?_
  obtain ⟨b2, hb2, hf⟩ := xo_bind hf
  refine itr_rule (P := fun s_ : Int32 × Int32 × CC => xV (wC D P) K mJ10_hashCode (xQ (wC D P) K Z) (g, s_.2.2) 8 [(0, .int s_.1), (1, .ref x1), (4, .int (x2 + x3)), (5, .int s_.2.1)] []) (fun s_ o_ hB_ hc_ he_ => ok_Bc_J10_hashCode_8 hB_ hc_ (fun e_ h_ => ?_)) 4096 _ hb2
  · have e9_ := he_ _ h_
    rw [e9_]
    refine xr_iload_n (pc := 31) 0 dJ10_hashCode_31 rfl rfl ?_
    rw [kr _ (Option.some.inj hf).symm]
    exact xr_iret (pc := 32) dJ10_hashCode_32 rfl
theorem met_f_c_J10_hashCode (l : Launch) {D : CD} {P : CP} {g : CG} {x0 : Int32} {x1 : Nat} {x2 : Int32} {x3 : Int32} {τ : CC} {o_ : (Int32 × CC)} (hf : f_c_J10_hashCode g x0 x1 x2 x3 τ = some o_) : xMet (wC D P) l yJ10_hashCode (ws_ yJ10_hashCode cJ10_hashCode 6 (some .int)) 0 0 (grc g) (grs g) [.int x0, .ref x1, .int x2, .int x3] (g, τ) (some (.int o_.1), (g, o_.2)) := 
  xMet_of (by decide) (Nat.le_of_ble_eq_true rfl) KC_moved RPC_of (fun K _ _ _ => ok_f_c_J10_hashCode hf (fun _ h => by rw [h]))
abbrev mJ10_hashCode_2 : xM := (cJ10_hashCode_2, 6, RJ10, 0, 0, (some .int), "hashCode")
def Bc_J10_hashCode_2_8 (g : CG) (x1 : Nat) (x4 : Int32) (x0 : Int32) (x5 : Int32) (τ : CC) : Option ((Int32 × Int32 × CC) ⊕ ((Int32 × CC))) :=
  if x4 ≤ x5 then
  some (.inr (x0, τ))
  else
  if gK g x1 = 103 then
  if xin x5 (gN g x1) = true then
  some (.inl ((31 * x0) + (cA τ x1 x5.toNatClampNeg), x5 + 1, τ))
  else none
  else none
theorem ok_Bc_J10_hashCode_2_8 {D : CD} {P : CP} {K : xK} {g : CG} {Z : Option Value × CS} {x1 : Nat} {x4 : Int32} {x0 : Int32} {x5 : Int32} {τ : CC} {o_ : ((Int32 × Int32 × CC) ⊕ ((Int32 × CC)))} (hf : Bc_J10_hashCode_2_8 g x1 x4 x0 x5 τ = some o_) (kc : ∀ s_ : Int32 × Int32 × CC, o_ = .inl s_ → xV (wC D P) K mJ10_hashCode_2 (xQ (wC D P) K Z) (g, s_.2.2) 8 [(0, .int s_.1), (1, .ref x1), (4, .int x4), (5, .int s_.2.1)] []) (ke0 : ∀ e_ : Int32 × CC, o_ = .inr e_ → xV (wC D P) K mJ10_hashCode_2 (xQ (wC D P) K Z) (g, e_.2) 31 [(0, .int e_.1)] []) : xV (wC D P) K mJ10_hashCode_2 (xQ (wC D P) K Z) (g, τ) 8 [(0, .int x0), (1, .ref x1), (4, .int x4), (5, .int x5)] [] := by
  unfold Bc_J10_hashCode_2_8 at hf
  refine xr_iload (pc := 8) 3 dJ10_hashCode_2_8 rfl ?_
  refine xr_iload (pc := 10) 2 dJ10_hashCode_2_10 rfl ?_
  refine xr_icmp_ge (pc := 12) 31 dJ10_hashCode_2_12 (by decide) (fun c_ => ?_) (fun c_ => ?_)
  · have hf := xo_pos c_ hf
    refine xV_sub [0] rfl ?_
    exact ke0 _ (Option.some.inj hf).symm
  · have hf := xo_neg c_ hf
    refine xr_bipush (pc := 15) dJ10_hashCode_2_15 xcb_31 ?_
    refine xr_iload_n (pc := 17) 0 dJ10_hashCode_2_17 rfl rfl ?_
    refine xr_imul (pc := 18) dJ10_hashCode_2_18 ?_
    refine xr_aload_n (pc := 19) 1 dJ10_hashCode_2_19 rfl rfl ?_
    refine xr_iload (pc := 20) 3 dJ10_hashCode_2_20 rfl ?_
    obtain ⟨ht1, hf⟩ := xo_if hf
    obtain ⟨hi_, hf⟩ := xo_if hf
    refine yc_bald (pc := 22) ht1 hi_ dJ10_hashCode_2_22 ?_
    refine xr_iadd (pc := 23) dJ10_hashCode_2_23 ?_
    refine xr_istore_n (pc := 24) (loc' := [(0, .int ((31 * x0) + (cA τ x1 x5.toNatClampNeg))), (1, .ref x1), (4, .int x4), (5, .int x5)]) dJ10_hashCode_2_24 rfl (by decide) rfl ?_
    refine xr_iinc (pc := 25) (loc' := [(5, .int (x5 + 1)), (0, .int ((31 * x0) + (cA τ x1 x5.toNatClampNeg))), (1, .ref x1), (4, .int x4)]) 3 dJ10_hashCode_2_25 rfl xci_1 (by decide) rfl ?_
    refine xr_goto (pc := 28) 8 dJ10_hashCode_2_28 (by decide) ?_
    refine xV_sub [1, 2, 3, 0] rfl ?_
    exact kc _ (Option.some.inj hf).symm
def f_c_J10_hashCode_2 (g : CG) (x0 : Int32) (x1 : Nat) (x2 : Int32) (x3 : Int32) (τ : CC) : Option (Int32 × CC) :=
  (itr (fun s_ : Int32 × Int32 × CC => Bc_J10_hashCode_2_8 g x1 (x2 + x3) s_.1 s_.2.1 s_.2.2) 4096 (x0, x2, τ)).bind fun b2 =>
  some ((b2.1, b2.2))
theorem ok_f_c_J10_hashCode_2 {D : CD} {P : CP} {K : xK} {g : CG} {Z : Option Value × CS} {x0 : Int32} {x1 : Nat} {x2 : Int32} {x3 : Int32} {τ : CC} {o_ : (Int32 × CC)} (hf : f_c_J10_hashCode_2 g x0 x1 x2 x3 τ = some o_) (kr : ∀ r_ : (Int32 × CC), o_ = r_ → Z = (some (.int r_.1), (g, r_.2))) : xV (wC D P) K mJ10_hashCode_2 (xQ (wC D P) K Z) (g, τ) 0 [(0, .int x0), (1, .ref x1), (2, .int x2), (3, .int x3)] [] := by
  unfold f_c_J10_hashCode_2 at hf
  refine xr_iload_n (pc := 0) 2 dJ10_hashCode_2_0 rfl rfl ?_
  refine xr_iload_n (pc := 1) 3 dJ10_hashCode_2_1 rfl rfl ?_
  refine xr_iadd (pc := 2) dJ10_hashCode_2_2 ?_
  refine xr_istore (pc := 3) (loc' := [(4, .int (x2 + x3)), (0, .int x0), (1, .ref x1), (2, .int x2), (3, .int x3)]) dJ10_hashCode_2_3 (by decide) rfl ?_
  refine xr_iload_n (pc := 5) 3 dJ10_hashCode_2_5 rfl rfl ?_
  refine xr_istore (pc := 6) (loc' := [(5, .int x2), (4, .int (x2 + x3)), (0, .int x0), (1, .ref x1), (2, .int x2), (3, .int x3)]) dJ10_hashCode_2_6 (by decide) rfl ?_
  refine xV_sub [2, 3, 1, 0] rfl ?_
  obtain ⟨b2, hb2, hf⟩ := xo_bind hf
  refine itr_rule (P := fun s_ : Int32 × Int32 × CC => xV (wC D P) K mJ10_hashCode_2 (xQ (wC D P) K Z) (g, s_.2.2) 8 [(0, .int s_.1), (1, .ref x1), (4, .int (x2 + x3)), (5, .int s_.2.1)] []) (fun s_ o_ hB_ hc_ he_ => ok_Bc_J10_hashCode_2_8 hB_ hc_ (fun e_ h_ => ?_)) 4096 _ hb2
  · have e9_ := he_ _ h_
    rw [e9_]
    refine xr_iload_n (pc := 31) 0 dJ10_hashCode_2_31 rfl rfl ?_
    rw [kr _ (Option.some.inj hf).symm]
    exact xr_iret (pc := 32) dJ10_hashCode_2_32 rfl
theorem met_f_c_J10_hashCode_2 (l : Launch) {D : CD} {P : CP} {g : CG} {x0 : Int32} {x1 : Nat} {x2 : Int32} {x3 : Int32} {τ : CC} {o_ : (Int32 × CC)} (hf : f_c_J10_hashCode_2 g x0 x1 x2 x3 τ = some o_) : xMet (wC D P) l yJ10_hashCode_2 (ws_ yJ10_hashCode_2 cJ10_hashCode_2 6 (some .int)) 0 0 (grc g) (grs g) [.int x0, .ref x1, .int x2, .int x3] (g, τ) (some (.int o_.1), (g, o_.2)) := 
  xMet_of (by decide) (Nat.le_of_ble_eq_true rfl) KC_moved RPC_of (fun K _ _ _ => ok_f_c_J10_hashCode_2 hf (fun _ h => by rw [h]))
abbrev mJ10_hashCode_3 : xM := (cJ10_hashCode_3, 6, RJ10, 0, 0, (some .int), "hashCode")
def Bc_J10_hashCode_3_8 (g : CG) (x1 : Nat) (x4 : Int32) (x0 : Int32) (x5 : Int32) (τ : CC) : Option ((Int32 × Int32 × CC) ⊕ ((Int32 × CC))) :=
  if x4 ≤ x5 then
  some (.inr (x0, τ))
  else
  none
theorem ok_Bc_J10_hashCode_3_8 {D : CD} {P : CP} {K : xK} {g : CG} {Z : Option Value × CS} {x1 : Nat} {x4 : Int32} {x0 : Int32} {x5 : Int32} {τ : CC} {o_ : ((Int32 × Int32 × CC) ⊕ ((Int32 × CC)))} (hf : Bc_J10_hashCode_3_8 g x1 x4 x0 x5 τ = some o_) (kc : ∀ s_ : Int32 × Int32 × CC, o_ = .inl s_ → xV (wC D P) K mJ10_hashCode_3 (xQ (wC D P) K Z) (g, s_.2.2) 8 [(0, .int s_.1), (1, .ref x1), (4, .int x4), (5, .int s_.2.1)] []) (ke0 : ∀ e_ : Int32 × CC, o_ = .inr e_ → xV (wC D P) K mJ10_hashCode_3 (xQ (wC D P) K Z) (g, e_.2) 31 [(0, .int e_.1)] []) : xV (wC D P) K mJ10_hashCode_3 (xQ (wC D P) K Z) (g, τ) 8 [(0, .int x0), (1, .ref x1), (4, .int x4), (5, .int x5)] [] := by
  unfold Bc_J10_hashCode_3_8 at hf
  refine xr_iload (pc := 8) 3 dJ10_hashCode_3_8 rfl ?_
  refine xr_iload (pc := 10) 2 dJ10_hashCode_3_10 rfl ?_
  refine xr_icmp_ge (pc := 12) 31 dJ10_hashCode_3_12 (by decide) (fun c_ => ?_) (fun c_ => ?_)
  · have hf := xo_pos c_ hf
    refine xV_sub [0] rfl ?_
    exact ke0 _ (Option.some.inj hf).symm
  · have hf := xo_neg c_ hf
    refine xr_bipush (pc := 15) dJ10_hashCode_3_15 xcb_31 ?_
    refine xr_iload_n (pc := 17) 0 dJ10_hashCode_3_17 rfl rfl ?_
    refine xr_imul (pc := 18) dJ10_hashCode_3_18 ?_
    refine xr_aload_n (pc := 19) 1 dJ10_hashCode_3_19 rfl rfl ?_
    refine xr_iload (pc := 20) 3 dJ10_hashCode_3_20 rfl ?_
    cases hf
def f_c_J10_hashCode_3 (g : CG) (x0 : Int32) (x1 : Nat) (x2 : Int32) (x3 : Int32) (τ : CC) : Option (Int32 × CC) :=
  (itr (fun s_ : Int32 × Int32 × CC => Bc_J10_hashCode_3_8 g x1 (x2 + x3) s_.1 s_.2.1 s_.2.2) 4096 (x0, x2, τ)).bind fun b1 =>
  some ((b1.1, b1.2))
theorem ok_f_c_J10_hashCode_3 {D : CD} {P : CP} {K : xK} {g : CG} {Z : Option Value × CS} {x0 : Int32} {x1 : Nat} {x2 : Int32} {x3 : Int32} {τ : CC} {o_ : (Int32 × CC)} (hf : f_c_J10_hashCode_3 g x0 x1 x2 x3 τ = some o_) (kr : ∀ r_ : (Int32 × CC), o_ = r_ → Z = (some (.int r_.1), (g, r_.2))) : xV (wC D P) K mJ10_hashCode_3 (xQ (wC D P) K Z) (g, τ) 0 [(0, .int x0), (1, .ref x1), (2, .int x2), (3, .int x3)] [] := by
  unfold f_c_J10_hashCode_3 at hf
  refine xr_iload_n (pc := 0) 2 dJ10_hashCode_3_0 rfl rfl ?_
  refine xr_iload_n (pc := 1) 3 dJ10_hashCode_3_1 rfl rfl ?_
  refine xr_iadd (pc := 2) dJ10_hashCode_3_2 ?_
  refine xr_istore (pc := 3) (loc' := [(4, .int (x2 + x3)), (0, .int x0), (1, .ref x1), (2, .int x2), (3, .int x3)]) dJ10_hashCode_3_3 (by decide) rfl ?_
  refine xr_iload_n (pc := 5) 3 dJ10_hashCode_3_5 rfl rfl ?_
  refine xr_istore (pc := 6) (loc' := [(5, .int x2), (4, .int (x2 + x3)), (0, .int x0), (1, .ref x1), (2, .int x2), (3, .int x3)]) dJ10_hashCode_3_6 (by decide) rfl ?_
  refine xV_sub [2, 3, 1, 0] rfl ?_
  obtain ⟨b1, hb1, hf⟩ := xo_bind hf
  refine itr_rule (P := fun s_ : Int32 × Int32 × CC => xV (wC D P) K mJ10_hashCode_3 (xQ (wC D P) K Z) (g, s_.2.2) 8 [(0, .int s_.1), (1, .ref x1), (4, .int (x2 + x3)), (5, .int s_.2.1)] []) (fun s_ o_ hB_ hc_ he_ => ok_Bc_J10_hashCode_3_8 hB_ hc_ (fun e_ h_ => ?_)) 4096 _ hb1
  · have e9_ := he_ _ h_
    rw [e9_]
    refine xr_iload_n (pc := 31) 0 dJ10_hashCode_3_31 rfl rfl ?_
    rw [kr _ (Option.some.inj hf).symm]
    exact xr_iret (pc := 32) dJ10_hashCode_3_32 rfl
theorem met_f_c_J10_hashCode_3 (l : Launch) {D : CD} {P : CP} {g : CG} {x0 : Int32} {x1 : Nat} {x2 : Int32} {x3 : Int32} {τ : CC} {o_ : (Int32 × CC)} (hf : f_c_J10_hashCode_3 g x0 x1 x2 x3 τ = some o_) : xMet (wC D P) l yJ10_hashCode_3 (ws_ yJ10_hashCode_3 cJ10_hashCode_3 6 (some .int)) 0 0 (grc g) (grs g) [.int x0, .ref x1, .int x2, .int x3] (g, τ) (some (.int o_.1), (g, o_.2)) := 
  xMet_of (by decide) (Nat.le_of_ble_eq_true rfl) KC_moved RPC_of (fun K _ _ _ => ok_f_c_J10_hashCode_3 hf (fun _ h => by rw [h]))
abbrev mJ10_hashCode_4 : xM := (cJ10_hashCode_4, 6, RJ10, 0, 0, (some .int), "hashCode")
def Bc_J10_hashCode_4_8 (g : CG) (x1 : Nat) (x4 : Int32) (x0 : Int32) (x5 : Int32) (τ : CC) : Option ((Int32 × Int32 × CC) ⊕ ((Int32 × CC))) :=
  if x4 ≤ x5 then
  some (.inr (x0, τ))
  else
  if gT g x1 = 100 then
  if xin x5 (gN g x1) = true then
  some (.inl ((31 * x0) + (cA τ x1 x5.toNatClampNeg), x5 + 1, τ))
  else none
  else none
theorem ok_Bc_J10_hashCode_4_8 {D : CD} {P : CP} {K : xK} {g : CG} {Z : Option Value × CS} {x1 : Nat} {x4 : Int32} {x0 : Int32} {x5 : Int32} {τ : CC} {o_ : ((Int32 × Int32 × CC) ⊕ ((Int32 × CC)))} (hf : Bc_J10_hashCode_4_8 g x1 x4 x0 x5 τ = some o_) (kc : ∀ s_ : Int32 × Int32 × CC, o_ = .inl s_ → xV (wC D P) K mJ10_hashCode_4 (xQ (wC D P) K Z) (g, s_.2.2) 8 [(0, .int s_.1), (1, .ref x1), (4, .int x4), (5, .int s_.2.1)] []) (ke0 : ∀ e_ : Int32 × CC, o_ = .inr e_ → xV (wC D P) K mJ10_hashCode_4 (xQ (wC D P) K Z) (g, e_.2) 31 [(0, .int e_.1)] []) : xV (wC D P) K mJ10_hashCode_4 (xQ (wC D P) K Z) (g, τ) 8 [(0, .int x0), (1, .ref x1), (4, .int x4), (5, .int x5)] [] := by
  unfold Bc_J10_hashCode_4_8 at hf
  refine xr_iload (pc := 8) 3 dJ10_hashCode_4_8 rfl ?_
  refine xr_iload (pc := 10) 2 dJ10_hashCode_4_10 rfl ?_
  refine xr_icmp_ge (pc := 12) 31 dJ10_hashCode_4_12 (by decide) (fun c_ => ?_) (fun c_ => ?_)
  · have hf := xo_pos c_ hf
    refine xV_sub [0] rfl ?_
    exact ke0 _ (Option.some.inj hf).symm
  · have hf := xo_neg c_ hf
    refine xr_bipush (pc := 15) dJ10_hashCode_4_15 xcb_31 ?_
    refine xr_iload_n (pc := 17) 0 dJ10_hashCode_4_17 rfl rfl ?_
    refine xr_imul (pc := 18) dJ10_hashCode_4_18 ?_
    refine xr_aload_n (pc := 19) 1 dJ10_hashCode_4_19 rfl rfl ?_
    refine xr_iload (pc := 20) 3 dJ10_hashCode_4_20 rfl ?_
    obtain ⟨ht1, hf⟩ := xo_if hf
    obtain ⟨hi_, hf⟩ := xo_if hf
    refine yc_iald (pc := 22) (gKo ht1 (by decide)) hi_ dJ10_hashCode_4_22 ?_
    refine xr_iadd (pc := 23) dJ10_hashCode_4_23 ?_
    refine xr_istore_n (pc := 24) (loc' := [(0, .int ((31 * x0) + (cA τ x1 x5.toNatClampNeg))), (1, .ref x1), (4, .int x4), (5, .int x5)]) dJ10_hashCode_4_24 rfl (by decide) rfl ?_
    refine xr_iinc (pc := 25) (loc' := [(5, .int (x5 + 1)), (0, .int ((31 * x0) + (cA τ x1 x5.toNatClampNeg))), (1, .ref x1), (4, .int x4)]) 3 dJ10_hashCode_4_25 rfl xci_1 (by decide) rfl ?_
    refine xr_goto (pc := 28) 8 dJ10_hashCode_4_28 (by decide) ?_
    refine xV_sub [1, 2, 3, 0] rfl ?_
    exact kc _ (Option.some.inj hf).symm
def f_c_J10_hashCode_4 (g : CG) (x0 : Int32) (x1 : Nat) (x2 : Int32) (x3 : Int32) (τ : CC) : Option (Int32 × CC) :=
  (itr (fun s_ : Int32 × Int32 × CC => Bc_J10_hashCode_4_8 g x1 (x2 + x3) s_.1 s_.2.1 s_.2.2) 4096 (x0, x2, τ)).bind fun b2 =>
  some ((b2.1, b2.2))
theorem ok_f_c_J10_hashCode_4 {D : CD} {P : CP} {K : xK} {g : CG} {Z : Option Value × CS} {x0 : Int32} {x1 : Nat} {x2 : Int32} {x3 : Int32} {τ : CC} {o_ : (Int32 × CC)} (hf : f_c_J10_hashCode_4 g x0 x1 x2 x3 τ = some o_) (kr : ∀ r_ : (Int32 × CC), o_ = r_ → Z = (some (.int r_.1), (g, r_.2))) : xV (wC D P) K mJ10_hashCode_4 (xQ (wC D P) K Z) (g, τ) 0 [(0, .int x0), (1, .ref x1), (2, .int x2), (3, .int x3)] [] := by
  unfold f_c_J10_hashCode_4 at hf
  refine xr_iload_n (pc := 0) 2 dJ10_hashCode_4_0 rfl rfl ?_
  refine xr_iload_n (pc := 1) 3 dJ10_hashCode_4_1 rfl rfl ?_
  refine xr_iadd (pc := 2) dJ10_hashCode_4_2 ?_
  refine xr_istore (pc := 3) (loc' := [(4, .int (x2 + x3)), (0, .int x0), (1, .ref x1), (2, .int x2), (3, .int x3)]) dJ10_hashCode_4_3 (by decide) rfl ?_
  refine xr_iload_n (pc := 5) 3 dJ10_hashCode_4_5 rfl rfl ?_
  refine xr_istore (pc := 6) (loc' := [(5, .int x2), (4, .int (x2 + x3)), (0, .int x0), (1, .ref x1), (2, .int x2), (3, .int x3)]) dJ10_hashCode_4_6 (by decide) rfl ?_
  refine xV_sub [2, 3, 1, 0] rfl ?_
  obtain ⟨b2, hb2, hf⟩ := xo_bind hf
  refine itr_rule (P := fun s_ : Int32 × Int32 × CC => xV (wC D P) K mJ10_hashCode_4 (xQ (wC D P) K Z) (g, s_.2.2) 8 [(0, .int s_.1), (1, .ref x1), (4, .int (x2 + x3)), (5, .int s_.2.1)] []) (fun s_ o_ hB_ hc_ he_ => ok_Bc_J10_hashCode_4_8 hB_ hc_ (fun e_ h_ => ?_)) 4096 _ hb2
  · have e9_ := he_ _ h_
    rw [e9_]
    refine xr_iload_n (pc := 31) 0 dJ10_hashCode_4_31 rfl rfl ?_
    rw [kr _ (Option.some.inj hf).symm]
    exact xr_iret (pc := 32) dJ10_hashCode_4_32 rfl
theorem met_f_c_J10_hashCode_4 (l : Launch) {D : CD} {P : CP} {g : CG} {x0 : Int32} {x1 : Nat} {x2 : Int32} {x3 : Int32} {τ : CC} {o_ : (Int32 × CC)} (hf : f_c_J10_hashCode_4 g x0 x1 x2 x3 τ = some o_) : xMet (wC D P) l yJ10_hashCode_4 (ws_ yJ10_hashCode_4 cJ10_hashCode_4 6 (some .int)) 0 0 (grc g) (grs g) [.int x0, .ref x1, .int x2, .int x3] (g, τ) (some (.int o_.1), (g, o_.2)) := 
  xMet_of (by decide) (Nat.le_of_ble_eq_true rfl) KC_moved RPC_of (fun K _ _ _ => ok_f_c_J10_hashCode_4 hf (fun _ h => by rw [h]))
theorem hd_f_c_J10_hashCode_2 : yJ10_hashCode_2.cls ≠ "java/lang/invoke/MethodHandle" ∧ yJ10_hashCode_2.cls ≠ "java/lang/invoke/VarHandle" ∧ (parseMethodDescriptor yJ10_hashCode_2.desc).map (fun d => d.parameters.length) = some 4 := by decide +kernel
theorem call_f_c_J10_hashCode_2_J10_75 {D : CD} {P : CP} {K : xK} {M : xM} {Q : State → Prop} {g : CG} {c : CC} {x0 : Int32} {x1 : Nat} {x2 : Int32} {x3 : Int32} {pc : Nat} {loc : List (Nat × Value)} {st : List Value} {r : Int32} {c1 : CC} (hf : f_c_J10_hashCode_2 g x0 x1 x2 x3 c = some (r, c1)) (ho : M.2.2.1 = RJ10) (hfr : 1 ≤ M.2.2.2.1) (hlo : 25 ≤ M.2.2.2.2.1) (hcat : (st.map fun v => v.category).sum ≤ 8) (d : decode M.1 pc = .ok (.invokestatic 75, 3)) (k : xV (wC D P) K M Q (g, c1) (pc + 3) loc (.int r :: st)) : xV (wC D P) K M Q (g, c) pc loc (.int x3 :: .int x2 :: .ref x1 :: .int x0 :: st) :=
  yc_callS (As := [.int x0, .ref x1, .int x2, .int x3]) (rest := st) (met_f_c_J10_hashCode_2 K.2.1 hf) (lw_S q772 q773 q191 q774) hd_f_c_J10_hashCode_2 ho hfr hlo rfl rfl hcat d k
theorem hd_f_c_J10_signedHashCode : yJ10_signedHashCode.cls ≠ "java/lang/invoke/MethodHandle" ∧ yJ10_signedHashCode.cls ≠ "java/lang/invoke/VarHandle" ∧ (parseMethodDescriptor yJ10_signedHashCode.desc).map (fun d => d.parameters.length) = some 4 := by decide +kernel
theorem call_f_c_J10_signedHashCode_J10_62 {D : CD} {P : CP} {K : xK} {M : xM} {Q : State → Prop} {g : CG} {c : CC} {x0 : Int32} {x1 : Nat} {x2 : Int32} {x3 : Int32} {pc : Nat} {loc : List (Nat × Value)} {st : List Value} {r : Int32} {c1 : CC} (hf : f_c_J10_signedHashCode g x0 x1 x2 x3 c = some (r, c1)) (ho : M.2.2.1 = RJ10) (hfr : 1 ≤ M.2.2.2.1) (hlo : 25 ≤ M.2.2.2.2.1) (hcat : (st.map fun v => v.category).sum ≤ 8) (d : decode M.1 pc = .ok (.invokestatic 62, 3)) (k : xV (wC D P) K M Q (g, c1) (pc + 3) loc (.int r :: st)) : xV (wC D P) K M Q (g, c) pc loc (.int x3 :: .int x2 :: .ref x1 :: .int x0 :: st) :=
  yc_callS (As := [.int x0, .ref x1, .int x2, .int x3]) (rest := st) (met_f_c_J10_signedHashCode K.2.1 hf) (lw_S q749 q750 q191 q751) hd_f_c_J10_signedHashCode ho hfr hlo rfl rfl hcat d k
abbrev mJ10_vectorizedHashCode : xM := (cJ10_vectorizedHashCode, 5, RJ10, 1, 60, (some .int), "vectorizedHashCode")
def Jc_J10_vectorizedHashCode_129 (g : CG) (x4 : Int32) (τ : CC) : Option (Int32 × CC) :=
  none
theorem ok_Jc_J10_vectorizedHashCode_129 {D : CD} {P : CP} {K : xK} {g : CG} {Z : Option Value × CS} {x4 : Int32} {τ : CC} {o_ : (Int32 × CC)} (hf : Jc_J10_vectorizedHashCode_129 g x4 τ = some o_) (kr : ∀ r_ : (Int32 × CC), o_ = r_ → Z = (some (.int r_.1), (g, r_.2))) : xV (wC D P) K mJ10_vectorizedHashCode (xQ (wC D P) K Z) (g, τ) 129 [(4, .int x4)] [] := by
  unfold Jc_J10_vectorizedHashCode_129 at hf
  cases hf
def f_c_J10_vectorizedHashCode (g : CG) (x0 : Nat) (x1 : Int32) (x2 : Int32) (x3 : Int32) (x4 : Int32) (τ : CC) : Option (Int32 × CC) :=
  if x4 = 4 then
  if gK g x0 = 103 then
  xbd (f_c_J10_signedHashCode g x3 x0 x1 x2 τ) fun r4 τ4 =>
  some ((r4, τ4))
  else none
  else
  if x4 = 5 then
  none
  else
  if x4 = 6 then
  Jc_J10_vectorizedHashCode_129 g x4 τ
  else
  if x4 = 7 then
  Jc_J10_vectorizedHashCode_129 g x4 τ
  else
  if x4 = 8 then
  if gK g x0 = 103 then
  xbd (f_c_J10_hashCode_2 g x3 x0 x1 x2 τ) fun r2 τ2 =>
  some ((r2, τ2))
  else none
  else
  if x4 = 9 then
  none
  else
  if x4 = 10 then
  none
  else
  Jc_J10_vectorizedHashCode_129 g x4 τ
theorem ok_f_c_J10_vectorizedHashCode {D : CD} {P : CP} {K : xK} {g : CG} {Z : Option Value × CS} {x0 : Nat} {x1 : Int32} {x2 : Int32} {x3 : Int32} {x4 : Int32} {τ : CC} {o_ : (Int32 × CC)} (hf : f_c_J10_vectorizedHashCode g x0 x1 x2 x3 x4 τ = some o_) (kr : ∀ r_ : (Int32 × CC), o_ = r_ → Z = (some (.int r_.1), (g, r_.2))) : xV (wC D P) K mJ10_vectorizedHashCode (xQ (wC D P) K Z) (g, τ) 0 [(0, .ref x0), (1, .int x1), (2, .int x2), (3, .int x3), (4, .int x4)] [] := by
  unfold f_c_J10_vectorizedHashCode at hf
  refine xr_iload (pc := 0) 4 dJ10_vectorizedHashCode_0 rfl ?_
  by_cases c0_ : x4 = 4
  · have hf := xo_pos c0_ hf
    refine xr_tsw_in (pc := 2) (v := 4) (off := 42) 44 dJ10_vectorizedHashCode_2 c0_ (by decide) (by decide +kernel) (by decide) ?_
    refine xr_iload_n (pc := 44) 3 dJ10_vectorizedHashCode_44 rfl rfl ?_
    refine xr_aload_n (pc := 45) 0 dJ10_vectorizedHashCode_45 rfl rfl ?_
    obtain ⟨ht3, hf⟩ := xo_if hf
    refine yc_chkA (pc := 46) 103 ht3 (by decide) (by decide) q748 rfl rfl dJ10_vectorizedHashCode_46 ?_
    refine xr_iload_n (pc := 49) 1 dJ10_vectorizedHashCode_49 rfl rfl ?_
    refine xr_iload_n (pc := 50) 2 dJ10_vectorizedHashCode_50 rfl rfl ?_
    obtain ⟨r4, τ4, hτ4, hf⟩ := xo_bd hf
    refine call_f_c_J10_signedHashCode_J10_62 (pc := 51) hτ4 rfl (Nat.le_of_ble_eq_true rfl) (Nat.le_of_ble_eq_true rfl) (Nat.le_of_ble_eq_true rfl) dJ10_vectorizedHashCode_51 ?_
    refine xr_goto (pc := 54) 157 dJ10_vectorizedHashCode_54 (by decide) ?_
    rw [kr _ (Option.some.inj hf).symm]
    exact xr_iret (pc := 157) dJ10_vectorizedHashCode_157 rfl
  have hf := xo_neg c0_ hf
  by_cases c1_ : x4 = 5
  · have hf := xo_pos c1_ hf
    refine xr_tsw_in (pc := 2) (v := 5) (off := 55) 57 dJ10_vectorizedHashCode_2 c1_ (by decide) (by decide +kernel) (by decide) ?_
    refine xr_aload_n (pc := 57) 0 dJ10_vectorizedHashCode_57 rfl rfl ?_
    cases hf
  have hf := xo_neg c1_ hf
  by_cases c2_ : x4 = 6
  · have hf := xo_pos c2_ hf
    refine xr_tsw_in (pc := 2) (v := 6) (off := 127) 129 dJ10_vectorizedHashCode_2 c2_ (by decide) (by decide +kernel) (by decide) ?_
    refine xV_sub [4] rfl ?_
    exact ok_Jc_J10_vectorizedHashCode_129 hf kr
  have hf := xo_neg c2_ hf
  by_cases c3_ : x4 = 7
  · have hf := xo_pos c3_ hf
    refine xr_tsw_in (pc := 2) (v := 7) (off := 127) 129 dJ10_vectorizedHashCode_2 c3_ (by decide) (by decide +kernel) (by decide) ?_
    refine xV_sub [4] rfl ?_
    exact ok_Jc_J10_vectorizedHashCode_129 hf kr
  have hf := xo_neg c3_ hf
  by_cases c4_ : x4 = 8
  · have hf := xo_pos c4_ hf
    refine xr_tsw_in (pc := 2) (v := 8) (off := 88) 90 dJ10_vectorizedHashCode_2 c4_ (by decide) (by decide +kernel) (by decide) ?_
    refine xr_iload_n (pc := 90) 3 dJ10_vectorizedHashCode_90 rfl rfl ?_
    refine xr_aload_n (pc := 91) 0 dJ10_vectorizedHashCode_91 rfl rfl ?_
    obtain ⟨ht1, hf⟩ := xo_if hf
    refine yc_chkA (pc := 92) 103 ht1 (by decide) (by decide) q748 rfl rfl dJ10_vectorizedHashCode_92 ?_
    refine xr_iload_n (pc := 95) 1 dJ10_vectorizedHashCode_95 rfl rfl ?_
    refine xr_iload_n (pc := 96) 2 dJ10_vectorizedHashCode_96 rfl rfl ?_
    obtain ⟨r2, τ2, hτ2, hf⟩ := xo_bd hf
    refine call_f_c_J10_hashCode_2_J10_75 (pc := 97) hτ2 rfl (Nat.le_of_ble_eq_true rfl) (Nat.le_of_ble_eq_true rfl) (Nat.le_of_ble_eq_true rfl) dJ10_vectorizedHashCode_97 ?_
    refine xr_goto (pc := 100) 157 dJ10_vectorizedHashCode_100 (by decide) ?_
    rw [kr _ (Option.some.inj hf).symm]
    exact xr_iret (pc := 157) dJ10_vectorizedHashCode_157 rfl
  have hf := xo_neg c4_ hf
  by_cases c5_ : x4 = 9
  · have hf := xo_pos c5_ hf
    refine xr_tsw_in (pc := 2) (v := 9) (off := 101) 103 dJ10_vectorizedHashCode_2 c5_ (by decide) (by decide +kernel) (by decide) ?_
    refine xr_iload_n (pc := 103) 3 dJ10_vectorizedHashCode_103 rfl rfl ?_
    refine xr_aload_n (pc := 104) 0 dJ10_vectorizedHashCode_104 rfl rfl ?_
    cases hf
  have hf := xo_neg c5_ hf
  by_cases c6_ : x4 = 10
  · have hf := xo_pos c6_ hf
    refine xr_tsw_in (pc := 2) (v := 10) (off := 114) 116 dJ10_vectorizedHashCode_2 c6_ (by decide) (by decide +kernel) (by decide) ?_
    refine xr_iload_n (pc := 116) 3 dJ10_vectorizedHashCode_116 rfl rfl ?_
    refine xr_aload_n (pc := 117) 0 dJ10_vectorizedHashCode_117 rfl rfl ?_
    cases hf
  have hf := xo_neg c6_ hf
  refine xr_tsw_out (pc := 2) 129 dJ10_vectorizedHashCode_2 (xsw_out 4 10 [4, 5, 6, 7, 8, 9, 10] (by decide +kernel) (List.forall_mem_cons.mpr ⟨c0_, List.forall_mem_cons.mpr ⟨c1_, List.forall_mem_cons.mpr ⟨c2_, List.forall_mem_cons.mpr ⟨c3_, List.forall_mem_cons.mpr ⟨c4_, List.forall_mem_cons.mpr ⟨c5_, List.forall_mem_cons.mpr ⟨c6_, List.forall_mem_nil _⟩⟩⟩⟩⟩⟩⟩)) (by decide) ?_
  refine xV_sub [4] rfl ?_
  exact ok_Jc_J10_vectorizedHashCode_129 hf kr
theorem met_f_c_J10_vectorizedHashCode (l : Launch) {D : CD} {P : CP} {g : CG} {x0 : Nat} {x1 : Int32} {x2 : Int32} {x3 : Int32} {x4 : Int32} {τ : CC} {o_ : (Int32 × CC)} (hf : f_c_J10_vectorizedHashCode g x0 x1 x2 x3 x4 τ = some o_) : xMet (wC D P) l yJ10_vectorizedHashCode (ws_ yJ10_vectorizedHashCode cJ10_vectorizedHashCode 5 (some .int)) 1 60 (grc g) (grs g) [.ref x0, .int x1, .int x2, .int x3, .int x4] (g, τ) (some (.int o_.1), (g, o_.2)) := 
  xMet_of (by decide) (Nat.le_of_ble_eq_true rfl) KC_moved RPC_of (fun K _ _ _ => ok_f_c_J10_vectorizedHashCode hf (fun _ h => by rw [h]))
theorem hd_f_c_J10_vectorizedHashCode : yJ10_vectorizedHashCode.cls ≠ "java/lang/invoke/MethodHandle" ∧ yJ10_vectorizedHashCode.cls ≠ "java/lang/invoke/VarHandle" ∧ (parseMethodDescriptor yJ10_vectorizedHashCode.desc).map (fun d => d.parameters.length) = some 5 := by decide +kernel
theorem call_f_c_J10_vectorizedHashCode_J9_84 {D : CD} {P : CP} {K : xK} {M : xM} {Q : State → Prop} {g : CG} {c : CC} {x0 : Nat} {x1 : Int32} {x2 : Int32} {x3 : Int32} {x4 : Int32} {pc : Nat} {loc : List (Nat × Value)} {st : List Value} {r : Int32} {c1 : CC} (hf : f_c_J10_vectorizedHashCode g x0 x1 x2 x3 x4 c = some (r, c1)) (ho : M.2.2.1 = RJ9) (hfr : 2 ≤ M.2.2.2.1) (hlo : 84 ≤ M.2.2.2.2.1) (hcat : (st.map fun v => v.category).sum ≤ 8) (d : decode M.1 pc = .ok (.invokestatic 84, 3)) (k : xV (wC D P) K M Q (g, c1) (pc + 3) loc (.int r :: st)) : xV (wC D P) K M Q (g, c) pc loc (.int x4 :: .int x3 :: .int x2 :: .int x1 :: .ref x0 :: st) :=
  yc_callS (As := [.ref x0, .int x1, .int x2, .int x3, .int x4]) (rest := st) (met_f_c_J10_vectorizedHashCode K.2.1 hf) (lw_S q745 q746 q191 q747) hd_f_c_J10_vectorizedHashCode ho hfr hlo rfl rfl hcat d k
abbrev mJ9_hashCode : xM := (cJ9_hashCode, 1, RJ9, 2, 120, (some .int), "hashCode")
def f_c_J9_hashCode (g : CG) (x0 : Nat) (τ : CC) : Option (Int32 × CC) :=
  if gK g x0 = 103 then
  if (Int32.ofNat (gN g x0)) = 0 then
  some ((0, τ))
  else
  if (Int32.ofNat (gN g x0)) = 1 then
  if xin 0 (gN g x0) = true then
  some (((cA τ x0 (0 : Int32).toNatClampNeg) &&& 255, τ))
  else none
  else
  xbd (f_c_J10_vectorizedHashCode g x0 0 (Int32.ofNat (gN g x0)) 0 4 τ) fun r2 τ2 =>
  some ((r2, τ2))
  else none
theorem ok_f_c_J9_hashCode {D : CD} {P : CP} {K : xK} {g : CG} {Z : Option Value × CS} {x0 : Nat} {τ : CC} {o_ : (Int32 × CC)} (hf : f_c_J9_hashCode g x0 τ = some o_) (kr : ∀ r_ : (Int32 × CC), o_ = r_ → Z = (some (.int r_.1), (g, r_.2))) : xV (wC D P) K mJ9_hashCode (xQ (wC D P) K Z) (g, τ) 0 [(0, .ref x0)] [] := by
  unfold f_c_J9_hashCode at hf
  refine xr_aload_n (pc := 0) 0 dJ9_hashCode_0 rfl rfl ?_
  obtain ⟨ht1, hf⟩ := xo_if hf
  refine yc_alen (pc := 1) 103 ht1 (by decide) (by decide) dJ9_hashCode_1 ?_
  by_cases c0_ : (Int32.ofNat (gN g x0)) = 0
  · have hf := xo_pos c0_ hf
    refine xr_lsw (pc := 2) (off := 26) 28 dJ9_hashCode_2 (by decide) (by rw [c0_]; decide +kernel) (by decide) ?_
    refine xr_iconst (pc := 28) dJ9_hashCode_28 xci_0 ?_
    refine xr_goto (pc := 29) 51 dJ9_hashCode_29 (by decide) ?_
    rw [kr _ (Option.some.inj hf).symm]
    exact xr_iret (pc := 51) dJ9_hashCode_51 rfl
  have hf := xo_neg c0_ hf
  by_cases c1_ : (Int32.ofNat (gN g x0)) = 1
  · have hf := xo_pos c1_ hf
    refine xr_lsw (pc := 2) (off := 30) 32 dJ9_hashCode_2 (by decide) (by rw [c1_]; decide +kernel) (by decide) ?_
    refine xr_aload_n (pc := 32) 0 dJ9_hashCode_32 rfl rfl ?_
    refine xr_iconst (pc := 33) dJ9_hashCode_33 xci_0 ?_
    obtain ⟨hi_, hf⟩ := xo_if hf
    refine yc_bald (pc := 34) ht1 hi_ dJ9_hashCode_34 ?_
    refine xr_sipush (pc := 35) dJ9_hashCode_35 xcs_255 ?_
    refine xr_iand (pc := 38) dJ9_hashCode_38 ?_
    refine xr_goto (pc := 39) 51 dJ9_hashCode_39 (by decide) ?_
    rw [kr _ (Option.some.inj hf).symm]
    exact xr_iret (pc := 51) dJ9_hashCode_51 rfl
  have hf := xo_neg c1_ hf
  refine xr_lsw (pc := 2) (off := 40) 42 dJ9_hashCode_2 (by decide) (by show Op.lookupswitch.offset _ _ _ = _; rw [lv_osw (k := 0) c0_ (by decide), lv_osw (k := 1) c1_ (by decide)]; rfl) (by decide) ?_
  refine xr_aload_n (pc := 42) 0 dJ9_hashCode_42 rfl rfl ?_
  refine xr_iconst (pc := 43) dJ9_hashCode_43 xci_0 ?_
  refine xr_aload_n (pc := 44) 0 dJ9_hashCode_44 rfl rfl ?_
  refine yc_alen (pc := 45) 103 ht1 (by decide) (by decide) dJ9_hashCode_45 ?_
  refine xr_iconst (pc := 46) dJ9_hashCode_46 xci_0 ?_
  refine xr_iconst (pc := 47) dJ9_hashCode_47 xci_4 ?_
  obtain ⟨r2, τ2, hτ2, hf⟩ := xo_bd hf
  refine call_f_c_J10_vectorizedHashCode_J9_84 (pc := 48) hτ2 rfl (Nat.le_of_ble_eq_true rfl) (Nat.le_of_ble_eq_true rfl) (Nat.le_of_ble_eq_true rfl) dJ9_hashCode_48 ?_
  rw [kr _ (Option.some.inj hf).symm]
  exact xr_iret (pc := 51) dJ9_hashCode_51 rfl
theorem met_f_c_J9_hashCode (l : Launch) {D : CD} {P : CP} {g : CG} {x0 : Nat} {τ : CC} {o_ : (Int32 × CC)} (hf : f_c_J9_hashCode g x0 τ = some o_) : xMet (wC D P) l yJ9_hashCode (ws_ yJ9_hashCode cJ9_hashCode 1 (some .int)) 2 120 (grc g) (grs g) [.ref x0] (g, τ) (some (.int o_.1), (g, o_.2)) := 
  xMet_of (by decide) (Nat.le_of_ble_eq_true rfl) KC_moved RPC_of (fun K _ _ _ => ok_f_c_J9_hashCode hf (fun _ h => by rw [h]))
theorem call_f_c_J10_vectorizedHashCode_J7_220 {D : CD} {P : CP} {K : xK} {M : xM} {Q : State → Prop} {g : CG} {c : CC} {x0 : Nat} {x1 : Int32} {x2 : Int32} {x3 : Int32} {x4 : Int32} {pc : Nat} {loc : List (Nat × Value)} {st : List Value} {r : Int32} {c1 : CC} (hf : f_c_J10_vectorizedHashCode g x0 x1 x2 x3 x4 c = some (r, c1)) (ho : M.2.2.1 = RJ7) (hfr : 2 ≤ M.2.2.2.1) (hlo : 84 ≤ M.2.2.2.2.1) (hcat : (st.map fun v => v.category).sum ≤ 8) (d : decode M.1 pc = .ok (.invokestatic 220, 3)) (k : xV (wC D P) K M Q (g, c1) (pc + 3) loc (.int r :: st)) : xV (wC D P) K M Q (g, c) pc loc (.int x4 :: .int x3 :: .int x2 :: .int x1 :: .ref x0 :: st) :=
  yc_callS (As := [.ref x0, .int x1, .int x2, .int x3, .int x4]) (rest := st) (met_f_c_J10_vectorizedHashCode K.2.1 hf) (lw_S q786 q746 q191 q747) hd_f_c_J10_vectorizedHashCode ho hfr hlo rfl rfl hcat d k
abbrev mJ7_hashCode : xM := (cJ7_hashCode, 1, RJ7, 2, 120, (some .int), "hashCode")
def f_c_J7_hashCode (g : CG) (x0 : Nat) (τ : CC) : Option (Int32 × CC) :=
  if gK g x0 = 103 then
  if (Int32.ofNat (gN g x0)) = 0 then
  some ((0, τ))
  else
  if (Int32.ofNat (gN g x0)) = 2 then
  xbd (f_c_J7_getChar g x0 0 τ) fun r3 τ3 =>
  some ((r3, τ3))
  else
  xbd (f_c_J10_vectorizedHashCode g x0 0 ((Int32.ofNat (gN g x0) : Int32) >>> (1 &&& 31)) 0 5 τ) fun r2 τ2 =>
  some ((r2, τ2))
  else none
theorem ok_f_c_J7_hashCode {D : CD} {P : CP} {K : xK} {g : CG} {Z : Option Value × CS} {x0 : Nat} {τ : CC} {o_ : (Int32 × CC)} (hf : f_c_J7_hashCode g x0 τ = some o_) (kr : ∀ r_ : (Int32 × CC), o_ = r_ → Z = (some (.int r_.1), (g, r_.2))) : xV (wC D P) K mJ7_hashCode (xQ (wC D P) K Z) (g, τ) 0 [(0, .ref x0)] [] := by
  unfold f_c_J7_hashCode at hf
  refine xr_aload_n (pc := 0) 0 dJ7_hashCode_0 rfl rfl ?_
  obtain ⟨ht1, hf⟩ := xo_if hf
  refine yc_alen (pc := 1) 103 ht1 (by decide) (by decide) dJ7_hashCode_1 ?_
  by_cases c0_ : (Int32.ofNat (gN g x0)) = 0
  · have hf := xo_pos c0_ hf
    refine xr_lsw (pc := 2) (off := 26) 28 dJ7_hashCode_2 (by decide) (by rw [c0_]; decide +kernel) (by decide) ?_
    refine xr_iconst (pc := 28) dJ7_hashCode_28 xci_0 ?_
    refine xr_goto (pc := 29) 51 dJ7_hashCode_29 (by decide) ?_
    rw [kr _ (Option.some.inj hf).symm]
    exact xr_iret (pc := 51) dJ7_hashCode_51 rfl
  have hf := xo_neg c0_ hf
  by_cases c1_ : (Int32.ofNat (gN g x0)) = 2
  · have hf := xo_pos c1_ hf
    refine xr_lsw (pc := 2) (off := 30) 32 dJ7_hashCode_2 (by decide) (by rw [c1_]; decide +kernel) (by decide) ?_
    refine xr_aload_n (pc := 32) 0 dJ7_hashCode_32 rfl rfl ?_
    refine xr_iconst (pc := 33) dJ7_hashCode_33 xci_0 ?_
    obtain ⟨r3, τ3, hτ3, hf⟩ := xo_bd hf
    refine call_f_c_J7_getChar_J7_71 (pc := 34) hτ3 rfl (Nat.le_of_ble_eq_true rfl) (Nat.le_of_ble_eq_true rfl) (Nat.le_of_ble_eq_true rfl) dJ7_hashCode_34 ?_
    refine xr_goto (pc := 37) 51 dJ7_hashCode_37 (by decide) ?_
    rw [kr _ (Option.some.inj hf).symm]
    exact xr_iret (pc := 51) dJ7_hashCode_51 rfl
  have hf := xo_neg c1_ hf
  refine xr_lsw (pc := 2) (off := 38) 40 dJ7_hashCode_2 (by decide) (by show Op.lookupswitch.offset _ _ _ = _; rw [lv_osw (k := 0) c0_ (by decide), lv_osw (k := 2) c1_ (by decide)]; rfl) (by decide) ?_
  refine xr_aload_n (pc := 40) 0 dJ7_hashCode_40 rfl rfl ?_
  refine xr_iconst (pc := 41) dJ7_hashCode_41 xci_0 ?_
  refine xr_aload_n (pc := 42) 0 dJ7_hashCode_42 rfl rfl ?_
  refine yc_alen (pc := 43) 103 ht1 (by decide) (by decide) dJ7_hashCode_43 ?_
  refine xr_iconst (pc := 44) dJ7_hashCode_44 xci_1 ?_
  refine xr_ishr (pc := 45) dJ7_hashCode_45 ?_
  refine xr_iconst (pc := 46) dJ7_hashCode_46 xci_0 ?_
  refine xr_iconst (pc := 47) dJ7_hashCode_47 xci_5 ?_
  obtain ⟨r2, τ2, hτ2, hf⟩ := xo_bd hf
  refine call_f_c_J10_vectorizedHashCode_J7_220 (pc := 48) hτ2 rfl (Nat.le_of_ble_eq_true rfl) (Nat.le_of_ble_eq_true rfl) (Nat.le_of_ble_eq_true rfl) dJ7_hashCode_48 ?_
  rw [kr _ (Option.some.inj hf).symm]
  exact xr_iret (pc := 51) dJ7_hashCode_51 rfl
theorem met_f_c_J7_hashCode (l : Launch) {D : CD} {P : CP} {g : CG} {x0 : Nat} {τ : CC} {o_ : (Int32 × CC)} (hf : f_c_J7_hashCode g x0 τ = some o_) : xMet (wC D P) l yJ7_hashCode (ws_ yJ7_hashCode cJ7_hashCode 1 (some .int)) 2 120 (grc g) (grs g) [.ref x0] (g, τ) (some (.int o_.1), (g, o_.2)) := 
  xMet_of (by decide) (Nat.le_of_ble_eq_true rfl) KC_moved RPC_of (fun K _ _ _ => ok_f_c_J7_hashCode hf (fun _ h => by rw [h]))
theorem hd_f_c_J7_hashCode : yJ7_hashCode.cls ≠ "java/lang/invoke/MethodHandle" ∧ yJ7_hashCode.cls ≠ "java/lang/invoke/VarHandle" ∧ (parseMethodDescriptor yJ7_hashCode.desc).map (fun d => d.parameters.length) = some 1 := by decide +kernel
theorem call_f_c_J7_hashCode_J6_632 {D : CD} {P : CP} {K : xK} {M : xM} {Q : State → Prop} {g : CG} {c : CC} {x0 : Nat} {pc : Nat} {loc : List (Nat × Value)} {st : List Value} {r : Int32} {c1 : CC} (hf : f_c_J7_hashCode g x0 c = some (r, c1)) (ho : M.2.2.1 = RJ6) (hfr : 3 ≤ M.2.2.2.1) (hlo : 140 ≤ M.2.2.2.2.1) (hcat : (st.map fun v => v.category).sum ≤ 8) (d : decode M.1 pc = .ok (.invokestatic 632, 3)) (k : xV (wC D P) K M Q (g, c1) (pc + 3) loc (.int r :: st)) : xV (wC D P) K M Q (g, c) pc loc (.ref x0 :: st) :=
  yc_callS (As := [.ref x0]) (rest := st) (met_f_c_J7_hashCode K.2.1 hf) (lw_S q783 q784 q188 q785) hd_f_c_J7_hashCode ho hfr hlo rfl rfl hcat d k
theorem hd_f_c_J9_hashCode : yJ9_hashCode.cls ≠ "java/lang/invoke/MethodHandle" ∧ yJ9_hashCode.cls ≠ "java/lang/invoke/VarHandle" ∧ (parseMethodDescriptor yJ9_hashCode.desc).map (fun d => d.parameters.length) = some 1 := by decide +kernel
theorem call_f_c_J9_hashCode_J6_628 {D : CD} {P : CP} {K : xK} {M : xM} {Q : State → Prop} {g : CG} {c : CC} {x0 : Nat} {pc : Nat} {loc : List (Nat × Value)} {st : List Value} {r : Int32} {c1 : CC} (hf : f_c_J9_hashCode g x0 c = some (r, c1)) (ho : M.2.2.1 = RJ6) (hfr : 3 ≤ M.2.2.2.1) (hlo : 140 ≤ M.2.2.2.2.1) (hcat : (st.map fun v => v.category).sum ≤ 8) (d : decode M.1 pc = .ok (.invokestatic 628, 3)) (k : xV (wC D P) K M Q (g, c1) (pc + 3) loc (.int r :: st)) : xV (wC D P) K M Q (g, c) pc loc (.ref x0 :: st) :=
  yc_callS (As := [.ref x0]) (rest := st) (met_f_c_J9_hashCode K.2.1 hf) (lw_S q742 q743 q190 q744) hd_f_c_J9_hashCode ho hfr hlo rfl rfl hcat d k
abbrev mJ6_hashCode : xM := (cJ6_hashCode, 2, RJ6, 3, 180, (some .int), "hashCode")
def Jc_J6_hashCode_40 (g : CG) (x0 : Nat) (s0 : Int32) (τ : CC) : Option (Int32 × CC) :=
  if s0 = 0 then
  if gT g x0 = 19 then
  some ((s0, uI τ 1903 x0 1))
  else none
  else
  if gT g x0 = 19 then
  some ((s0, uI τ 1902 x0 s0))
  else none
theorem ok_Jc_J6_hashCode_40 {D : CD} {P : CP} {K : xK} {g : CG} {Z : Option Value × CS} {x0 : Nat} {s0 : Int32} {τ : CC} {o_ : (Int32 × CC)} (hf : Jc_J6_hashCode_40 g x0 s0 τ = some o_) (kr : ∀ r_ : (Int32 × CC), o_ = r_ → Z = (some (.int r_.1), (g, r_.2))) : xV (wC D P) K mJ6_hashCode (xQ (wC D P) K Z) (g, τ) 40 [(0, .ref x0)] [.int s0] := by
  unfold Jc_J6_hashCode_40 at hf
  refine xr_istore_n (pc := 40) (loc' := [(1, .int s0), (0, .ref x0)]) dJ6_hashCode_40 rfl (by decide) rfl ?_
  refine xr_iload_n (pc := 41) 0 dJ6_hashCode_41 rfl rfl ?_
  refine xr_if_ne (pc := 42) 53 dJ6_hashCode_42 (by decide) (fun c_ => ?_) (fun c_ => ?_)
  · have hf := xo_pos c_ hf
    refine xr_aload_n (pc := 45) 1 dJ6_hashCode_45 rfl rfl ?_
    refine xr_iconst (pc := 46) dJ6_hashCode_46 xci_1 ?_
    obtain ⟨ht5, hf⟩ := xo_if hf
    refine yc_putI (pc := 47) 19 3 1903 ht5 (by decide) (by decide) (by decide) rfl rfl rfl (ty := .boolean) (by decide +kernel) (by decide +kernel) (by decide +kernel) q691 (ys_eq rfl) rfl dJ6_hashCode_47 ?_
    refine xr_goto (pc := 50) 58 dJ6_hashCode_50 (by decide) ?_
    refine xr_iload_n (pc := 58) 0 dJ6_hashCode_58 rfl rfl ?_
    rw [kr _ (Option.some.inj hf).symm]
    exact xr_iret (pc := 59) dJ6_hashCode_59 rfl
  · have hf := xo_neg c_ hf
    refine xr_aload_n (pc := 53) 1 dJ6_hashCode_53 rfl rfl ?_
    refine xr_iload_n (pc := 54) 0 dJ6_hashCode_54 rfl rfl ?_
    obtain ⟨ht6, hf⟩ := xo_if hf
    refine yc_putI (pc := 55) 19 2 1902 ht6 (by decide) (by decide) (by decide) rfl rfl rfl (ty := .int) (by decide +kernel) rfl rfl q690 (ys_eq rfl) rfl dJ6_hashCode_55 ?_
    refine xr_iload_n (pc := 58) 0 dJ6_hashCode_58 rfl rfl ?_
    rw [kr _ (Option.some.inj hf).symm]
    exact xr_iret (pc := 59) dJ6_hashCode_59 rfl
def f_c_J6_hashCode (g : CG) (x0 : Nat) (τ : CC) : Option (Int32 × CC) :=
  if gK g x0 = 19 then
  if (cI τ 1902 x0) = 0 then
  if (cI τ 1903 x0) = 0 then
  xbd (f_c_J6_isLatin1 g x0 τ) fun r2 τ2 =>
  if r2 = 0 then
  (gR g 1900 x0).bind fun b3 =>
  xbd (f_c_J7_hashCode g b3 τ2) fun r4 τ4 =>
  Jc_J6_hashCode_40 g x0 r4 τ4
  else
  (gR g 1900 x0).bind fun b7 =>
  xbd (f_c_J9_hashCode g b7 τ2) fun r8 τ8 =>
  Jc_J6_hashCode_40 g x0 r8 τ8
  else
  some ((cI τ 1902 x0, τ))
  else
  some ((cI τ 1902 x0, τ))
  else none
theorem ok_f_c_J6_hashCode {D : CD} {P : CP} {K : xK} {g : CG} {Z : Option Value × CS} {x0 : Nat} {τ : CC} {o_ : (Int32 × CC)} (hf : f_c_J6_hashCode g x0 τ = some o_) (kr : ∀ r_ : (Int32 × CC), o_ = r_ → Z = (some (.int r_.1), (g, r_.2))) : xV (wC D P) K mJ6_hashCode (xQ (wC D P) K Z) (g, τ) 0 [(0, .ref x0)] [] := by
  unfold f_c_J6_hashCode at hf
  refine xr_aload_n (pc := 0) 0 dJ6_hashCode_0 rfl rfl ?_
  obtain ⟨ht1, hf⟩ := xo_if hf
  refine yc_getI (pc := 1) 19 2 1902 ht1 (by decide) (by decide) (by decide) rfl rfl q690 (ys_eq rfl) rfl dJ6_hashCode_1 ?_
  refine xr_istore_n (pc := 4) (loc' := [(1, .int (cI τ 1902 x0)), (0, .ref x0)]) dJ6_hashCode_4 rfl (by decide) rfl ?_
  refine xr_iload_n (pc := 5) 0 dJ6_hashCode_5 rfl rfl ?_
  refine xr_if_ne (pc := 6) 58 dJ6_hashCode_6 (by decide) (fun c_ => ?_) (fun c_ => ?_)
  · have hf := xo_pos c_ hf
    refine xr_aload_n (pc := 9) 1 dJ6_hashCode_9 rfl rfl ?_
    refine yc_getI (pc := 10) 19 3 1903 ht1 (by decide) (by decide) (by decide) rfl rfl q691 (ys_eq rfl) rfl dJ6_hashCode_10 ?_
    refine xr_if_ne (pc := 13) 58 dJ6_hashCode_13 (by decide) (fun c_ => ?_) (fun c_ => ?_)
    · have hf := xo_pos c_ hf
      refine xr_aload_n (pc := 16) 1 dJ6_hashCode_16 rfl rfl ?_
      obtain ⟨r2, τ2, hτ2, hf⟩ := xo_bd hf
      refine call_f_c_J6_isLatin1_J6_492 (pc := 17) hτ2 ht1 rfl (Nat.le_of_ble_eq_true rfl) (Nat.le_of_ble_eq_true rfl) (Nat.le_of_ble_eq_true rfl) dJ6_hashCode_17 ?_
      refine xr_if_eq (pc := 20) 33 dJ6_hashCode_20 (by decide) (fun c_ => ?_) (fun c_ => ?_)
      · have hf := xo_pos c_ hf
        refine xr_aload_n (pc := 33) 1 dJ6_hashCode_33 rfl rfl ?_
        obtain ⟨b3, hb3, hf⟩ := xo_bind hf
        refine yc_getFs (pc := 34) 19 0 1900 ht1 (by decide) (by decide) (by decide) rfl rfl hb3 q688 (ys_eq rfl) rfl dJ6_hashCode_34 ?_
        obtain ⟨r4, τ4, hτ4, hf⟩ := xo_bd hf
        refine call_f_c_J7_hashCode_J6_632 (pc := 37) hτ4 rfl (Nat.le_of_ble_eq_true rfl) (Nat.le_of_ble_eq_true rfl) (Nat.le_of_ble_eq_true rfl) dJ6_hashCode_37 ?_
        refine xV_sub [1] rfl ?_
        exact ok_Jc_J6_hashCode_40 hf kr
      · have hf := xo_neg c_ hf
        refine xr_aload_n (pc := 23) 1 dJ6_hashCode_23 rfl rfl ?_
        obtain ⟨b7, hb7, hf⟩ := xo_bind hf
        refine yc_getFs (pc := 24) 19 0 1900 ht1 (by decide) (by decide) (by decide) rfl rfl hb7 q688 (ys_eq rfl) rfl dJ6_hashCode_24 ?_
        obtain ⟨r8, τ8, hτ8, hf⟩ := xo_bd hf
        refine call_f_c_J9_hashCode_J6_628 (pc := 27) hτ8 rfl (Nat.le_of_ble_eq_true rfl) (Nat.le_of_ble_eq_true rfl) (Nat.le_of_ble_eq_true rfl) dJ6_hashCode_27 ?_
        refine xr_goto (pc := 30) 40 dJ6_hashCode_30 (by decide) ?_
        refine xV_sub [1] rfl ?_
        exact ok_Jc_J6_hashCode_40 hf kr
    · have hf := xo_neg c_ hf
      refine xr_iload_n (pc := 58) 0 dJ6_hashCode_58 rfl rfl ?_
      rw [kr _ (Option.some.inj hf).symm]
      exact xr_iret (pc := 59) dJ6_hashCode_59 rfl
  · have hf := xo_neg c_ hf
    refine xr_iload_n (pc := 58) 0 dJ6_hashCode_58 rfl rfl ?_
    rw [kr _ (Option.some.inj hf).symm]
    exact xr_iret (pc := 59) dJ6_hashCode_59 rfl
theorem met_f_c_J6_hashCode (l : Launch) {D : CD} {P : CP} {g : CG} {x0 : Nat} {τ : CC} {o_ : (Int32 × CC)} (hf : f_c_J6_hashCode g x0 τ = some o_) : xMet (wC D P) l yJ6_hashCode (ws_ yJ6_hashCode cJ6_hashCode 2 (some .int)) 3 180 (grc g) (grs g) [.ref x0] (g, τ) (some (.int o_.1), (g, o_.2)) := 
  xMet_of (by decide) (Nat.le_of_ble_eq_true rfl) KC_moved RPC_of (fun K _ _ _ => ok_f_c_J6_hashCode hf (fun _ h => by rw [h]))
theorem call_f_c_J2_size_X1_32 {D : CD} {P : CP} {K : xK} {M : xM} {Q : State → Prop} {g : CG} {c : CC} {x0 : Nat} {pc : Nat} {loc : List (Nat × Value)} {st : List Value} {r : Int32} {c1 : CC} (hf : f_c_J2_size g x0 c = some (r, c1)) (hr : gK g x0 = 18) (ho : M.2.2.1 = RX1) (hfr : 1 ≤ M.2.2.2.1) (hlo : 20 ≤ M.2.2.2.2.1) (hcat : (st.map fun v => v.category).sum ≤ 8) (d : decode M.1 pc = .ok (.invokeinterface 32 1, 5)) (k : xV (wC D P) K M Q (g, c1) (pc + 5) loc (.int r :: st)) : xV (wC D P) K M Q (g, c) pc loc (.ref x0 :: st) :=
  yc_callF (n := 0) (As := []) (rest := st) (z := yList_size) (met_f_c_J2_size K.2.1 hf) (lw_2 q836 q804 (lw_2 q806 q178 (lw_meth q808))) (fun s h => h.2.2.2.2.2.1.1) (by decide +kernel) ho hfr hlo rfl hr rfl hcat d k
theorem call_f_c_J2_get_X1_38 {D : CD} {P : CP} {K : xK} {M : xM} {Q : State → Prop} {g : CG} {c : CC} {x0 : Nat} {x1 : Int32} {pc : Nat} {loc : List (Nat × Value)} {st : List Value} {r : Nat} {c1 : CC} (hf : f_c_J2_get g x0 x1 c = some (r, c1)) (hr : gK g x0 = 18) (ho : M.2.2.1 = RX1) (hfr : 3 ≤ M.2.2.2.1) (hlo : 141 ≤ M.2.2.2.2.1) (hcat : (st.map fun v => v.category).sum ≤ 8) (d : decode M.1 pc = .ok (.invokeinterface 38 2, 5)) (k : xV (wC D P) K M Q (g, c1) (pc + 5) loc (.ref r :: st)) : xV (wC D P) K M Q (g, c) pc loc (.int x1 :: .ref x0 :: st) :=
  yc_callF (n := 1) (As := [.int x1]) (rest := st) (z := yList_get) (met_f_c_J2_get K.2.1 hf) (lw_2 q838 q841 (lw_2 q843 q178 (lw_meth q845))) (fun s h => h.2.2.2.2.2.1.2.1) (by decide +kernel) ho hfr hlo rfl hr rfl hcat d k
theorem call_f_c_J6_equals_X1_48 {D : CD} {P : CP} {K : xK} {M : xM} {Q : State → Prop} {g : CG} {c : CC} {x0 : Nat} {x1 : Nat} {pc : Nat} {loc : List (Nat × Value)} {st : List Value} {r : Int32} {c1 : CC} (hf : f_c_J6_equals g x0 x1 c = some (r, c1)) (hr : gK g x0 = 19) (ho : M.2.2.1 = RX1) (hfr : 2 ≤ M.2.2.2.1) (hlo : 82 ≤ M.2.2.2.2.1) (hcat : (st.map fun v => v.category).sum ≤ 8) (d : decode M.1 pc = .ok (.invokevirtual 48, 3)) (k : xV (wC D P) K M Q (g, c1) (pc + 3) loc (.int r :: st)) : xV (wC D P) K M Q (g, c) pc loc (.ref x1 :: .ref x0 :: st) :=
  yc_callV (As := [.ref x1]) (rest := st) (met_f_c_J6_equals K.2.1 hf) (lw_V q857 q703 q704 q187 q705) ⟨rfl, hd_f_c_J6_equals⟩ ho hfr hlo rfl hr (by decide) (by decide) rfl rfl hcat d k
abbrev mX1_isNamed : xM := (cX1_isNamed, 3, RX1, 3, 180, (some .boolean), "isNamed")
def Bc_X1_isNamed_2 (g : CG) (x0 : Nat) (x1 : Nat) (x2 : Int32) (τ : CC) : Option ((Int32 × CC) ⊕ ((CC) ⊕ ((Int32 × CC)))) :=
  if gT g x0 = 2 then
  (gR g 208 x0).bind fun b2 =>
  if gT g b2 = 18 then
  xbd (f_c_J2_size g b2 τ) fun r4 τ4 =>
  if r4 ≤ x2 then
  some (.inr (.inl τ4))
  else
  xbd (f_c_J2_get g b2 x2 τ4) fun r5 τ5 =>
  if gT g r5 = 7 then
  (gR g 700 r5).bind fun b7 =>
  if gK g b7 = 19 then
  xbd (f_c_J6_equals g b7 x1 τ5) fun r9 τ9 =>
  if r9 = 0 then
  some (.inl (x2 + 1, τ9))
  else
  some (.inr (.inr (1, τ9)))
  else none
  else none
  else none
  else none
theorem ok_Bc_X1_isNamed_2 {D : CD} {P : CP} {K : xK} {g : CG} {Z : Option Value × CS} {x0 : Nat} {x1 : Nat} {x2 : Int32} {τ : CC} {o_ : ((Int32 × CC) ⊕ ((CC) ⊕ ((Int32 × CC))))} (hf : Bc_X1_isNamed_2 g x0 x1 x2 τ = some o_) (kc : ∀ s_ : Int32 × CC, o_ = .inl s_ → xV (wC D P) K mX1_isNamed (xQ (wC D P) K Z) (g, s_.2) 2 [(0, .ref x0), (1, .ref x1), (2, .int s_.1)] []) (ke0 : ∀ e_ : CC, o_ = .inr (.inl e_) → xV (wC D P) K mX1_isNamed (xQ (wC D P) K Z) (g, e_) 46 [] []) (kr : ∀ r_ : (Int32 × CC), o_ = .inr (.inr r_) → Z = (some (.int r_.1), (g, r_.2))) : xV (wC D P) K mX1_isNamed (xQ (wC D P) K Z) (g, τ) 2 [(0, .ref x0), (1, .ref x1), (2, .int x2)] [] := by
  unfold Bc_X1_isNamed_2 at hf
  refine xr_iload_n (pc := 2) 2 dX1_isNamed_2 rfl rfl ?_
  refine xr_aload_n (pc := 3) 0 dX1_isNamed_3 rfl rfl ?_
  obtain ⟨ht1, hf⟩ := xo_if hf
  obtain ⟨b2, hb2, hf⟩ := xo_bind hf
  refine yc_getFs (pc := 4) 2 8 208 (gKo ht1 (by decide)) (by decide) (by decide) (by decide) rfl rfl hb2 q279 (ys_eq rfl) rfl dX1_isNamed_4 ?_
  obtain ⟨ht3, hf⟩ := xo_if hf
  obtain ⟨r4, τ4, hτ4, hf⟩ := xo_bd hf
  refine call_f_c_J2_size_X1_32 (pc := 7) hτ4 (gKo ht3 (by decide)) rfl (Nat.le_of_ble_eq_true rfl) (Nat.le_of_ble_eq_true rfl) (Nat.le_of_ble_eq_true rfl) dX1_isNamed_7 ?_
  refine xr_icmp_ge (pc := 12) 46 dX1_isNamed_12 (by decide) (fun c_ => ?_) (fun c_ => ?_)
  · have hf := xo_pos c_ hf
    refine xV_sub [] rfl ?_
    exact ke0 _ (Option.some.inj hf).symm
  · have hf := xo_neg c_ hf
    refine xr_aload_n (pc := 15) 0 dX1_isNamed_15 rfl rfl ?_
    refine yc_getFs (pc := 16) 2 8 208 (gKo ht1 (by decide)) (by decide) (by decide) (by decide) rfl rfl hb2 q279 (ys_eq rfl) rfl dX1_isNamed_16 ?_
    refine xr_iload_n (pc := 19) 2 dX1_isNamed_19 rfl rfl ?_
    obtain ⟨r5, τ5, hτ5, hf⟩ := xo_bd hf
    refine call_f_c_J2_get_X1_38 (pc := 20) hτ5 (gKo ht3 (by decide)) rfl (Nat.le_of_ble_eq_true rfl) (Nat.le_of_ble_eq_true rfl) (Nat.le_of_ble_eq_true rfl) dX1_isNamed_20 ?_
    obtain ⟨ht6, hf⟩ := xo_if hf
    refine yc_chkS (pc := 25) 7 (gKo ht6 (by decide)) (by decide) (by decide) q856 rfl rfl dX1_isNamed_25 ?_
    obtain ⟨b7, hb7, hf⟩ := xo_bind hf
    refine yc_getFsN (pc := 28) 7 0 700 (gKo ht6 (by decide)) (by decide) (by decide) (by decide) rfl rfl hb7 q870 (ys_eq rfl) rfl dX1_isNamed_28 ?_
    refine xr_aload_n (pc := 31) 1 dX1_isNamed_31 rfl rfl ?_
    obtain ⟨ht8, hf⟩ := xo_if hf
    obtain ⟨r9, τ9, hτ9, hf⟩ := xo_bd hf
    refine call_f_c_J6_equals_X1_48 (pc := 32) hτ9 ht8 rfl (Nat.le_of_ble_eq_true rfl) (Nat.le_of_ble_eq_true rfl) (Nat.le_of_ble_eq_true rfl) dX1_isNamed_32 ?_
    refine xr_if_eq (pc := 35) 40 dX1_isNamed_35 (by decide) (fun c_ => ?_) (fun c_ => ?_)
    · have hf := xo_pos c_ hf
      refine xr_iinc (pc := 40) (loc' := [(2, .int (x2 + 1)), (0, .ref x0), (1, .ref x1)]) 2 dX1_isNamed_40 rfl xci_1 (by decide) rfl ?_
      refine xr_goto (pc := 43) 2 dX1_isNamed_43 (by decide) ?_
      refine xV_sub [1, 2, 0] rfl ?_
      exact kc _ (Option.some.inj hf).symm
    · have hf := xo_neg c_ hf
      refine xr_iconst (pc := 38) dX1_isNamed_38 xci_1 ?_
      rw [kr _ (Option.some.inj hf).symm]
      exact xr_zret (pc := 39) dX1_isNamed_39 rfl xz_1
def f_c_X1_isNamed (g : CG) (x0 : Nat) (x1 : Nat) (τ : CC) : Option (Int32 × CC) :=
  (itr (fun s_ : Int32 × CC => Bc_X1_isNamed_2 g x0 x1 s_.1 s_.2) 4096 (0, τ)).bind fun b10 =>
  (Sum.elim (fun e11 => some ((0, e11))) (fun r_ => some r_)) b10
theorem ok_f_c_X1_isNamed {D : CD} {P : CP} {K : xK} {g : CG} {Z : Option Value × CS} {x0 : Nat} {x1 : Nat} {τ : CC} {o_ : (Int32 × CC)} (hf : f_c_X1_isNamed g x0 x1 τ = some o_) (kr : ∀ r_ : (Int32 × CC), o_ = r_ → Z = (some (.int r_.1), (g, r_.2))) : xV (wC D P) K mX1_isNamed (xQ (wC D P) K Z) (g, τ) 0 [(0, .ref x0), (1, .ref x1)] [] := by
  unfold f_c_X1_isNamed at hf
  refine xr_iconst (pc := 0) dX1_isNamed_0 xci_0 ?_
  refine xr_istore_n (pc := 1) (loc' := [(2, .int 0), (0, .ref x0), (1, .ref x1)]) dX1_isNamed_1 rfl (by decide) rfl ?_
  refine xV_sub [1, 2, 0] rfl ?_
  obtain ⟨b10, hb10, hf⟩ := xo_bind hf
  refine itr_rule (P := fun s_ : Int32 × CC => xV (wC D P) K mX1_isNamed (xQ (wC D P) K Z) (g, s_.2) 2 [(0, .ref x0), (1, .ref x1), (2, .int s_.1)] []) (fun s_ o_ hB_ hc_ he_ => ok_Bc_X1_isNamed_2 hB_ hc_ (fun e11 h_ => ?_) (fun r_ h_ => ?_)) 4096 _ hb10
  · have e9_ := he_ _ h_
    subst e9_
    have hf := xo_inl hf
    refine xr_iconst (pc := 46) dX1_isNamed_46 xci_0 ?_
    rw [kr _ (Option.some.inj hf).symm]
    exact xr_zret (pc := 47) dX1_isNamed_47 rfl xz_0
  · have e9_ := he_ _ h_
    subst e9_
    have hf := xo_inr hf
    exact kr _ (Option.some.inj hf).symm
theorem met_f_c_X1_isNamed (l : Launch) {D : CD} {P : CP} {g : CG} {x0 : Nat} {x1 : Nat} {τ : CC} {o_ : (Int32 × CC)} (hf : f_c_X1_isNamed g x0 x1 τ = some o_) : xMet (wC D P) l yX1_isNamed (ws_ yX1_isNamed cX1_isNamed 3 (some .boolean)) 3 180 (grc g) (grs g) [.ref x0, .ref x1] (g, τ) (some (.int o_.1), (g, o_.2)) := 
  xMet_of (by decide) (Nat.le_of_ble_eq_true rfl) KC_moved RPC_of (fun K _ _ _ => ok_f_c_X1_isNamed hf (fun _ h => by rw [h]))
abbrev mJ7_compress_2 : xM := (cJ7_compress_2, 7, RJ7, 0, 0, (some .int), "compress")
def Bc_J7_compress_2_3 (g : CG) (x0 : Nat) (x2 : Nat) (x4 : Int32) (x1 : Int32) (x3 : Int32) (x5 : Int32) (τ : CC) : Option ((Int32 × Int32 × Int32 × CC) ⊕ ((CC) ⊕ ((Int32 × CC)))) :=
  if x4 ≤ x5 then
  some (.inr (.inl τ))
  else
  if gT g x0 = 102 then
  if xin x1 (gN g x0) = true then
  if (cA τ x0 x1.toNatClampNeg) ≤ 255 then
  if gT g x2 = 103 then
  if xin x3 (gN g x2) = true then
  some (.inl (x1 + 1, x3 + 1, x5 + 1, uA τ x2 x3.toNatClampNeg (((cA τ x0 x1.toNatClampNeg).toInt8.toInt32).toInt8.toInt32)))
  else none
  else none
  else
  some (.inr (.inr (x5, τ)))
  else none
  else none
theorem ok_Bc_J7_compress_2_3 {D : CD} {P : CP} {K : xK} {g : CG} {Z : Option Value × CS} {x0 : Nat} {x2 : Nat} {x4 : Int32} {x1 : Int32} {x3 : Int32} {x5 : Int32} {τ : CC} {o_ : ((Int32 × Int32 × Int32 × CC) ⊕ ((CC) ⊕ ((Int32 × CC))))} (hf : Bc_J7_compress_2_3 g x0 x2 x4 x1 x3 x5 τ = some o_) (kc : ∀ s_ : Int32 × Int32 × Int32 × CC, o_ = .inl s_ → xV (wC D P) K mJ7_compress_2 (xQ (wC D P) K Z) (g, s_.2.2.2) 3 [(0, .ref x0), (1, .int s_.1), (2, .ref x2), (3, .int s_.2.1), (4, .int x4), (5, .int s_.2.2.1)] []) (ke0 : ∀ e_ : CC, o_ = .inr (.inl e_) → xV (wC D P) K mJ7_compress_2 (xQ (wC D P) K Z) (g, e_) 44 [(4, .int x4)] []) (kr : ∀ r_ : (Int32 × CC), o_ = .inr (.inr r_) → Z = (some (.int r_.1), (g, r_.2))) : xV (wC D P) K mJ7_compress_2 (xQ (wC D P) K Z) (g, τ) 3 [(0, .ref x0), (1, .int x1), (2, .ref x2), (3, .int x3), (4, .int x4), (5, .int x5)] [] := by
  unfold Bc_J7_compress_2_3 at hf
  refine xr_iload (pc := 3) 5 dJ7_compress_2_3 rfl ?_
  refine xr_iload (pc := 5) 4 dJ7_compress_2_5 rfl ?_
  refine xr_icmp_ge (pc := 7) 44 dJ7_compress_2_7 (by decide) (fun c_ => ?_) (fun c_ => ?_)
  · have hf := xo_pos c_ hf
    refine xV_sub [4] rfl ?_
    exact ke0 _ (Option.some.inj hf).symm
  · have hf := xo_neg c_ hf
    refine xr_aload_n (pc := 10) 0 dJ7_compress_2_10 rfl rfl ?_
    refine xr_iload_n (pc := 11) 1 dJ7_compress_2_11 rfl rfl ?_
    obtain ⟨ht1, hf⟩ := xo_if hf
    obtain ⟨hi_, hf⟩ := xo_if hf
    refine yc_cald (pc := 12) (gKo ht1 (by decide)) hi_ dJ7_compress_2_12 ?_
    refine xr_istore (pc := 13) (loc' := [(6, .int (cA τ x0 x1.toNatClampNeg)), (0, .ref x0), (1, .int x1), (2, .ref x2), (3, .int x3), (4, .int x4), (5, .int x5)]) dJ7_compress_2_13 (by decide) rfl ?_
    refine xr_iload (pc := 15) 0 dJ7_compress_2_15 rfl ?_
    refine xr_sipush (pc := 17) dJ7_compress_2_17 xcs_255 ?_
    refine xr_icmp_le (pc := 20) 26 dJ7_compress_2_20 (by decide) (fun c_ => ?_) (fun c_ => ?_)
    · have hf := xo_pos c_ hf
      refine xr_aload_n (pc := 26) 3 dJ7_compress_2_26 rfl rfl ?_
      refine xr_iload_n (pc := 27) 4 dJ7_compress_2_27 rfl rfl ?_
      refine xr_iload (pc := 28) 0 dJ7_compress_2_28 rfl ?_
      refine xr_i2b (pc := 30) dJ7_compress_2_30 ?_
      obtain ⟨ht2, hf⟩ := xo_if hf
      obtain ⟨hi_, hf⟩ := xo_if hf
      refine yc_bast (pc := 31) ht2 hi_ dJ7_compress_2_31 ?_
      refine xr_iinc (pc := 32) (loc' := [(1, .int (x1 + 1)), (6, .int (cA τ x0 x1.toNatClampNeg)), (0, .ref x0), (2, .ref x2), (3, .int x3), (4, .int x4), (5, .int x5)]) 2 dJ7_compress_2_32 rfl xci_1 (by decide) rfl ?_
      refine xr_iinc (pc := 35) (loc' := [(3, .int (x3 + 1)), (1, .int (x1 + 1)), (6, .int (cA τ x0 x1.toNatClampNeg)), (0, .ref x0), (2, .ref x2), (4, .int x4), (5, .int x5)]) 4 dJ7_compress_2_35 rfl xci_1 (by decide) rfl ?_
      refine xr_iinc (pc := 38) (loc' := [(5, .int (x5 + 1)), (3, .int (x3 + 1)), (1, .int (x1 + 1)), (6, .int (cA τ x0 x1.toNatClampNeg)), (0, .ref x0), (2, .ref x2), (4, .int x4)]) 6 dJ7_compress_2_38 rfl xci_1 (by decide) rfl ?_
      refine xr_goto (pc := 41) 3 dJ7_compress_2_41 (by decide) ?_
      refine xV_sub [4, 2, 5, 1, 6, 0] rfl ?_
      exact kc _ (Option.some.inj hf).symm
    · have hf := xo_neg c_ hf
      refine xr_iload (pc := 23) 6 dJ7_compress_2_23 rfl ?_
      rw [kr _ (Option.some.inj hf).symm]
      exact xr_iret (pc := 25) dJ7_compress_2_25 rfl
def f_c_J7_compress_2 (g : CG) (x0 : Nat) (x1 : Int32) (x2 : Nat) (x3 : Int32) (x4 : Int32) (τ : CC) : Option (Int32 × CC) :=
  (itr (fun s_ : Int32 × Int32 × Int32 × CC => Bc_J7_compress_2_3 g x0 x2 x4 s_.1 s_.2.1 s_.2.2.1 s_.2.2.2) 4096 (x1, x3, 0, τ)).bind fun b3 =>
  (Sum.elim (fun e4 => some ((x4, e4))) (fun r_ => some r_)) b3
theorem ok_f_c_J7_compress_2 {D : CD} {P : CP} {K : xK} {g : CG} {Z : Option Value × CS} {x0 : Nat} {x1 : Int32} {x2 : Nat} {x3 : Int32} {x4 : Int32} {τ : CC} {o_ : (Int32 × CC)} (hf : f_c_J7_compress_2 g x0 x1 x2 x3 x4 τ = some o_) (kr : ∀ r_ : (Int32 × CC), o_ = r_ → Z = (some (.int r_.1), (g, r_.2))) : xV (wC D P) K mJ7_compress_2 (xQ (wC D P) K Z) (g, τ) 0 [(0, .ref x0), (1, .int x1), (2, .ref x2), (3, .int x3), (4, .int x4)] [] := by
  unfold f_c_J7_compress_2 at hf
  refine xr_iconst (pc := 0) dJ7_compress_2_0 xci_0 ?_
  refine xr_istore (pc := 1) (loc' := [(5, .int 0), (0, .ref x0), (1, .int x1), (2, .ref x2), (3, .int x3), (4, .int x4)]) dJ7_compress_2_1 (by decide) rfl ?_
  refine xV_sub [1, 2, 3, 4, 5, 0] rfl ?_
  obtain ⟨b3, hb3, hf⟩ := xo_bind hf
  refine itr_rule (P := fun s_ : Int32 × Int32 × Int32 × CC => xV (wC D P) K mJ7_compress_2 (xQ (wC D P) K Z) (g, s_.2.2.2) 3 [(0, .ref x0), (1, .int s_.1), (2, .ref x2), (3, .int s_.2.1), (4, .int x4), (5, .int s_.2.2.1)] []) (fun s_ o_ hB_ hc_ he_ => ok_Bc_J7_compress_2_3 hB_ hc_ (fun e4 h_ => ?_) (fun r_ h_ => ?_)) 4096 _ hb3
  · have e9_ := he_ _ h_
    subst e9_
    have hf := xo_inl hf
    refine xr_iload (pc := 44) 0 dJ7_compress_2_44 rfl ?_
    rw [kr _ (Option.some.inj hf).symm]
    exact xr_iret (pc := 46) dJ7_compress_2_46 rfl
  · have e9_ := he_ _ h_
    subst e9_
    have hf := xo_inr hf
    exact kr _ (Option.some.inj hf).symm
theorem met_f_c_J7_compress_2 (l : Launch) {D : CD} {P : CP} {g : CG} {x0 : Nat} {x1 : Int32} {x2 : Nat} {x3 : Int32} {x4 : Int32} {τ : CC} {o_ : (Int32 × CC)} (hf : f_c_J7_compress_2 g x0 x1 x2 x3 x4 τ = some o_) : xMet (wC D P) l yJ7_compress_2 (ws_ yJ7_compress_2 cJ7_compress_2 7 (some .int)) 0 0 (grc g) (grs g) [.ref x0, .int x1, .ref x2, .int x3, .int x4] (g, τ) (some (.int o_.1), (g, o_.2)) := 
  xMet_of (by decide) (Nat.le_of_ble_eq_true rfl) KC_moved RPC_of (fun K _ _ _ => ok_f_c_J7_compress_2 hf (fun _ h => by rw [h]))
abbrev mJ7_coderFromArrayLen : xM := (cJ7_coderFromArrayLen, 2, RJ7, 0, 0, (some .byte), "coderFromArrayLen")
def f_c_J7_coderFromArrayLen (g : CG) (x0 : Nat) (x1 : Int32) (τ : CC) : Option (Int32 × CC) :=
  if gK g x0 = 103 then
  some (((((((x1 - (Int32.ofNat (gN g x0))) : Int32).toUInt32 >>> ((31 : Int32).toUInt32 &&& Int32.toUInt32 31)).toInt32).toInt8.toInt32).toInt8.toInt32, τ))
  else none
theorem ok_f_c_J7_coderFromArrayLen {D : CD} {P : CP} {K : xK} {g : CG} {Z : Option Value × CS} {x0 : Nat} {x1 : Int32} {τ : CC} {o_ : (Int32 × CC)} (hf : f_c_J7_coderFromArrayLen g x0 x1 τ = some o_) (kr : ∀ r_ : (Int32 × CC), o_ = r_ → Z = (some (.int r_.1), (g, r_.2))) : xV (wC D P) K mJ7_coderFromArrayLen (xQ (wC D P) K Z) (g, τ) 0 [(0, .ref x0), (1, .int x1)] [] := by
  unfold f_c_J7_coderFromArrayLen at hf
  refine xr_iload_n (pc := 0) 1 dJ7_coderFromArrayLen_0 rfl rfl ?_
  refine xr_aload_n (pc := 1) 0 dJ7_coderFromArrayLen_1 rfl rfl ?_
  obtain ⟨ht1, hf⟩ := xo_if hf
  refine yc_alen (pc := 2) 103 ht1 (by decide) (by decide) dJ7_coderFromArrayLen_2 ?_
  refine xr_isub (pc := 3) dJ7_coderFromArrayLen_3 ?_
  refine xr_bipush (pc := 4) dJ7_coderFromArrayLen_4 xcb_31 ?_
  refine xr_iushr (pc := 6) dJ7_coderFromArrayLen_6 ?_
  refine xr_i2b (pc := 7) dJ7_coderFromArrayLen_7 ?_
  rw [kr _ (Option.some.inj hf).symm]
  exact xr_bret (pc := 8) dJ7_coderFromArrayLen_8 rfl rfl
theorem met_f_c_J7_coderFromArrayLen (l : Launch) {D : CD} {P : CP} {g : CG} {x0 : Nat} {x1 : Int32} {τ : CC} {o_ : (Int32 × CC)} (hf : f_c_J7_coderFromArrayLen g x0 x1 τ = some o_) : xMet (wC D P) l yJ7_coderFromArrayLen (ws_ yJ7_coderFromArrayLen cJ7_coderFromArrayLen 2 (some .byte)) 0 0 (grc g) (grs g) [.ref x0, .int x1] (g, τ) (some (.int o_.1), (g, o_.2)) := 
  xMet_of (by decide) (Nat.le_of_ble_eq_true rfl) KC_moved RPC_of (fun K _ _ _ => ok_f_c_J7_coderFromArrayLen hf (fun _ h => by rw [h]))
abbrev mJ10_hugeLength : xM := (cJ10_hugeLength, 3, RJ10, 0, 0, (some .int), "hugeLength")
def f_c_J10_hugeLength (g : CG) (x0 : Int32) (x1 : Int32) (τ : CC) : Option (Int32 × CC) :=
  if (0 : Int32) ≤ (x0 + x1) then
  if (2147483639 : Int32) < (x0 + x1) then
  some ((x0 + x1, τ))
  else
  some ((2147483639, τ))
  else
  none
theorem ok_f_c_J10_hugeLength {D : CD} {P : CP} {K : xK} {g : CG} {Z : Option Value × CS} {x0 : Int32} {x1 : Int32} {τ : CC} {o_ : (Int32 × CC)} (hf : f_c_J10_hugeLength g x0 x1 τ = some o_) (kr : ∀ r_ : (Int32 × CC), o_ = r_ → Z = (some (.int r_.1), (g, r_.2))) : xV (wC D P) K mJ10_hugeLength (xQ (wC D P) K Z) (g, τ) 0 [(0, .int x0), (1, .int x1)] [] := by
  unfold f_c_J10_hugeLength at hf
  refine xr_iload_n (pc := 0) 0 dJ10_hugeLength_0 rfl rfl ?_
  refine xr_iload_n (pc := 1) 1 dJ10_hugeLength_1 rfl rfl ?_
  refine xr_iadd (pc := 2) dJ10_hugeLength_2 ?_
  refine xr_istore_n (pc := 3) (loc' := [(2, .int (x0 + x1)), (0, .int x0), (1, .int x1)]) dJ10_hugeLength_3 rfl (by decide) rfl ?_
  refine xr_iload_n (pc := 4) 0 dJ10_hugeLength_4 rfl rfl ?_
  refine xr_if_ge (pc := 5) 49 dJ10_hugeLength_5 (by decide) (fun c_ => ?_) (fun c_ => ?_)
  · have hf := xo_pos c_ hf
    refine xr_iload_n (pc := 49) 0 dJ10_hugeLength_49 rfl rfl ?_
    refine xr_ldc (pc := 50) q927 dJ10_hugeLength_50 ?_
    refine xr_icmp_gt (pc := 52) 58 dJ10_hugeLength_52 (by decide) (fun c_ => ?_) (fun c_ => ?_)
    · have hf := xo_pos c_ hf
      refine xr_iload_n (pc := 58) 0 dJ10_hugeLength_58 rfl rfl ?_
      rw [kr _ (Option.some.inj hf).symm]
      exact xr_iret (pc := 59) dJ10_hugeLength_59 rfl
    · have hf := xo_neg c_ hf
      refine xr_ldc (pc := 55) q927 dJ10_hugeLength_55 ?_
      rw [kr _ (Option.some.inj hf).symm]
      exact xr_iret (pc := 57) dJ10_hugeLength_57 rfl
  · have hf := xo_neg c_ hf
    cases hf
theorem met_f_c_J10_hugeLength (l : Launch) {D : CD} {P : CP} {g : CG} {x0 : Int32} {x1 : Int32} {τ : CC} {o_ : (Int32 × CC)} (hf : f_c_J10_hugeLength g x0 x1 τ = some o_) : xMet (wC D P) l yJ10_hugeLength (ws_ yJ10_hugeLength cJ10_hugeLength 3 (some .int)) 0 0 (grc g) (grs g) [.int x0, .int x1] (g, τ) (some (.int o_.1), (g, o_.2)) := 
  xMet_of (by decide) (Nat.le_of_ble_eq_true rfl) KC_moved RPC_of (fun K _ _ _ => ok_f_c_J10_hugeLength hf (fun _ h => by rw [h]))
theorem call_f_c_J12_max_J10_194 {D : CD} {P : CP} {K : xK} {M : xM} {Q : State → Prop} {g : CG} {c : CC} {x0 : Int32} {x1 : Int32} {pc : Nat} {loc : List (Nat × Value)} {st : List Value} {r : Int32} {c1 : CC} (hf : f_c_J12_max g x0 x1 c = some (r, c1)) (ho : M.2.2.1 = RJ10) (hfr : 1 ≤ M.2.2.2.1) (hlo : 21 ≤ M.2.2.2.2.1) (hcat : (st.map fun v => v.category).sum ≤ 8) (d : decode M.1 pc = .ok (.invokestatic 194, 3)) (k : xV (wC D P) K M Q (g, c1) (pc + 3) loc (.int r :: st)) : xV (wC D P) K M Q (g, c) pc loc (.int x1 :: .int x0 :: st) :=
  yc_callS (As := [.int x0, .int x1]) (rest := st) (met_f_c_J12_max K.2.1 hf) (lw_S q924 q925 q194 q926) hd_f_c_J12_max ho hfr hlo rfl rfl hcat d k
theorem hd_f_c_J10_hugeLength : yJ10_hugeLength.cls ≠ "java/lang/invoke/MethodHandle" ∧ yJ10_hugeLength.cls ≠ "java/lang/invoke/VarHandle" ∧ (parseMethodDescriptor yJ10_hugeLength.desc).map (fun d => d.parameters.length) = some 2 := by decide +kernel
theorem call_f_c_J10_hugeLength_J10_201 {D : CD} {P : CP} {K : xK} {M : xM} {Q : State → Prop} {g : CG} {c : CC} {x0 : Int32} {x1 : Int32} {pc : Nat} {loc : List (Nat × Value)} {st : List Value} {r : Int32} {c1 : CC} (hf : f_c_J10_hugeLength g x0 x1 c = some (r, c1)) (ho : M.2.2.1 = RJ10) (hfr : 1 ≤ M.2.2.2.1) (hlo : 22 ≤ M.2.2.2.2.1) (hcat : (st.map fun v => v.category).sum ≤ 8) (d : decode M.1 pc = .ok (.invokestatic 201, 3)) (k : xV (wC D P) K M Q (g, c1) (pc + 3) loc (.int r :: st)) : xV (wC D P) K M Q (g, c) pc loc (.int x1 :: .int x0 :: st) :=
  yc_callS (As := [.int x0, .int x1]) (rest := st) (met_f_c_J10_hugeLength K.2.1 hf) (lw_S q928 q929 q191 q930) hd_f_c_J10_hugeLength ho hfr hlo rfl rfl hcat d k
abbrev mJ10_newLength : xM := (cJ10_newLength, 4, RJ10, 1, 60, (some .int), "newLength")
def Jc_J10_newLength_21 (g : CG) (x0 : Int32) (x1 : Int32) (τ : CC) : Option (Int32 × CC) :=
  xbd (f_c_J10_hugeLength g x0 x1 τ) fun r2 τ2 =>
  some ((r2, τ2))
theorem ok_Jc_J10_newLength_21 {D : CD} {P : CP} {K : xK} {g : CG} {Z : Option Value × CS} {x0 : Int32} {x1 : Int32} {τ : CC} {o_ : (Int32 × CC)} (hf : Jc_J10_newLength_21 g x0 x1 τ = some o_) (kr : ∀ r_ : (Int32 × CC), o_ = r_ → Z = (some (.int r_.1), (g, r_.2))) : xV (wC D P) K mJ10_newLength (xQ (wC D P) K Z) (g, τ) 21 [(0, .int x0), (1, .int x1)] [] := by
  unfold Jc_J10_newLength_21 at hf
  refine xr_iload_n (pc := 21) 0 dJ10_newLength_21 rfl rfl ?_
  refine xr_iload_n (pc := 22) 1 dJ10_newLength_22 rfl rfl ?_
  obtain ⟨r2, τ2, hτ2, hf⟩ := xo_bd hf
  refine call_f_c_J10_hugeLength_J10_201 (pc := 23) hτ2 rfl (Nat.le_of_ble_eq_true rfl) (Nat.le_of_ble_eq_true rfl) (Nat.le_of_ble_eq_true rfl) dJ10_newLength_23 ?_
  rw [kr _ (Option.some.inj hf).symm]
  exact xr_iret (pc := 26) dJ10_newLength_26 rfl
def f_c_J10_newLength (g : CG) (x0 : Int32) (x1 : Int32) (x2 : Int32) (τ : CC) : Option (Int32 × CC) :=
  xbd (f_c_J12_max g x1 x2 τ) fun r1 τ1 =>
  if (x0 + r1) ≤ 0 then
  Jc_J10_newLength_21 g x0 x1 τ1
  else
  if (2147483639 : Int32) < (x0 + r1) then
  Jc_J10_newLength_21 g x0 x1 τ1
  else
  some ((x0 + r1, τ1))
theorem ok_f_c_J10_newLength {D : CD} {P : CP} {K : xK} {g : CG} {Z : Option Value × CS} {x0 : Int32} {x1 : Int32} {x2 : Int32} {τ : CC} {o_ : (Int32 × CC)} (hf : f_c_J10_newLength g x0 x1 x2 τ = some o_) (kr : ∀ r_ : (Int32 × CC), o_ = r_ → Z = (some (.int r_.1), (g, r_.2))) : xV (wC D P) K mJ10_newLength (xQ (wC D P) K Z) (g, τ) 0 [(0, .int x0), (1, .int x1), (2, .int x2)] [] := by
  unfold f_c_J10_newLength at hf
  refine xr_iload_n (pc := 0) 0 dJ10_newLength_0 rfl rfl ?_
  refine xr_iload_n (pc := 1) 1 dJ10_newLength_1 rfl rfl ?_
  refine xr_iload_n (pc := 2) 2 dJ10_newLength_2 rfl rfl ?_
  obtain ⟨r1, τ1, hτ1, hf⟩ := xo_bd hf
  refine call_f_c_J12_max_J10_194 (pc := 3) hτ1 rfl (Nat.le_of_ble_eq_true rfl) (Nat.le_of_ble_eq_true rfl) (Nat.le_of_ble_eq_true rfl) dJ10_newLength_3 ?_
  refine xr_iadd (pc := 6) dJ10_newLength_6 ?_
  refine xr_istore_n (pc := 7) (loc' := [(3, .int (x0 + r1)), (0, .int x0), (1, .int x1), (2, .int x2)]) dJ10_newLength_7 rfl (by decide) rfl ?_
  refine xr_iconst (pc := 8) dJ10_newLength_8 xci_0 ?_
  refine xr_iload_n (pc := 9) 0 dJ10_newLength_9 rfl rfl ?_
  refine xr_icmp_ge (pc := 10) 21 dJ10_newLength_10 (by decide) (fun c_ => ?_) (fun c_ => ?_)
  · have hf := xo_pos c_ hf
    refine xV_sub [1, 2] rfl ?_
    exact ok_Jc_J10_newLength_21 hf kr
  · have hf := xo_neg c_ hf
    refine xr_iload_n (pc := 13) 0 dJ10_newLength_13 rfl rfl ?_
    refine xr_ldc (pc := 14) q927 dJ10_newLength_14 ?_
    refine xr_icmp_gt (pc := 16) 21 dJ10_newLength_16 (by decide) (fun c_ => ?_) (fun c_ => ?_)
    · have hf := xo_pos c_ hf
      refine xV_sub [1, 2] rfl ?_
      exact ok_Jc_J10_newLength_21 hf kr
    · have hf := xo_neg c_ hf
      refine xr_iload_n (pc := 19) 0 dJ10_newLength_19 rfl rfl ?_
      rw [kr _ (Option.some.inj hf).symm]
      exact xr_iret (pc := 20) dJ10_newLength_20 rfl
theorem met_f_c_J10_newLength (l : Launch) {D : CD} {P : CP} {g : CG} {x0 : Int32} {x1 : Int32} {x2 : Int32} {τ : CC} {o_ : (Int32 × CC)} (hf : f_c_J10_newLength g x0 x1 x2 τ = some o_) : xMet (wC D P) l yJ10_newLength (ws_ yJ10_newLength cJ10_newLength 4 (some .int)) 1 60 (grc g) (grs g) [.int x0, .int x1, .int x2] (g, τ) (some (.int o_.1), (g, o_.2)) := 
  xMet_of (by decide) (Nat.le_of_ble_eq_true rfl) KC_moved RPC_of (fun K _ _ _ => ok_f_c_J10_newLength hf (fun _ h => by rw [h]))
abbrev mJ14_isLatin1 : xM := (cJ14_isLatin1, 1, RJ14, 0, 0, (some .boolean), "isLatin1")
def Jc_J14_isLatin1_17 (g : CG) (τ : CC) : Option (Int32 × CC) :=
  some ((0, τ))
theorem ok_Jc_J14_isLatin1_17 {D : CD} {P : CP} {K : xK} {g : CG} {Z : Option Value × CS} {τ : CC} {o_ : (Int32 × CC)} (hf : Jc_J14_isLatin1_17 g τ = some o_) (kr : ∀ r_ : (Int32 × CC), o_ = r_ → Z = (some (.int r_.1), (g, r_.2))) : xV (wC D P) K mJ14_isLatin1 (xQ (wC D P) K Z) (g, τ) 17 [] [] := by
  unfold Jc_J14_isLatin1_17 at hf
  refine xr_iconst (pc := 17) dJ14_isLatin1_17 xci_0 ?_
  rw [kr _ (Option.some.inj hf).symm]
  exact xr_zret (pc := 18) dJ14_isLatin1_18 rfl xz_0
def f_c_J14_isLatin1 (g : CG) (x0 : Nat) (τ : CC) : Option (Int32 × CC) :=
  if gT g x0 = 20 then
  if (cI τ 2001 x0) = 0 then
  some ((1, τ))
  else
  Jc_J14_isLatin1_17 g τ
  else none
theorem ok_f_c_J14_isLatin1 {D : CD} {P : CP} {K : xK} {g : CG} {Z : Option Value × CS} {x0 : Nat} {τ : CC} {o_ : (Int32 × CC)} (hf : f_c_J14_isLatin1 g x0 τ = some o_) (kr : ∀ r_ : (Int32 × CC), o_ = r_ → Z = (some (.int r_.1), (g, r_.2))) : xV (wC D P) K mJ14_isLatin1 (xQ (wC D P) K Z) (g, τ) 0 [(0, .ref x0)] [] := by
  unfold f_c_J14_isLatin1 at hf
  refine yc_gets8 (pc := 0) q1003 rfl rfl dJ14_isLatin1_0 ?_
  refine xr_if_eq (pc := 3) 17 dJ14_isLatin1_3 (by decide) (fun c_ => ?_) (fun c_ => ?_)
  · exact absurd c_ (by decide)
  · refine xr_aload_n (pc := 6) 0 dJ14_isLatin1_6 rfl rfl ?_
    obtain ⟨ht1, hf⟩ := xo_if hf
    refine yc_getI (pc := 7) 20 1 2001 (gKo ht1 (by decide)) (by decide) (by decide) (by decide) rfl rfl q1006 (ys_eq rfl) rfl dJ14_isLatin1_7 ?_
    refine xr_if_ne (pc := 10) 17 dJ14_isLatin1_10 (by decide) (fun c_ => ?_) (fun c_ => ?_)
    · have hf := xo_pos c_ hf
      refine xr_iconst (pc := 13) dJ14_isLatin1_13 xci_1 ?_
      refine xr_goto (pc := 14) 18 dJ14_isLatin1_14 (by decide) ?_
      rw [kr _ (Option.some.inj hf).symm]
      exact xr_zret (pc := 18) dJ14_isLatin1_18 rfl xz_1
    · have hf := xo_neg c_ hf
      refine xV_sub [] rfl ?_
      exact ok_Jc_J14_isLatin1_17 hf kr
theorem met_f_c_J14_isLatin1 (l : Launch) {D : CD} {P : CP} {g : CG} {x0 : Nat} {τ : CC} {o_ : (Int32 × CC)} (hf : f_c_J14_isLatin1 g x0 τ = some o_) : xMet (wC D P) l yJ14_isLatin1 (ws_ yJ14_isLatin1 cJ14_isLatin1 1 (some .boolean)) 0 0 (grc g) (grs g) [.ref x0] (g, τ) (some (.int o_.1), (g, o_.2)) := 
  xMet_of (by decide) (Nat.le_of_ble_eq_true rfl) KC_moved RPC_of (fun K _ _ _ => ok_f_c_J14_isLatin1 hf (fun _ h => by rw [h]))
abbrev mJ9_canEncode : xM := (cJ9_canEncode, 1, RJ9, 0, 0, (some .boolean), "canEncode")
def f_c_J9_canEncode (g : CG) (x0 : Int32) (τ : CC) : Option (Int32 × CC) :=
  if (255 : Int32) < x0 then
  some ((0, τ))
  else
  some ((1, τ))
theorem ok_f_c_J9_canEncode {D : CD} {P : CP} {K : xK} {g : CG} {Z : Option Value × CS} {x0 : Int32} {τ : CC} {o_ : (Int32 × CC)} (hf : f_c_J9_canEncode g x0 τ = some o_) (kr : ∀ r_ : (Int32 × CC), o_ = r_ → Z = (some (.int r_.1), (g, r_.2))) : xV (wC D P) K mJ9_canEncode (xQ (wC D P) K Z) (g, τ) 0 [(0, .int x0)] [] := by
  unfold f_c_J9_canEncode at hf
  refine xr_iload_n (pc := 0) 0 dJ9_canEncode_0 rfl rfl ?_
  refine xr_sipush (pc := 1) dJ9_canEncode_1 xcs_255 ?_
  refine xr_icmp_gt (pc := 4) 11 dJ9_canEncode_4 (by decide) (fun c_ => ?_) (fun c_ => ?_)
  · have hf := xo_pos c_ hf
    refine xr_iconst (pc := 11) dJ9_canEncode_11 xci_0 ?_
    rw [kr _ (Option.some.inj hf).symm]
    exact xr_zret (pc := 12) dJ9_canEncode_12 rfl xz_0
  · have hf := xo_neg c_ hf
    refine xr_iconst (pc := 7) dJ9_canEncode_7 xci_1 ?_
    refine xr_goto (pc := 8) 12 dJ9_canEncode_8 (by decide) ?_
    rw [kr _ (Option.some.inj hf).symm]
    exact xr_zret (pc := 12) dJ9_canEncode_12 rfl xz_1
theorem met_f_c_J9_canEncode (l : Launch) {D : CD} {P : CP} {g : CG} {x0 : Int32} {τ : CC} {o_ : (Int32 × CC)} (hf : f_c_J9_canEncode g x0 τ = some o_) : xMet (wC D P) l yJ9_canEncode (ws_ yJ9_canEncode cJ9_canEncode 1 (some .boolean)) 0 0 (grc g) (grs g) [.int x0] (g, τ) (some (.int o_.1), (g, o_.2)) := 
  xMet_of (by decide) (Nat.le_of_ble_eq_true rfl) KC_moved RPC_of (fun K _ _ _ => ok_f_c_J9_canEncode hf (fun _ h => by rw [h]))
theorem hd_f_c_J10_newLength : yJ10_newLength.cls ≠ "java/lang/invoke/MethodHandle" ∧ yJ10_newLength.cls ≠ "java/lang/invoke/VarHandle" ∧ (parseMethodDescriptor yJ10_newLength.desc).map (fun d => d.parameters.length) = some 3 := by decide +kernel
theorem call_f_c_J10_newLength_J14_114 {D : CD} {P : CP} {K : xK} {M : xM} {Q : State → Prop} {g : CG} {c : CC} {x0 : Int32} {x1 : Int32} {x2 : Int32} {pc : Nat} {loc : List (Nat × Value)} {st : List Value} {r : Int32} {c1 : CC} (hf : f_c_J10_newLength g x0 x1 x2 c = some (r, c1)) (ho : M.2.2.1 = RJ14) (hfr : 2 ≤ M.2.2.2.1) (hlo : 83 ≤ M.2.2.2.2.1) (hcat : (st.map fun v => v.category).sum ≤ 8) (d : decode M.1 pc = .ok (.invokestatic 114, 3)) (k : xV (wC D P) K M Q (g, c1) (pc + 3) loc (.int r :: st)) : xV (wC D P) K M Q (g, c) pc loc (.int x2 :: .int x1 :: .int x0 :: st) :=
  yc_callS (As := [.int x0, .int x1, .int x2]) (rest := st) (met_f_c_J10_newLength K.2.1 hf) (lw_S q1125 q922 q191 q923) hd_f_c_J10_newLength ho hfr hlo rfl rfl hcat d k
abbrev mJ14_newCapacity : xM := (cJ14_newCapacity, 6, RJ14, 2, 120, (some .int), "newCapacity")
def f_c_J14_newCapacity (g : CG) (x0 : Nat) (x1 : Int32) (τ : CC) : Option (Int32 × CC) :=
  if gT g x0 = 20 then
  (cR τ 2000 x0).bind fun b2 =>
  if gK g b2 = 103 then
  xbd (f_c_J10_newLength g (Int32.ofNat (gN g b2)) (((x1 : Int32) <<< ((cI τ 2001 x0) &&& 31)) - (Int32.ofNat (gN g b2))) ((Int32.ofNat (gN g b2)) + ((2 : Int32) <<< ((cI τ 2001 x0) &&& 31))) τ) fun r4 τ4 =>
  if r4 = 2147483647 then
  none
  else
  some (((r4 : Int32) >>> ((cI τ4 2001 x0) &&& 31), τ4))
  else none
  else none
theorem ok_f_c_J14_newCapacity {D : CD} {P : CP} {K : xK} {g : CG} {Z : Option Value × CS} {x0 : Nat} {x1 : Int32} {τ : CC} {o_ : (Int32 × CC)} (hf : f_c_J14_newCapacity g x0 x1 τ = some o_) (kr : ∀ r_ : (Int32 × CC), o_ = r_ → Z = (some (.int r_.1), (g, r_.2))) : xV (wC D P) K mJ14_newCapacity (xQ (wC D P) K Z) (g, τ) 0 [(0, .ref x0), (1, .int x1)] [] := by
  unfold f_c_J14_newCapacity at hf
  refine xr_aload_n (pc := 0) 0 dJ14_newCapacity_0 rfl rfl ?_
  obtain ⟨ht1, hf⟩ := xo_if hf
  obtain ⟨b2, hb2, hf⟩ := xo_bind hf
  refine yc_getRs (pc := 1) 20 0 2000 (gKo ht1 (by decide)) (by decide) (by decide) (by decide) rfl rfl hb2 q1005 (ys_eq rfl) rfl dJ14_newCapacity_1 ?_
  obtain ⟨ht3, hf⟩ := xo_if hf
  refine yc_alen (pc := 4) 103 ht3 (by decide) (by decide) dJ14_newCapacity_4 ?_
  refine xr_istore_n (pc := 5) (loc' := [(2, .int (Int32.ofNat (gN g b2))), (0, .ref x0), (1, .int x1)]) dJ14_newCapacity_5 rfl (by decide) rfl ?_
  refine xr_iload_n (pc := 6) 2 dJ14_newCapacity_6 rfl rfl ?_
  refine xr_aload_n (pc := 7) 1 dJ14_newCapacity_7 rfl rfl ?_
  refine yc_getI (pc := 8) 20 1 2001 (gKo ht1 (by decide)) (by decide) (by decide) (by decide) rfl rfl q1006 (ys_eq rfl) rfl dJ14_newCapacity_8 ?_
  refine xr_ishl (pc := 11) dJ14_newCapacity_11 ?_
  refine xr_istore_n (pc := 12) (loc' := [(3, .int ((x1 : Int32) <<< ((cI τ 2001 x0) &&& 31))), (2, .int (Int32.ofNat (gN g b2))), (0, .ref x0), (1, .int x1)]) dJ14_newCapacity_12 rfl (by decide) rfl ?_
  refine xr_iload_n (pc := 13) 0 dJ14_newCapacity_13 rfl rfl ?_
  refine xr_iload_n (pc := 14) 1 dJ14_newCapacity_14 rfl rfl ?_
  refine xr_isub (pc := 15) dJ14_newCapacity_15 ?_
  refine xr_istore (pc := 16) (loc' := [(4, .int (((x1 : Int32) <<< ((cI τ 2001 x0) &&& 31)) - (Int32.ofNat (gN g b2)))), (3, .int ((x1 : Int32) <<< ((cI τ 2001 x0) &&& 31))), (2, .int (Int32.ofNat (gN g b2))), (0, .ref x0), (1, .int x1)]) dJ14_newCapacity_16 (by decide) rfl ?_
  refine xr_iload_n (pc := 18) 2 dJ14_newCapacity_18 rfl rfl ?_
  refine xr_iload (pc := 19) 0 dJ14_newCapacity_19 rfl ?_
  refine xr_iload_n (pc := 21) 2 dJ14_newCapacity_21 rfl rfl ?_
  refine xr_iconst (pc := 22) dJ14_newCapacity_22 xci_2 ?_
  refine xr_aload_n (pc := 23) 3 dJ14_newCapacity_23 rfl rfl ?_
  refine yc_getI (pc := 24) 20 1 2001 (gKo ht1 (by decide)) (by decide) (by decide) (by decide) rfl rfl q1006 (ys_eq rfl) rfl dJ14_newCapacity_24 ?_
  refine xr_ishl (pc := 27) dJ14_newCapacity_27 ?_
  refine xr_iadd (pc := 28) dJ14_newCapacity_28 ?_
  obtain ⟨r4, τ4, hτ4, hf⟩ := xo_bd hf
  refine call_f_c_J10_newLength_J14_114 (pc := 29) hτ4 rfl (Nat.le_of_ble_eq_true rfl) (Nat.le_of_ble_eq_true rfl) (Nat.le_of_ble_eq_true rfl) dJ14_newCapacity_29 ?_
  refine xr_istore (pc := 32) (loc' := [(5, .int r4), (4, .int (((x1 : Int32) <<< ((cI τ 2001 x0) &&& 31)) - (Int32.ofNat (gN g b2)))), (3, .int ((x1 : Int32) <<< ((cI τ 2001 x0) &&& 31))), (2, .int (Int32.ofNat (gN g b2))), (0, .ref x0), (1, .int x1)]) dJ14_newCapacity_32 (by decide) rfl ?_
  refine xr_iload (pc := 34) 0 dJ14_newCapacity_34 rfl ?_
  refine xr_ldc (pc := 36) q1126 dJ14_newCapacity_36 ?_
  refine xr_icmp_ne (pc := 38) 51 dJ14_newCapacity_38 (by decide) (fun c_ => ?_) (fun c_ => ?_)
  · have hf := xo_pos c_ hf
    cases hf
  · have hf := xo_neg c_ hf
    refine xr_iload (pc := 51) 0 dJ14_newCapacity_51 rfl ?_
    refine xr_aload_n (pc := 53) 4 dJ14_newCapacity_53 rfl rfl ?_
    refine yc_getI (pc := 54) 20 1 2001 (gKo ht1 (by decide)) (by decide) (by decide) (by decide) rfl rfl q1006 (ys_eq rfl) rfl dJ14_newCapacity_54 ?_
    refine xr_ishr (pc := 57) dJ14_newCapacity_57 ?_
    rw [kr _ (Option.some.inj hf).symm]
    exact xr_iret (pc := 58) dJ14_newCapacity_58 rfl
theorem met_f_c_J14_newCapacity (l : Launch) {D : CD} {P : CP} {g : CG} {x0 : Nat} {x1 : Int32} {τ : CC} {o_ : (Int32 × CC)} (hf : f_c_J14_newCapacity g x0 x1 τ = some o_) : xMet (wC D P) l yJ14_newCapacity (ws_ yJ14_newCapacity cJ14_newCapacity 6 (some .int)) 2 120 (grc g) (grs g) [.ref x0, .int x1] (g, τ) (some (.int o_.1), (g, o_.2)) := 
  xMet_of (by decide) (Nat.le_of_ble_eq_true rfl) KC_moved RPC_of (fun K _ _ _ => ok_f_c_J14_newCapacity hf (fun _ h => by rw [h]))
abbrev mX5_begins : xM := (cX5_begins, 3, RX5, 4, 240, none, "begins")
def Bc_X5_begins_43 (g : CG) (x0 : Nat) (x1 : Int32) (x2 : Int32) (τ : CC) : Option ((Int32 × CC) ⊕ ((CC))) :=
  if (8 : Int32) ≤ x2 then
  some (.inr τ)
  else
  if gT g x0 = 6 then
  (gR g 606 x0).bind fun b12 =>
  if gT g b12 = 105 then
  if xin x1 (gN g b12) = true then
  (gR g 610 x0).bind fun b14 =>
  if gT g b14 = 1 then
  (cR τ 100 b14).bind fun b16 =>
  if gT g b16 = 2 then
  (gR g 207 b16).bind fun b18 =>
  if gT g b18 = 105 then
  if xin x1 (gN g b18) = true then
  if gT g (gA g b18 x1.toNatClampNeg) = 100 then
  if xin x2 (gN g (gA g b18 x1.toNatClampNeg)) = true then
  if gT g (gA g b12 x1.toNatClampNeg) = 100 then
  if xin x2 (gN g (gA g b12 x1.toNatClampNeg)) = true then
  (gR g 607 x0).bind fun b22 =>
  if gT g b22 = 105 then
  if xin x1 (gN g b22) = true then
  if gT g (gA g b22 x1.toNatClampNeg) = 100 then
  if xin x2 (gN g (gA g b22 x1.toNatClampNeg)) = true then
  some (.inl (x2 + 1, uA (uA τ (gA g b12 x1.toNatClampNeg) x2.toNatClampNeg (cA τ (gA g b18 x1.toNatClampNeg) x2.toNatClampNeg)) (gA g b22 x1.toNatClampNeg) x2.toNatClampNeg 0))
  else none
  else none
  else none
  else none
  else none
  else none
  else none
  else none
  else none
  else none
  else none
  else none
  else none
  else none
  else none
theorem ok_Bc_X5_begins_43 {D : CD} {P : CP} {K : xK} {g : CG} {Z : Option Value × CS} {x0 : Nat} {x1 : Int32} {x2 : Int32} {τ : CC} {o_ : ((Int32 × CC) ⊕ ((CC)))} (hf : Bc_X5_begins_43 g x0 x1 x2 τ = some o_) (kc : ∀ s_ : Int32 × CC, o_ = .inl s_ → xV (wC D P) K mX5_begins (xQ (wC D P) K Z) (g, s_.2) 43 [(0, .ref x0), (1, .int x1), (2, .int s_.1)] []) (ke0 : ∀ e_ : CC, o_ = .inr e_ → xV (wC D P) K mX5_begins (xQ (wC D P) K Z) (g, e_) 86 [(0, .ref x0), (1, .int x1)] []) : xV (wC D P) K mX5_begins (xQ (wC D P) K Z) (g, τ) 43 [(0, .ref x0), (1, .int x1), (2, .int x2)] [] := by
  unfold Bc_X5_begins_43 at hf
  refine xr_iload_n (pc := 43) 2 dX5_begins_43 rfl rfl ?_
  refine xr_bipush (pc := 44) dX5_begins_44 xcb_8 ?_
  refine xr_icmp_ge (pc := 46) 86 dX5_begins_46 (by decide) (fun c_ => ?_) (fun c_ => ?_)
  · have hf := xo_pos c_ hf
    refine xV_sub [0, 1] rfl ?_
    exact ke0 _ (Option.some.inj hf).symm
  · have hf := xo_neg c_ hf
    refine xr_aload_n (pc := 49) 0 dX5_begins_49 rfl rfl ?_
    obtain ⟨ht11, hf⟩ := xo_if hf
    obtain ⟨b12, hb12, hf⟩ := xo_bind hf
    refine yc_getFs (pc := 50) 6 6 606 (gKo ht11 (by decide)) (by decide) (by decide) (by decide) rfl rfl hb12 q446 (ys_eq rfl) rfl dX5_begins_50 ?_
    refine xr_iload_n (pc := 53) 1 dX5_begins_53 rfl rfl ?_
    obtain ⟨ht13, hf⟩ := xo_if hf
    obtain ⟨hi_, hf⟩ := xo_if hf
    refine yc_aaldF (pc := 54) 105 (gKo ht13 (by decide)) (by decide) (by decide) rfl rfl hi_ dX5_begins_54 ?_
    refine xr_iload_n (pc := 55) 2 dX5_begins_55 rfl rfl ?_
    refine xr_aload_n (pc := 56) 0 dX5_begins_56 rfl rfl ?_
    obtain ⟨b14, hb14, hf⟩ := xo_bind hf
    refine yc_getFs (pc := 57) 6 10 610 (gKo ht11 (by decide)) (by decide) (by decide) (by decide) rfl rfl hb14 q454 (ys_eq rfl) rfl dX5_begins_57 ?_
    obtain ⟨ht15, hf⟩ := xo_if hf
    obtain ⟨b16, hb16, hf⟩ := xo_bind hf
    refine yc_getRsN (pc := 60) 1 0 100 (gKo ht15 (by decide)) (by decide) (by decide) (by decide) rfl rfl hb16 q483 (ys_eq rfl) rfl dX5_begins_60 ?_
    obtain ⟨ht17, hf⟩ := xo_if hf
    obtain ⟨b18, hb18, hf⟩ := xo_bind hf
    refine yc_getFsN (pc := 63) 2 7 207 (gKo ht17 (by decide)) (by decide) (by decide) (by decide) rfl rfl hb18 q277 (ys_eq rfl) rfl dX5_begins_63 ?_
    refine xr_iload_n (pc := 66) 1 dX5_begins_66 rfl rfl ?_
    obtain ⟨ht19, hf⟩ := xo_if hf
    obtain ⟨hi_, hf⟩ := xo_if hf
    refine yc_aaldF (pc := 67) 105 (gKo ht19 (by decide)) (by decide) (by decide) rfl rfl hi_ dX5_begins_67 ?_
    refine xr_iload_n (pc := 68) 2 dX5_begins_68 rfl rfl ?_
    obtain ⟨ht20, hf⟩ := xo_if hf
    obtain ⟨hi_, hf⟩ := xo_if hf
    refine yc_iald (pc := 69) (gKo ht20 (by decide)) hi_ dX5_begins_69 ?_
    obtain ⟨ht21, hf⟩ := xo_if hf
    obtain ⟨hi_, hf⟩ := xo_if hf
    refine yc_iast (pc := 70) ht21 hi_ dX5_begins_70 ?_
    refine xr_aload_n (pc := 71) 0 dX5_begins_71 rfl rfl ?_
    obtain ⟨b22, hb22, hf⟩ := xo_bind hf
    refine yc_getFs (pc := 72) 6 7 607 (gKo ht11 (by decide)) (by decide) (by decide) (by decide) rfl rfl hb22 q448 (ys_eq rfl) rfl dX5_begins_72 ?_
    refine xr_iload_n (pc := 75) 1 dX5_begins_75 rfl rfl ?_
    obtain ⟨ht23, hf⟩ := xo_if hf
    obtain ⟨hi_, hf⟩ := xo_if hf
    refine yc_aaldF (pc := 76) 105 (gKo ht23 (by decide)) (by decide) (by decide) rfl rfl hi_ dX5_begins_76 ?_
    refine xr_iload_n (pc := 77) 2 dX5_begins_77 rfl rfl ?_
    refine xr_iconst (pc := 78) dX5_begins_78 xci_0 ?_
    obtain ⟨ht24, hf⟩ := xo_if hf
    obtain ⟨hi_, hf⟩ := xo_if hf
    refine yc_iast (pc := 79) ht24 hi_ dX5_begins_79 ?_
    refine xr_iinc (pc := 80) (loc' := [(2, .int (x2 + 1)), (0, .ref x0), (1, .int x1)]) 2 dX5_begins_80 rfl xci_1 (by decide) rfl ?_
    refine xr_goto (pc := 83) 43 dX5_begins_83 (by decide) ?_
    refine xV_sub [1, 2, 0] rfl ?_
    exact kc _ (Option.some.inj hf).symm
def Bc_X5_begins_17 (g : CG) (x0 : Nat) (x1 : Int32) (τ : CC) : Option ((Int32 × CC) ⊕ ((CC))) :=
  if (10 : Int32) ≤ x1 then
  some (.inr τ)
  else
  if gT g x0 = 6 then
  (gR g 603 x0).bind fun b3 =>
  (gR g 610 x0).bind fun b4 =>
  if gT g b4 = 1 then
  (cR τ 100 b4).bind fun b6 =>
  if gT g b6 = 2 then
  (gR g 205 b6).bind fun b8 =>
  if gT g b8 = 100 then
  if xin x1 (gN g b8) = true then
  if gT g b3 = 100 then
  if xin x1 (gN g b3) = true then
  (itr (fun s_ : Int32 × CC => Bc_X5_begins_43 g x0 x1 s_.1 s_.2) 4096 (0, uA τ b3 x1.toNatClampNeg (cA τ b8 x1.toNatClampNeg))).bind fun b25 =>
  some (.inl (x1 + 1, b25))
  else none
  else none
  else none
  else none
  else none
  else none
  else none
theorem ok_Bc_X5_begins_17 {D : CD} {P : CP} {K : xK} {g : CG} {Z : Option Value × CS} {x0 : Nat} {x1 : Int32} {τ : CC} {o_ : ((Int32 × CC) ⊕ ((CC)))} (hf : Bc_X5_begins_17 g x0 x1 τ = some o_) (kc : ∀ s_ : Int32 × CC, o_ = .inl s_ → xV (wC D P) K mX5_begins (xQ (wC D P) K Z) (g, s_.2) 17 [(0, .ref x0), (1, .int s_.1)] []) (ke0 : ∀ e_ : CC, o_ = .inr e_ → xV (wC D P) K mX5_begins (xQ (wC D P) K Z) (g, e_) 92 [(0, .ref x0)] []) : xV (wC D P) K mX5_begins (xQ (wC D P) K Z) (g, τ) 17 [(0, .ref x0), (1, .int x1)] [] := by
  unfold Bc_X5_begins_17 at hf
  refine xr_iload_n (pc := 17) 1 dX5_begins_17 rfl rfl ?_
  refine xr_bipush (pc := 18) dX5_begins_18 xcb_10 ?_
  refine xr_icmp_ge (pc := 20) 92 dX5_begins_20 (by decide) (fun c_ => ?_) (fun c_ => ?_)
  · have hf := xo_pos c_ hf
    refine xV_sub [0] rfl ?_
    exact ke0 _ (Option.some.inj hf).symm
  · have hf := xo_neg c_ hf
    refine xr_aload_n (pc := 23) 0 dX5_begins_23 rfl rfl ?_
    obtain ⟨ht2, hf⟩ := xo_if hf
    obtain ⟨b3, hb3, hf⟩ := xo_bind hf
    refine yc_getFs (pc := 24) 6 3 603 (gKo ht2 (by decide)) (by decide) (by decide) (by decide) rfl rfl hb3 q440 (ys_eq rfl) rfl dX5_begins_24 ?_
    refine xr_iload_n (pc := 27) 1 dX5_begins_27 rfl rfl ?_
    refine xr_aload_n (pc := 28) 0 dX5_begins_28 rfl rfl ?_
    obtain ⟨b4, hb4, hf⟩ := xo_bind hf
    refine yc_getFs (pc := 29) 6 10 610 (gKo ht2 (by decide)) (by decide) (by decide) (by decide) rfl rfl hb4 q454 (ys_eq rfl) rfl dX5_begins_29 ?_
    obtain ⟨ht5, hf⟩ := xo_if hf
    obtain ⟨b6, hb6, hf⟩ := xo_bind hf
    refine yc_getRsN (pc := 32) 1 0 100 (gKo ht5 (by decide)) (by decide) (by decide) (by decide) rfl rfl hb6 q483 (ys_eq rfl) rfl dX5_begins_32 ?_
    obtain ⟨ht7, hf⟩ := xo_if hf
    obtain ⟨b8, hb8, hf⟩ := xo_bind hf
    refine yc_getFsN (pc := 35) 2 5 205 (gKo ht7 (by decide)) (by decide) (by decide) (by decide) rfl rfl hb8 q270 (ys_eq rfl) rfl dX5_begins_35 ?_
    refine xr_iload_n (pc := 38) 1 dX5_begins_38 rfl rfl ?_
    obtain ⟨ht9, hf⟩ := xo_if hf
    obtain ⟨hi_, hf⟩ := xo_if hf
    refine yc_iald (pc := 39) (gKo ht9 (by decide)) hi_ dX5_begins_39 ?_
    obtain ⟨ht10, hf⟩ := xo_if hf
    obtain ⟨hi_, hf⟩ := xo_if hf
    refine yc_iast (pc := 40) ht10 hi_ dX5_begins_40 ?_
    refine xr_iconst (pc := 41) dX5_begins_41 xci_0 ?_
    refine xr_istore_n (pc := 42) (loc' := [(2, .int 0), (0, .ref x0), (1, .int x1)]) dX5_begins_42 rfl (by decide) rfl ?_
    refine xV_sub [1, 2, 0] rfl ?_
    obtain ⟨b25, hb25, hf⟩ := xo_bind hf
    refine itr_rule (P := fun s_ : Int32 × CC => xV (wC D P) K mX5_begins (xQ (wC D P) K Z) (g, s_.2) 43 [(0, .ref x0), (1, .int x1), (2, .int s_.1)] []) (fun s_ o_ hB_ hc_ he_ => ok_Bc_X5_begins_43 hB_ hc_ (fun e_ h_ => ?_)) 4096 _ hb25
    · have e9_ := he_ _ h_
      rw [e9_]
      refine xr_iinc (pc := 86) (loc' := [(1, .int (x1 + 1)), (0, .ref x0)]) 1 dX5_begins_86 rfl xci_1 (by decide) rfl ?_
      refine xr_goto (pc := 89) 17 dX5_begins_89 (by decide) ?_
      refine xV_sub [1, 0] rfl ?_
      exact kc _ (Option.some.inj hf).symm
def Bc_X5_begins_94 (g : CG) (x0 : Nat) (x1 : Int32) (τ : CC) : Option ((Int32 × CC) ⊕ ((CC))) :=
  if gT g x0 = 6 then
  (gR g 610 x0).bind fun b28 =>
  if gT g b28 = 1 then
  xbd (f_c_X0_lords g b28 τ) fun r30 τ30 =>
  if r30 ≤ x1 then
  some (.inr τ30)
  else
  (gR g 604 x0).bind fun b31 =>
  xbd (f_c_X0_lordOf g b28 x1 τ30) fun r32 τ32 =>
  if gT g r32 = 7 then
  if gT g b31 = 100 then
  if xin x1 (gN g b31) = true then
  (gR g 605 x0).bind fun b35 =>
  if gT g b35 = 104 then
  if xin x1 (gN g b35) = true then
  some (.inl (x1 + 1, uA (uA τ32 b31 x1.toNatClampNeg (cI τ32 705 r32)) b35 x1.toNatClampNeg ((1 : Int32) &&& (1 : Int32))))
  else none
  else none
  else none
  else none
  else none
  else none
  else none
theorem ok_Bc_X5_begins_94 {D : CD} {P : CP} {K : xK} {g : CG} {Z : Option Value × CS} {x0 : Nat} {x1 : Int32} {τ : CC} {o_ : ((Int32 × CC) ⊕ ((CC)))} (hf : Bc_X5_begins_94 g x0 x1 τ = some o_) (kc : ∀ s_ : Int32 × CC, o_ = .inl s_ → xV (wC D P) K mX5_begins (xQ (wC D P) K Z) (g, s_.2) 94 [(0, .ref x0), (1, .int s_.1)] []) (ke0 : ∀ e_ : CC, o_ = .inr e_ → xV (wC D P) K mX5_begins (xQ (wC D P) K Z) (g, e_) 135 [] []) : xV (wC D P) K mX5_begins (xQ (wC D P) K Z) (g, τ) 94 [(0, .ref x0), (1, .int x1)] [] := by
  unfold Bc_X5_begins_94 at hf
  refine xr_iload_n (pc := 94) 1 dX5_begins_94 rfl rfl ?_
  refine xr_aload_n (pc := 95) 0 dX5_begins_95 rfl rfl ?_
  obtain ⟨ht27, hf⟩ := xo_if hf
  obtain ⟨b28, hb28, hf⟩ := xo_bind hf
  refine yc_getFs (pc := 96) 6 10 610 (gKo ht27 (by decide)) (by decide) (by decide) (by decide) rfl rfl hb28 q454 (ys_eq rfl) rfl dX5_begins_96 ?_
  obtain ⟨ht29, hf⟩ := xo_if hf
  obtain ⟨r30, τ30, hτ30, hf⟩ := xo_bd hf
  refine call_f_c_X0_lords_X5_60 (pc := 99) hτ30 (gKo ht29 (by decide)) rfl (Nat.le_of_ble_eq_true rfl) (Nat.le_of_ble_eq_true rfl) (Nat.le_of_ble_eq_true rfl) dX5_begins_99 ?_
  refine xr_icmp_ge (pc := 102) 135 dX5_begins_102 (by decide) (fun c_ => ?_) (fun c_ => ?_)
  · have hf := xo_pos c_ hf
    refine xV_sub [] rfl ?_
    exact ke0 _ (Option.some.inj hf).symm
  · have hf := xo_neg c_ hf
    refine xr_aload_n (pc := 105) 0 dX5_begins_105 rfl rfl ?_
    obtain ⟨b31, hb31, hf⟩ := xo_bind hf
    refine yc_getFs (pc := 106) 6 4 604 (gKo ht27 (by decide)) (by decide) (by decide) (by decide) rfl rfl hb31 q442 (ys_eq rfl) rfl dX5_begins_106 ?_
    refine xr_iload_n (pc := 109) 1 dX5_begins_109 rfl rfl ?_
    refine xr_aload_n (pc := 110) 0 dX5_begins_110 rfl rfl ?_
    refine yc_getFs (pc := 111) 6 10 610 (gKo ht27 (by decide)) (by decide) (by decide) (by decide) rfl rfl hb28 q454 (ys_eq rfl) rfl dX5_begins_111 ?_
    refine xr_iload_n (pc := 114) 1 dX5_begins_114 rfl rfl ?_
    obtain ⟨r32, τ32, hτ32, hf⟩ := xo_bd hf
    refine call_f_c_X0_lordOf_X5_64 (pc := 115) hτ32 (gKo ht29 (by decide)) rfl (Nat.le_of_ble_eq_true rfl) (Nat.le_of_ble_eq_true rfl) (Nat.le_of_ble_eq_true rfl) dX5_begins_115 ?_
    obtain ⟨ht33, hf⟩ := xo_if hf
    refine yc_getIN (pc := 118) 7 5 705 (gKo ht33 (by decide)) (by decide) (by decide) (by decide) rfl rfl q884 (ys_eq rfl) rfl dX5_begins_118 ?_
    obtain ⟨ht34, hf⟩ := xo_if hf
    obtain ⟨hi_, hf⟩ := xo_if hf
    refine yc_iast (pc := 121) ht34 hi_ dX5_begins_121 ?_
    refine xr_aload_n (pc := 122) 0 dX5_begins_122 rfl rfl ?_
    obtain ⟨b35, hb35, hf⟩ := xo_bind hf
    refine yc_getFs (pc := 123) 6 5 605 (gKo ht27 (by decide)) (by decide) (by decide) (by decide) rfl rfl hb35 q444 (ys_eq rfl) rfl dX5_begins_123 ?_
    refine xr_iload_n (pc := 126) 1 dX5_begins_126 rfl rfl ?_
    refine xr_iconst (pc := 127) dX5_begins_127 xci_1 ?_
    obtain ⟨ht36, hf⟩ := xo_if hf
    obtain ⟨hi_, hf⟩ := xo_if hf
    refine yc_zast (pc := 128) ht36 hi_ dX5_begins_128 ?_
    refine xr_iinc (pc := 129) (loc' := [(1, .int (x1 + 1)), (0, .ref x0)]) 1 dX5_begins_129 rfl xci_1 (by decide) rfl ?_
    refine xr_goto (pc := 132) 94 dX5_begins_132 (by decide) ?_
    refine xV_sub [1, 0] rfl ?_
    exact kc _ (Option.some.inj hf).symm
def f_c_X5_begins (g : CG) (x0 : Nat) (τ : CC) : Option CC :=
  if gT g x0 = 6 then
  (itr (fun s_ : Int32 × CC => Bc_X5_begins_17 g x0 s_.1 s_.2) 4096 (0, uI (uI (uI τ 600 x0 0) 601 x0 0) 602 x0 0)).bind fun b26 =>
  (itr (fun s_ : Int32 × CC => Bc_X5_begins_94 g x0 s_.1 s_.2) 4096 (0, b26)).bind fun b37 =>
  some (b37)
  else none
theorem ok_f_c_X5_begins {D : CD} {P : CP} {K : xK} {g : CG} {Z : Option Value × CS} {x0 : Nat} {τ : CC} {o_ : CC} (hf : f_c_X5_begins g x0 τ = some o_) (kr : ∀ r_ : CC, o_ = r_ → Z = (none, (g, r_))) : xV (wC D P) K mX5_begins (xQ (wC D P) K Z) (g, τ) 0 [(0, .ref x0)] [] := by
  unfold f_c_X5_begins at hf
  refine xr_aload_n (pc := 0) 0 dX5_begins_0 rfl rfl ?_
  refine xr_iconst (pc := 1) dX5_begins_1 xci_0 ?_
  obtain ⟨ht1, hf⟩ := xo_if hf
  refine yc_putI (pc := 2) 6 0 600 ht1 (by decide) (by decide) (by decide) rfl rfl rfl (ty := .int) (by decide +kernel) rfl rfl q434 (ys_eq rfl) rfl dX5_begins_2 ?_
  refine xr_aload_n (pc := 5) 0 dX5_begins_5 rfl rfl ?_
  refine xr_iconst (pc := 6) dX5_begins_6 xci_0 ?_
  refine yc_putI (pc := 7) 6 1 601 ht1 (by decide) (by decide) (by decide) rfl rfl rfl (ty := .int) (by decide +kernel) rfl rfl q436 (ys_eq rfl) rfl dX5_begins_7 ?_
  refine xr_aload_n (pc := 10) 0 dX5_begins_10 rfl rfl ?_
  refine xr_iconst (pc := 11) dX5_begins_11 xci_0 ?_
  refine yc_putI (pc := 12) 6 2 602 ht1 (by decide) (by decide) (by decide) rfl rfl rfl (ty := .int) (by decide +kernel) rfl rfl q438 (ys_eq rfl) rfl dX5_begins_12 ?_
  refine xr_iconst (pc := 15) dX5_begins_15 xci_0 ?_
  refine xr_istore_n (pc := 16) (loc' := [(1, .int 0), (0, .ref x0)]) dX5_begins_16 rfl (by decide) rfl ?_
  refine xV_sub [1, 0] rfl ?_
  obtain ⟨b26, hb26, hf⟩ := xo_bind hf
  refine itr_rule (P := fun s_ : Int32 × CC => xV (wC D P) K mX5_begins (xQ (wC D P) K Z) (g, s_.2) 17 [(0, .ref x0), (1, .int s_.1)] []) (fun s_ o_ hB_ hc_ he_ => ok_Bc_X5_begins_17 hB_ hc_ (fun e_ h_ => ?_)) 4096 _ hb26
  · have e9_ := he_ _ h_
    rw [e9_]
    refine xr_iconst (pc := 92) dX5_begins_92 xci_0 ?_
    refine xr_istore_n (pc := 93) (loc' := [(1, .int 0), (0, .ref x0)]) dX5_begins_93 rfl (by decide) rfl ?_
    refine xV_sub [1, 0] rfl ?_
    obtain ⟨b37, hb37, hf⟩ := xo_bind hf
    refine itr_rule (P := fun s_ : Int32 × CC => xV (wC D P) K mX5_begins (xQ (wC D P) K Z) (g, s_.2) 94 [(0, .ref x0), (1, .int s_.1)] []) (fun s_ o_ hB_ hc_ he_ => ok_Bc_X5_begins_94 hB_ hc_ (fun e_ h_ => ?_)) 4096 _ hb37
    · have e9_ := he_ _ h_
      rw [e9_]
      rw [kr _ (Option.some.inj hf).symm]
      exact xr_vret (pc := 135) dX5_begins_135 rfl
theorem met_f_c_X5_begins (l : Launch) {D : CD} {P : CP} {g : CG} {x0 : Nat} {τ : CC} {o_ : CC} (hf : f_c_X5_begins g x0 τ = some o_) : xMet (wC D P) l yX5_begins (ws_ yX5_begins cX5_begins 3 none) 4 240 (grc g) (grs g) [.ref x0] (g, τ) (none, (g, o_)) := 
  xMet_of (by decide) (Nat.le_of_ble_eq_true rfl) KC_moved RPC_of (fun K _ _ _ => ok_f_c_X5_begins hf (fun _ h => by rw [h]))
theorem hd_f_c_X0_isLetter : yX0_isLetter.cls ≠ "java/lang/invoke/MethodHandle" ∧ yX0_isLetter.cls ≠ "java/lang/invoke/VarHandle" ∧ (parseMethodDescriptor yX0_isLetter.desc).map (fun d => d.parameters.length) = some 1 := by decide +kernel
theorem call_f_c_X0_isLetter_X2_51 {D : CD} {P : CP} {K : xK} {M : xM} {Q : State → Prop} {g : CG} {c : CC} {x0 : Int32} {pc : Nat} {loc : List (Nat × Value)} {st : List Value} {r : Int32} {c1 : CC} (hf : f_c_X0_isLetter g x0 c = some (r, c1)) (ho : M.2.2.1 = RX2) (hfr : 1 ≤ M.2.2.2.1) (hlo : 20 ≤ M.2.2.2.2.1) (hcat : (st.map fun v => v.category).sum ≤ 8) (d : decode M.1 pc = .ok (.invokestatic 51, 3)) (k : xV (wC D P) K M Q (g, c1) (pc + 3) loc (.int r :: st)) : xV (wC D P) K M Q (g, c) pc loc (.int x0 :: st) :=
  yc_callSN (As := [.int x0]) (rest := st) (met_f_c_X0_isLetter K.2.1 hf) (lw_meth q612) q610 q611 q174 hd_f_c_X0_isLetter ho hfr hlo rfl rfl hcat d k
theorem hd_f_c_X0_isDigit : yX0_isDigit.cls ≠ "java/lang/invoke/MethodHandle" ∧ yX0_isDigit.cls ≠ "java/lang/invoke/VarHandle" ∧ (parseMethodDescriptor yX0_isDigit.desc).map (fun d => d.parameters.length) = some 1 := by decide +kernel
theorem call_f_c_X0_isDigit_X2_55 {D : CD} {P : CP} {K : xK} {M : xM} {Q : State → Prop} {g : CG} {c : CC} {x0 : Int32} {pc : Nat} {loc : List (Nat × Value)} {st : List Value} {r : Int32} {c1 : CC} (hf : f_c_X0_isDigit g x0 c = some (r, c1)) (ho : M.2.2.1 = RX2) (hfr : 1 ≤ M.2.2.2.1) (hlo : 20 ≤ M.2.2.2.2.1) (hcat : (st.map fun v => v.category).sum ≤ 8) (d : decode M.1 pc = .ok (.invokestatic 55, 3)) (k : xV (wC D P) K M Q (g, c1) (pc + 3) loc (.int r :: st)) : xV (wC D P) K M Q (g, c) pc loc (.int x0 :: st) :=
  yc_callSN (As := [.int x0]) (rest := st) (met_f_c_X0_isDigit K.2.1 hf) (lw_meth q623) q621 q622 q174 hd_f_c_X0_isDigit ho hfr hlo rfl rfl hcat d k
theorem hd_f_c_X2_wrong : yX2_wrong.cls ≠ "java/lang/invoke/MethodHandle" ∧ yX2_wrong.cls ≠ "java/lang/invoke/VarHandle" ∧ (parseMethodDescriptor yX2_wrong.desc).map (fun d => d.parameters.length) = some 2 := by decide +kernel
theorem call_f_c_X2_wrong_X2_47 {D : CD} {P : CP} {K : xK} {M : xM} {Q : State → Prop} {g : CG} {c : CC} {x0 : Nat} {x1 : Int32} {x2 : Int32} {pc : Nat} {loc : List (Nat × Value)} {st : List Value} {r : Nat} {c1 : CC} (hf : f_c_X2_wrong g x0 x1 x2 c = some (r, c1)) (hr : gK g x0 = 3) (ho : M.2.2.1 = RX2) (hfr : 1 ≤ M.2.2.2.1) (hlo : 22 ≤ M.2.2.2.2.1) (hcat : (st.map fun v => v.category).sum ≤ 8) (d : decode M.1 pc = .ok (.invokevirtual 47, 3)) (k : xV (wC D P) K M Q (g, c1) (pc + 3) loc (.ref r :: st)) : xV (wC D P) K M Q (g, c) pc loc (.int x2 :: .int x1 :: .ref x0 :: st) :=
  yc_callV (As := [.int x1, .int x2]) (rest := st) (met_f_c_X2_wrong K.2.1 hf) (lw_V q613 q615 qs8 q179 q616) ⟨rfl, hd_f_c_X2_wrong⟩ ho hfr hlo rfl hr (by decide) (by decide) rfl rfl hcat d k
abbrev mX2_parted : xM := (cX2_parted, 1, RX2, 1, 60, none, "parted")
def Jc_X2_parted_32 (x0 : Nat) (τ : CS) : Option ((Unit ⊕ Nat) × CS) :=
  if gT τ.1 x0 = 3 then
  xbd (f_c_X2_wrong τ.1 x0 1 (cI τ.2 302 x0) τ.2) fun r7 τ7 =>
  if gT τ.1 r7 = 4 then
  some ((.inr r7, (τ.1, τ7)))
  else none
  else none
theorem ok_Jc_X2_parted_32 {D : CD} {P : CP} {K : xK} (hno : xNoT K) {Z : (Option Value ⊕ Nat) × CS} {x0 : Nat} {τ : CS} {o_ : ((Unit ⊕ Nat) × CS)} (hf : Jc_X2_parted_32 x0 τ = some o_) (kr : ∀ r_ : ((Unit ⊕ Nat) × CS), o_ = r_ → Z = (xzV r_.1, r_.2)) : xV (wC D P) K mX2_parted (xQX (wC D P) K Z) τ 32 [(0, .ref x0)] [] := by
  unfold Jc_X2_parted_32 at hf
  refine xr_aload_n (pc := 32) 0 dX2_parted_32 rfl rfl ?_
  refine xr_iconst (pc := 33) dX2_parted_33 xci_1 ?_
  refine xr_aload_n (pc := 34) 0 dX2_parted_34 rfl rfl ?_
  obtain ⟨ht6, hf⟩ := xo_if hf
  refine yc_getI (pc := 35) 3 2 302 (gKo ht6 (by decide)) (by decide) (by decide) (by decide) rfl rfl q390 (ys_eq rfl) rfl dX2_parted_35 ?_
  obtain ⟨r7, τ7, hτ7, hf⟩ := xo_bd hf
  refine call_f_c_X2_wrong_X2_47 (pc := 38) hτ7 (gKo ht6 (by decide)) rfl (Nat.le_of_ble_eq_true rfl) (Nat.le_of_ble_eq_true rfl) (Nat.le_of_ble_eq_true rfl) dX2_parted_38 ?_
  obtain ⟨ht8, hf⟩ := xo_if hf
  rw [kr _ (Option.some.inj hf).symm]
  exact yc_athrow (pc := 41) (gKo ht8 (by decide)) (by decide) (by decide) rfl dX2_parted_41 (xT_out hno)
def f_x_X2_parted (x0 : Nat) (τ : CS) : Option ((Unit ⊕ Nat) × CS) :=
  if gT τ.1 x0 = 3 then
  xbd (f_c_X2_byteAt τ.1 x0 ((cI τ.2 302 x0) - 1) τ.2) fun r2 τ2 =>
  xbd (f_c_X0_isLetter τ.1 r2 τ2) fun r3 τ3 =>
  if r3 = 0 then
  xbd (f_c_X2_byteAt τ.1 x0 ((cI τ3 302 x0) - 1) τ3) fun r4 τ4 =>
  xbd (f_c_X0_isDigit τ.1 r4 τ4) fun r5 τ5 =>
  if r5 = 0 then
  some ((.inl (), (τ.1, τ5)))
  else
  Jc_X2_parted_32 x0 (τ.1, τ5)
  else
  Jc_X2_parted_32 x0 (τ.1, τ3)
  else none
theorem ok_f_x_X2_parted {D : CD} {P : CP} {K : xK} (hno : xNoT K) {Z : (Option Value ⊕ Nat) × CS} {x0 : Nat} {τ : CS} {o_ : ((Unit ⊕ Nat) × CS)} (hf : f_x_X2_parted x0 τ = some o_) (kr : ∀ r_ : ((Unit ⊕ Nat) × CS), o_ = r_ → Z = (xzV r_.1, r_.2)) : xV (wC D P) K mX2_parted (xQX (wC D P) K Z) τ 0 [(0, .ref x0)] [] := by
  unfold f_x_X2_parted at hf
  refine xr_aload_n (pc := 0) 0 dX2_parted_0 rfl rfl ?_
  refine xr_aload_n (pc := 1) 0 dX2_parted_1 rfl rfl ?_
  obtain ⟨ht1, hf⟩ := xo_if hf
  refine yc_getI (pc := 2) 3 2 302 (gKo ht1 (by decide)) (by decide) (by decide) (by decide) rfl rfl q390 (ys_eq rfl) rfl dX2_parted_2 ?_
  refine xr_iconst (pc := 5) dX2_parted_5 xci_1 ?_
  refine xr_isub (pc := 6) dX2_parted_6 ?_
  obtain ⟨r2, τ2, hτ2, hf⟩ := xo_bd hf
  refine call_f_c_X2_byteAt_X2_39 (pc := 7) hτ2 (gKo ht1 (by decide)) rfl (Nat.le_of_ble_eq_true rfl) (Nat.le_of_ble_eq_true rfl) (Nat.le_of_ble_eq_true rfl) dX2_parted_7 ?_
  obtain ⟨r3, τ3, hτ3, hf⟩ := xo_bd hf
  refine call_f_c_X0_isLetter_X2_51 (pc := 10) hτ3 rfl (Nat.le_of_ble_eq_true rfl) (Nat.le_of_ble_eq_true rfl) (Nat.le_of_ble_eq_true rfl) dX2_parted_10 ?_
  refine xr_if_ne (pc := 13) 32 dX2_parted_13 (by decide) (fun c_ => ?_) (fun c_ => ?_)
  · have hf := xo_pos c_ hf
    refine xr_aload_n (pc := 16) 0 dX2_parted_16 rfl rfl ?_
    refine xr_aload_n (pc := 17) 0 dX2_parted_17 rfl rfl ?_
    refine yc_getI (pc := 18) 3 2 302 (gKo ht1 (by decide)) (by decide) (by decide) (by decide) rfl rfl q390 (ys_eq rfl) rfl dX2_parted_18 ?_
    refine xr_iconst (pc := 21) dX2_parted_21 xci_1 ?_
    refine xr_isub (pc := 22) dX2_parted_22 ?_
    obtain ⟨r4, τ4, hτ4, hf⟩ := xo_bd hf
    refine call_f_c_X2_byteAt_X2_39 (pc := 23) hτ4 (gKo ht1 (by decide)) rfl (Nat.le_of_ble_eq_true rfl) (Nat.le_of_ble_eq_true rfl) (Nat.le_of_ble_eq_true rfl) dX2_parted_23 ?_
    obtain ⟨r5, τ5, hτ5, hf⟩ := xo_bd hf
    refine call_f_c_X0_isDigit_X2_55 (pc := 26) hτ5 rfl (Nat.le_of_ble_eq_true rfl) (Nat.le_of_ble_eq_true rfl) (Nat.le_of_ble_eq_true rfl) dX2_parted_26 ?_
    refine xr_if_eq (pc := 29) 42 dX2_parted_29 (by decide) (fun c_ => ?_) (fun c_ => ?_)
    · have hf := xo_pos c_ hf
      rw [kr _ (Option.some.inj hf).symm]
      exact xV_ret (xr_vret (pc := 42) dX2_parted_42 rfl)
    · have hf := xo_neg c_ hf
      exact ok_Jc_X2_parted_32 hno hf kr
  · have hf := xo_neg c_ hf
    exact ok_Jc_X2_parted_32 hno hf kr
theorem met_f_x_X2_parted (l : Launch) {D : CD} {P : CP} {x0 : Nat} {τ : CS} {o_ : ((Unit ⊕ Nat) × CS)} (hf : f_x_X2_parted x0 τ = some o_) : xMetX (wC D P) l yX2_parted (ws_ yX2_parted cX2_parted 1 none) 1 60 (grc τ.1) (grs τ.1) [.ref x0] τ (xzV o_.1, o_.2) := 
  xMetX_of (by decide) (Nat.le_of_ble_eq_true rfl) KC_moved (RPC_of (g := τ.1) (c := τ.2)) (fun K _ _ _ hno => ok_f_x_X2_parted hno hf (fun _ h => by rw [h]))
abbrev mX2_must : xM := (cX2_must, 2, RX2, 2, 120, none, "must")
def f_x_X2_must (x0 : Nat) (x1 : Int32) (τ : CS) : Option ((Unit ⊕ Nat) × CS) :=
  if gT τ.1 x0 = 3 then
  xbd (f_c_X2_here τ.1 x0 τ.2) fun r2 τ2 =>
  if r2 = x1 then
  some ((.inl (), (τ.1, uI τ2 302 x0 ((cI τ2 302 x0) + 1))))
  else
  xbd (f_c_X2_wrong τ.1 x0 1 (cI τ2 302 x0) τ2) fun r3 τ3 =>
  if gT τ.1 r3 = 4 then
  some ((.inr r3, (τ.1, τ3)))
  else none
  else none
theorem ok_f_x_X2_must {D : CD} {P : CP} {K : xK} (hno : xNoT K) {Z : (Option Value ⊕ Nat) × CS} {x0 : Nat} {x1 : Int32} {τ : CS} {o_ : ((Unit ⊕ Nat) × CS)} (hf : f_x_X2_must x0 x1 τ = some o_) (kr : ∀ r_ : ((Unit ⊕ Nat) × CS), o_ = r_ → Z = (xzV r_.1, r_.2)) : xV (wC D P) K mX2_must (xQX (wC D P) K Z) τ 0 [(0, .ref x0), (1, .int x1)] [] := by
  unfold f_x_X2_must at hf
  refine xr_aload_n (pc := 0) 0 dX2_must_0 rfl rfl ?_
  obtain ⟨ht1, hf⟩ := xo_if hf
  obtain ⟨r2, τ2, hτ2, hf⟩ := xo_bd hf
  refine call_f_c_X2_here_X2_43 (pc := 1) hτ2 (gKo ht1 (by decide)) rfl (Nat.le_of_ble_eq_true rfl) (Nat.le_of_ble_eq_true rfl) (Nat.le_of_ble_eq_true rfl) dX2_must_1 ?_
  refine xr_iload_n (pc := 4) 1 dX2_must_4 rfl rfl ?_
  refine xr_icmp_eq (pc := 5) 18 dX2_must_5 (by decide) (fun c_ => ?_) (fun c_ => ?_)
  · have hf := xo_pos c_ hf
    refine xr_aload_n (pc := 18) 0 dX2_must_18 rfl rfl ?_
    refine xr_dup (pc := 19) dX2_must_19 rfl ?_
    refine yc_getI (pc := 20) 3 2 302 (gKo ht1 (by decide)) (by decide) (by decide) (by decide) rfl rfl q390 (ys_eq rfl) rfl dX2_must_20 ?_
    refine xr_iconst (pc := 23) dX2_must_23 xci_1 ?_
    refine xr_iadd (pc := 24) dX2_must_24 ?_
    refine yc_putI (pc := 25) 3 2 302 ht1 (by decide) (by decide) (by decide) rfl rfl rfl (ty := .int) (by decide +kernel) rfl rfl q390 (ys_eq rfl) rfl dX2_must_25 ?_
    rw [kr _ (Option.some.inj hf).symm]
    exact xV_ret (xr_vret (pc := 28) dX2_must_28 rfl)
  · have hf := xo_neg c_ hf
    refine xr_aload_n (pc := 8) 0 dX2_must_8 rfl rfl ?_
    refine xr_iconst (pc := 9) dX2_must_9 xci_1 ?_
    refine xr_aload_n (pc := 10) 0 dX2_must_10 rfl rfl ?_
    refine yc_getI (pc := 11) 3 2 302 (gKo ht1 (by decide)) (by decide) (by decide) (by decide) rfl rfl q390 (ys_eq rfl) rfl dX2_must_11 ?_
    obtain ⟨r3, τ3, hτ3, hf⟩ := xo_bd hf
    refine call_f_c_X2_wrong_X2_47 (pc := 14) hτ3 (gKo ht1 (by decide)) rfl (Nat.le_of_ble_eq_true rfl) (Nat.le_of_ble_eq_true rfl) (Nat.le_of_ble_eq_true rfl) dX2_must_14 ?_
    obtain ⟨ht4, hf⟩ := xo_if hf
    rw [kr _ (Option.some.inj hf).symm]
    exact yc_athrow (pc := 17) (gKo ht4 (by decide)) (by decide) (by decide) rfl dX2_must_17 (xT_out hno)
theorem met_f_x_X2_must (l : Launch) {D : CD} {P : CP} {x0 : Nat} {x1 : Int32} {τ : CS} {o_ : ((Unit ⊕ Nat) × CS)} (hf : f_x_X2_must x0 x1 τ = some o_) : xMetX (wC D P) l yX2_must (ws_ yX2_must cX2_must 2 none) 2 120 (grc τ.1) (grs τ.1) [.ref x0, .int x1] τ (xzV o_.1, o_.2) := 
  xMetX_of (by decide) (Nat.le_of_ble_eq_true rfl) KC_moved (RPC_of (g := τ.1) (c := τ.2)) (fun K _ _ _ hno => ok_f_x_X2_must hno hf (fun _ h => by rw [h]))
theorem hd_f_x_X2_parted : yX2_parted.cls ≠ "java/lang/invoke/MethodHandle" ∧ yX2_parted.cls ≠ "java/lang/invoke/VarHandle" ∧ (parseMethodDescriptor yX2_parted.desc).map (fun d => d.parameters.length) = some 0 := by decide +kernel
theorem call_f_x_X2_parted_X2_58_r {D : CD} {P : CP} {K : xK} {M : xM} {Q : State → Prop} {τ τ1 : CS} {x0 : Nat} {pc : Nat} {loc : List (Nat × Value)} {st : List Value} (hf : f_x_X2_parted x0 τ = some (.inl (), τ1)) (hr : gK τ.1 x0 = 3) (ho : M.2.2.1 = RX2) (hfr : 2 ≤ M.2.2.2.1) (hlo : 80 ≤ M.2.2.2.2.1) (hcat : (st.map fun v => v.category).sum ≤ 8) (d : decode M.1 pc = .ok (.invokevirtual 58, 3)) (k : xV (wC D P) K M Q τ1 (pc + 3) loc st) : xV (wC D P) K M Q τ pc loc (.ref x0 :: st) :=
  yc_callVX (g := τ.1) (c := τ.2) (Z := (.inl none, τ1)) (As := []) (rest := st) (met_f_x_X2_parted K.2.1 hf) (lw_V q617 q619 qs9 q179 q620) ⟨rfl, hd_f_x_X2_parted⟩ ho hfr hlo rfl hr (by decide) (by decide) rfl rfl hcat d (yx_ret (v := none) k) yx_noT
theorem call_f_x_X2_parted_X2_58_t {D : CD} {P : CP} {K : xK} {M : xM} {Q : State → Prop} {τ τ1 : CS} {x0 : Nat} {pc : Nat} {loc : List (Nat × Value)} {st : List Value} {q : Nat} (hf : f_x_X2_parted x0 τ = some (.inr q, τ1)) (hr : gK τ.1 x0 = 3) (ho : M.2.2.1 = RX2) (hfr : 2 ≤ M.2.2.2.1) (hlo : 80 ≤ M.2.2.2.2.1) (hcat : (st.map fun v => v.category).sum ≤ 8) (d : decode M.1 pc = .ok (.invokevirtual 58, 3)) (k : xT (wC D P) K M Q τ1 pc loc q) : xV (wC D P) K M Q τ pc loc (.ref x0 :: st) :=
  yc_callVX (g := τ.1) (c := τ.2) (Z := (.inr q, τ1)) (As := []) (rest := st) (met_f_x_X2_parted K.2.1 hf) (lw_V q617 q619 qs9 q179 q620) ⟨rfl, hd_f_x_X2_parted⟩ ho hfr hlo rfl hr (by decide) (by decide) rfl rfl hcat d yx_noR (yx_thr k)
theorem call_f_c_X0_is_X2_89 {D : CD} {P : CP} {K : xK} {M : xM} {Q : State → Prop} {g : CG} {c : CC} {x0 : Int32} {x1 : Int32} {x2 : Int32} {pc : Nat} {loc : List (Nat × Value)} {st : List Value} {r : Int32} {c1 : CC} (hf : f_c_X0_is g x0 x1 x2 c = some (r, c1)) (ho : M.2.2.1 = RX2) (hfr : 1 ≤ M.2.2.2.1) (hlo : 22 ≤ M.2.2.2.2.1) (hcat : (st.map fun v => v.category).sum ≤ 8) (d : decode M.1 pc = .ok (.invokestatic 89, 3)) (k : xV (wC D P) K M Q (g, c1) (pc + 3) loc (.int r :: st)) : xV (wC D P) K M Q (g, c) pc loc (.int x2 :: .int x1 :: .int x0 :: st) :=
  yc_callSN (As := [.int x0, .int x1, .int x2]) (rest := st) (met_f_c_X0_is K.2.1 hf) (lw_meth q715) q713 q714 q174 hd_f_c_X0_is ho hfr hlo rfl rfl hcat d k
abbrev mX2_number : xM := (cX2_number, 4, RX2, 2, 120, (some .int), "number")
def Bc_X2_number_34 (x0 : Nat) (x1 : Int32) (x2 : Int32) (x3 : Int32) (τ : CS) : Option ((Int32 × CS) ⊕ ((Int32 × CS) ⊕ (CS))) :=
  if gT τ.1 x0 = 3 then
  xbd (f_c_X2_byteAt τ.1 x0 (cI τ.2 302 x0) τ.2) fun r9 τ9 =>
  xbd (f_c_X0_isDigit τ.1 r9 τ9) fun r10 τ10 =>
  if r10 = 0 then
  some (.inr (.inl (x3, (τ.1, τ10))))
  else
  if ((cI τ10 302 x0) - (cI τ10 303 x0)) = 4 then
  some (.inr (.inr (τ.1, τ10)))
  else
  xbd (f_c_X2_byteAt τ.1 x0 (cI τ10 302 x0) τ10) fun r11 τ11 =>
  some (.inl (((10 * x3) + r11) - 48, (τ.1, uI τ11 302 x0 ((cI τ11 302 x0) + 1))))
  else none
theorem ok_Bc_X2_number_34 {D : CD} {P : CP} {K : xK} (hno : xNoT K) {Z : (Option Value ⊕ Nat) × CS} {x0 : Nat} {x1 : Int32} {x2 : Int32} {x3 : Int32} {τ : CS} {o_ : ((Int32 × CS) ⊕ ((Int32 × CS) ⊕ (CS)))} (hf : Bc_X2_number_34 x0 x1 x2 x3 τ = some o_) (kc : ∀ s_ : Int32 × CS, o_ = .inl s_ → xV (wC D P) K mX2_number (xQX (wC D P) K Z) s_.2 34 [(0, .ref x0), (1, .int x1), (2, .int x2), (3, .int s_.1)] []) (ke0 : ∀ e_ : Int32 × CS, o_ = .inr (.inl e_) → xV (wC D P) K mX2_number (xQX (wC D P) K Z) e_.2 101 [(0, .ref x0), (1, .int x1), (2, .int x2), (3, .int e_.1)] []) (ke1 : ∀ e_ : CS, o_ = .inr (.inr e_) → xV (wC D P) K mX2_number (xQX (wC D P) K Z) e_ 61 [(0, .ref x0)] []) : xV (wC D P) K mX2_number (xQX (wC D P) K Z) τ 34 [(0, .ref x0), (1, .int x1), (2, .int x2), (3, .int x3)] [] := by
  unfold Bc_X2_number_34 at hf
  refine xr_aload_n (pc := 34) 0 dX2_number_34 rfl rfl ?_
  refine xr_aload_n (pc := 35) 0 dX2_number_35 rfl rfl ?_
  obtain ⟨ht8, hf⟩ := xo_if hf
  refine yc_getI (pc := 36) 3 2 302 (gKo ht8 (by decide)) (by decide) (by decide) (by decide) rfl rfl q390 (ys_eq rfl) rfl dX2_number_36 ?_
  obtain ⟨r9, τ9, hτ9, hf⟩ := xo_bd hf
  refine call_f_c_X2_byteAt_X2_39 (pc := 39) hτ9 (gKo ht8 (by decide)) rfl (Nat.le_of_ble_eq_true rfl) (Nat.le_of_ble_eq_true rfl) (Nat.le_of_ble_eq_true rfl) dX2_number_39 ?_
  obtain ⟨r10, τ10, hτ10, hf⟩ := xo_bd hf
  refine call_f_c_X0_isDigit_X2_55 (pc := 42) hτ10 rfl (Nat.le_of_ble_eq_true rfl) (Nat.le_of_ble_eq_true rfl) (Nat.le_of_ble_eq_true rfl) dX2_number_42 ?_
  refine xr_if_eq (pc := 45) 101 dX2_number_45 (by decide) (fun c_ => ?_) (fun c_ => ?_)
  · have hf := xo_pos c_ hf
    exact ke0 _ (Option.some.inj hf).symm
  · have hf := xo_neg c_ hf
    refine xr_aload_n (pc := 48) 0 dX2_number_48 rfl rfl ?_
    refine yc_getI (pc := 49) 3 2 302 (gKo ht8 (by decide)) (by decide) (by decide) (by decide) rfl rfl q390 (ys_eq rfl) rfl dX2_number_49 ?_
    refine xr_aload_n (pc := 52) 0 dX2_number_52 rfl rfl ?_
    refine yc_getI (pc := 53) 3 3 303 (gKo ht8 (by decide)) (by decide) (by decide) (by decide) rfl rfl q391 (ys_eq rfl) rfl dX2_number_53 ?_
    refine xr_isub (pc := 56) dX2_number_56 ?_
    refine xr_iconst (pc := 57) dX2_number_57 xci_4 ?_
    refine xr_icmp_ne (pc := 58) 71 dX2_number_58 (by decide) (fun c_ => ?_) (fun c_ => ?_)
    · have hf := xo_pos c_ hf
      refine xV_sub [0] rfl ?_
      exact ke1 _ (Option.some.inj hf).symm
    · have hf := xo_neg c_ hf
      refine xr_bipush (pc := 71) dX2_number_71 xcb_10 ?_
      refine xr_iload_n (pc := 73) 3 dX2_number_73 rfl rfl ?_
      refine xr_imul (pc := 74) dX2_number_74 ?_
      refine xr_aload_n (pc := 75) 0 dX2_number_75 rfl rfl ?_
      refine xr_aload_n (pc := 76) 0 dX2_number_76 rfl rfl ?_
      refine yc_getI (pc := 77) 3 2 302 (gKo ht8 (by decide)) (by decide) (by decide) (by decide) rfl rfl q390 (ys_eq rfl) rfl dX2_number_77 ?_
      obtain ⟨r11, τ11, hτ11, hf⟩ := xo_bd hf
      refine call_f_c_X2_byteAt_X2_39 (pc := 80) hτ11 (gKo ht8 (by decide)) rfl (Nat.le_of_ble_eq_true rfl) (Nat.le_of_ble_eq_true rfl) (Nat.le_of_ble_eq_true rfl) dX2_number_80 ?_
      refine xr_iadd (pc := 83) dX2_number_83 ?_
      refine xr_bipush (pc := 84) dX2_number_84 xcb_48 ?_
      refine xr_isub (pc := 86) dX2_number_86 ?_
      refine xr_istore_n (pc := 87) (loc' := [(3, .int (((10 * x3) + r11) - 48)), (0, .ref x0), (1, .int x1), (2, .int x2)]) dX2_number_87 rfl (by decide) rfl ?_
      refine xr_aload_n (pc := 88) 1 dX2_number_88 rfl rfl ?_
      refine xr_dup (pc := 89) dX2_number_89 rfl ?_
      refine yc_getI (pc := 90) 3 2 302 (gKo ht8 (by decide)) (by decide) (by decide) (by decide) rfl rfl q390 (ys_eq rfl) rfl dX2_number_90 ?_
      refine xr_iconst (pc := 93) dX2_number_93 xci_1 ?_
      refine xr_iadd (pc := 94) dX2_number_94 ?_
      refine yc_putI (pc := 95) 3 2 302 ht8 (by decide) (by decide) (by decide) rfl rfl rfl (ty := .int) (by decide +kernel) rfl rfl q390 (ys_eq rfl) rfl dX2_number_95 ?_
      refine xr_goto (pc := 98) 34 dX2_number_98 (by decide) ?_
      refine xV_sub [1, 2, 3, 0] rfl ?_
      exact kc _ (Option.some.inj hf).symm
def f_x_X2_number (x0 : Nat) (x1 : Int32) (x2 : Int32) (τ : CS) : Option ((Int32 ⊕ Nat) × CS) :=
  if gT τ.1 x0 = 3 then
  xbd (f_c_X2_here τ.1 x0 τ.2) fun r2 τ2 =>
  xbd (f_c_X0_isDigit τ.1 r2 τ2) fun r3 τ3 =>
  if r3 = 0 then
  xbd (f_c_X2_wrong τ.1 x0 1 (cI τ3 302 x0) τ3) fun r4 τ4 =>
  if gT τ.1 r4 = 4 then
  some ((.inr r4, (τ.1, τ4)))
  else none
  else
  xbx (f_x_X2_parted x0 (τ.1, τ3)) (fun r6 τ6 =>
  if gT τ6.1 x0 = 3 then
  (itr (fun s_ : Int32 × CS => Bc_X2_number_34 x0 x1 x2 s_.1 s_.2) 4096 (0, (τ6.1, uI τ6.2 303 x0 (cI τ6.2 302 x0)))).bind fun b12 =>
  (Sum.elim (fun e13 => xbd (f_c_X0_is e13.2.1 e13.1 x1 x2 e13.2.2) fun r15 τ15 =>
  if r15 = 0 then
  if gT e13.2.1 x0 = 3 then
  xbd (f_c_X2_wrong e13.2.1 x0 2 (cI τ15 303 x0) τ15) fun r17 τ17 =>
  if gT e13.2.1 r17 = 4 then
  some ((.inr r17, (e13.2.1, τ17)))
  else none
  else none
  else
  some ((.inl e13.1, (e13.2.1, τ15)))) (fun e14 => if gT e14.1 x0 = 3 then
  xbd (f_c_X2_wrong e14.1 x0 1 (cI e14.2 302 x0) e14.2) fun r20 τ20 =>
  if gT e14.1 r20 = 4 then
  some ((.inr r20, (e14.1, τ20)))
  else none
  else none)) b12
  else none) (fun q22 τ22 => some ((.inr q22, τ22)))
  else none
theorem ok_f_x_X2_number {D : CD} {P : CP} {K : xK} (hno : xNoT K) {Z : (Option Value ⊕ Nat) × CS} {x0 : Nat} {x1 : Int32} {x2 : Int32} {τ : CS} {o_ : ((Int32 ⊕ Nat) × CS)} (hf : f_x_X2_number x0 x1 x2 τ = some o_) (kr : ∀ r_ : ((Int32 ⊕ Nat) × CS), o_ = r_ → Z = (xzI r_.1, r_.2)) : xV (wC D P) K mX2_number (xQX (wC D P) K Z) τ 0 [(0, .ref x0), (1, .int x1), (2, .int x2)] [] := by
  unfold f_x_X2_number at hf
  refine xr_aload_n (pc := 0) 0 dX2_number_0 rfl rfl ?_
  obtain ⟨ht1, hf⟩ := xo_if hf
  obtain ⟨r2, τ2, hτ2, hf⟩ := xo_bd hf
  refine call_f_c_X2_here_X2_43 (pc := 1) hτ2 (gKo ht1 (by decide)) rfl (Nat.le_of_ble_eq_true rfl) (Nat.le_of_ble_eq_true rfl) (Nat.le_of_ble_eq_true rfl) dX2_number_1 ?_
  obtain ⟨r3, τ3, hτ3, hf⟩ := xo_bd hf
  refine call_f_c_X0_isDigit_X2_55 (pc := 4) hτ3 rfl (Nat.le_of_ble_eq_true rfl) (Nat.le_of_ble_eq_true rfl) (Nat.le_of_ble_eq_true rfl) dX2_number_4 ?_
  refine xr_if_ne (pc := 7) 20 dX2_number_7 (by decide) (fun c_ => ?_) (fun c_ => ?_)
  · have hf := xo_pos c_ hf
    refine xr_aload_n (pc := 10) 0 dX2_number_10 rfl rfl ?_
    refine xr_iconst (pc := 11) dX2_number_11 xci_1 ?_
    refine xr_aload_n (pc := 12) 0 dX2_number_12 rfl rfl ?_
    refine yc_getI (pc := 13) 3 2 302 (gKo ht1 (by decide)) (by decide) (by decide) (by decide) rfl rfl q390 (ys_eq rfl) rfl dX2_number_13 ?_
    obtain ⟨r4, τ4, hτ4, hf⟩ := xo_bd hf
    refine call_f_c_X2_wrong_X2_47 (pc := 16) hτ4 (gKo ht1 (by decide)) rfl (Nat.le_of_ble_eq_true rfl) (Nat.le_of_ble_eq_true rfl) (Nat.le_of_ble_eq_true rfl) dX2_number_16 ?_
    obtain ⟨ht5, hf⟩ := xo_if hf
    rw [kr _ (Option.some.inj hf).symm]
    exact yc_athrow (pc := 19) (gKo ht5 (by decide)) (by decide) (by decide) rfl dX2_number_19 (xT_out hno)
  · have hf := xo_neg c_ hf
    refine xr_aload_n (pc := 20) 0 dX2_number_20 rfl rfl ?_
    rcases xo_bx hf with ⟨r6, τ6, hτ6, hf⟩ | ⟨q22, τ22, hτ22, hf⟩
    · refine call_f_x_X2_parted_X2_58_r (pc := 21) hτ6 (gKo ht1 (by decide)) rfl (Nat.le_of_ble_eq_true rfl) (Nat.le_of_ble_eq_true rfl) (Nat.le_of_ble_eq_true rfl) dX2_number_21 ?_
      refine xr_aload_n (pc := 24) 0 dX2_number_24 rfl rfl ?_
      refine xr_aload_n (pc := 25) 0 dX2_number_25 rfl rfl ?_
      obtain ⟨ht7, hf⟩ := xo_if hf
      refine yc_getI (pc := 26) 3 2 302 (gKo ht7 (by decide)) (by decide) (by decide) (by decide) rfl rfl q390 (ys_eq rfl) rfl dX2_number_26 ?_
      refine yc_putI (pc := 29) 3 3 303 ht7 (by decide) (by decide) (by decide) rfl rfl rfl (ty := .int) (by decide +kernel) rfl rfl q391 (ys_eq rfl) rfl dX2_number_29 ?_
      refine xr_iconst (pc := 32) dX2_number_32 xci_0 ?_
      refine xr_istore_n (pc := 33) (loc' := [(3, .int 0), (0, .ref x0), (1, .int x1), (2, .int x2)]) dX2_number_33 rfl (by decide) rfl ?_
      refine xV_sub [1, 2, 3, 0] rfl ?_
      obtain ⟨b12, hb12, hf⟩ := xo_bind hf
      refine itr_rule (P := fun s_ : Int32 × CS => xV (wC D P) K mX2_number (xQX (wC D P) K Z) s_.2 34 [(0, .ref x0), (1, .int x1), (2, .int x2), (3, .int s_.1)] []) (fun s_ o_ hB_ hc_ he_ => ok_Bc_X2_number_34 hno hB_ hc_ (fun e13 h_ => ?_) (fun e14 h_ => ?_)) 4096 _ hb12
      · have e9_ := he_ _ h_
        subst e9_
        have hf := xo_inl hf
        refine xr_iload_n (pc := 101) 3 dX2_number_101 rfl rfl ?_
        refine xr_iload_n (pc := 102) 1 dX2_number_102 rfl rfl ?_
        refine xr_iload_n (pc := 103) 2 dX2_number_103 rfl rfl ?_
        obtain ⟨r15, τ15, hτ15, hf⟩ := xo_bd hf
        refine call_f_c_X0_is_X2_89 (pc := 104) hτ15 rfl (Nat.le_of_ble_eq_true rfl) (Nat.le_of_ble_eq_true rfl) (Nat.le_of_ble_eq_true rfl) dX2_number_104 ?_
        refine xr_if_ne (pc := 107) 120 dX2_number_107 (by decide) (fun c_ => ?_) (fun c_ => ?_)
        · have hf := xo_pos c_ hf
          refine xr_aload_n (pc := 110) 0 dX2_number_110 rfl rfl ?_
          refine xr_iconst (pc := 111) dX2_number_111 xci_2 ?_
          refine xr_aload_n (pc := 112) 0 dX2_number_112 rfl rfl ?_
          obtain ⟨ht16, hf⟩ := xo_if hf
          refine yc_getI (pc := 113) 3 3 303 (gKo ht16 (by decide)) (by decide) (by decide) (by decide) rfl rfl q391 (ys_eq rfl) rfl dX2_number_113 ?_
          obtain ⟨r17, τ17, hτ17, hf⟩ := xo_bd hf
          refine call_f_c_X2_wrong_X2_47 (pc := 116) hτ17 (gKo ht16 (by decide)) rfl (Nat.le_of_ble_eq_true rfl) (Nat.le_of_ble_eq_true rfl) (Nat.le_of_ble_eq_true rfl) dX2_number_116 ?_
          obtain ⟨ht18, hf⟩ := xo_if hf
          rw [kr _ (Option.some.inj hf).symm]
          exact yc_athrow (pc := 119) (gKo ht18 (by decide)) (by decide) (by decide) rfl dX2_number_119 (xT_out hno)
        · have hf := xo_neg c_ hf
          refine xr_iload_n (pc := 120) 3 dX2_number_120 rfl rfl ?_
          rw [kr _ (Option.some.inj hf).symm]
          exact xV_ret (xr_iret (pc := 121) dX2_number_121 rfl)
      · have e9_ := he_ _ h_
        subst e9_
        have hf := xo_inr hf
        refine xr_aload_n (pc := 61) 0 dX2_number_61 rfl rfl ?_
        refine xr_iconst (pc := 62) dX2_number_62 xci_1 ?_
        refine xr_aload_n (pc := 63) 0 dX2_number_63 rfl rfl ?_
        obtain ⟨ht19, hf⟩ := xo_if hf
        refine yc_getI (pc := 64) 3 2 302 (gKo ht19 (by decide)) (by decide) (by decide) (by decide) rfl rfl q390 (ys_eq rfl) rfl dX2_number_64 ?_
        obtain ⟨r20, τ20, hτ20, hf⟩ := xo_bd hf
        refine call_f_c_X2_wrong_X2_47 (pc := 67) hτ20 (gKo ht19 (by decide)) rfl (Nat.le_of_ble_eq_true rfl) (Nat.le_of_ble_eq_true rfl) (Nat.le_of_ble_eq_true rfl) dX2_number_67 ?_
        obtain ⟨ht21, hf⟩ := xo_if hf
        rw [kr _ (Option.some.inj hf).symm]
        exact yc_athrow (pc := 70) (gKo ht21 (by decide)) (by decide) (by decide) rfl dX2_number_70 (xT_out hno)
    · refine call_f_x_X2_parted_X2_58_t (pc := 21) hτ22 (gKo ht1 (by decide)) rfl (Nat.le_of_ble_eq_true rfl) (Nat.le_of_ble_eq_true rfl) (Nat.le_of_ble_eq_true rfl) dX2_number_21 ?_
      rw [kr _ (Option.some.inj hf).symm]
      exact xT_out hno
theorem met_f_x_X2_number (l : Launch) {D : CD} {P : CP} {x0 : Nat} {x1 : Int32} {x2 : Int32} {τ : CS} {o_ : ((Int32 ⊕ Nat) × CS)} (hf : f_x_X2_number x0 x1 x2 τ = some o_) : xMetX (wC D P) l yX2_number (ws_ yX2_number cX2_number 4 (some .int)) 2 120 (grc τ.1) (grs τ.1) [.ref x0, .int x1, .int x2] τ (xzI o_.1, o_.2) := 
  xMetX_of (by decide) (Nat.le_of_ble_eq_true rfl) KC_moved (RPC_of (g := τ.1) (c := τ.2)) (fun K _ _ _ hno => ok_f_x_X2_number hno hf (fun _ h => by rw [h]))
abbrev mX2_most : xM := (cX2_most, 3, RX2, 1, 60, none, "most")
def f_x_X2_most (x0 : Nat) (x1 : Int32) (x2 : Int32) (τ : CS) : Option ((Unit ⊕ Nat) × CS) :=
  if x1 = 0 then
  some ((.inl (), τ))
  else
  if gT τ.1 x0 = 3 then
  xbd (f_c_X2_wrong τ.1 x0 5 x2 τ.2) fun r2 τ2 =>
  if gT τ.1 r2 = 4 then
  some ((.inr r2, (τ.1, τ2)))
  else none
  else none
theorem ok_f_x_X2_most {D : CD} {P : CP} {K : xK} (hno : xNoT K) {Z : (Option Value ⊕ Nat) × CS} {x0 : Nat} {x1 : Int32} {x2 : Int32} {τ : CS} {o_ : ((Unit ⊕ Nat) × CS)} (hf : f_x_X2_most x0 x1 x2 τ = some o_) (kr : ∀ r_ : ((Unit ⊕ Nat) × CS), o_ = r_ → Z = (xzV r_.1, r_.2)) : xV (wC D P) K mX2_most (xQX (wC D P) K Z) τ 0 [(0, .ref x0), (1, .int x1), (2, .int x2)] [] := by
  unfold f_x_X2_most at hf
  refine xr_iload_n (pc := 0) 1 dX2_most_0 rfl rfl ?_
  refine xr_if_eq (pc := 1) 11 dX2_most_1 (by decide) (fun c_ => ?_) (fun c_ => ?_)
  · have hf := xo_pos c_ hf
    rw [kr _ (Option.some.inj hf).symm]
    exact xV_ret (xr_vret (pc := 11) dX2_most_11 rfl)
  · have hf := xo_neg c_ hf
    refine xr_aload_n (pc := 4) 0 dX2_most_4 rfl rfl ?_
    refine xr_iconst (pc := 5) dX2_most_5 xci_5 ?_
    refine xr_iload_n (pc := 6) 2 dX2_most_6 rfl rfl ?_
    obtain ⟨ht1, hf⟩ := xo_if hf
    obtain ⟨r2, τ2, hτ2, hf⟩ := xo_bd hf
    refine call_f_c_X2_wrong_X2_47 (pc := 7) hτ2 (gKo ht1 (by decide)) rfl (Nat.le_of_ble_eq_true rfl) (Nat.le_of_ble_eq_true rfl) (Nat.le_of_ble_eq_true rfl) dX2_most_7 ?_
    obtain ⟨ht3, hf⟩ := xo_if hf
    rw [kr _ (Option.some.inj hf).symm]
    exact yc_athrow (pc := 10) (gKo ht3 (by decide)) (by decide) (by decide) rfl dX2_most_10 (xT_out hno)
theorem met_f_x_X2_most (l : Launch) {D : CD} {P : CP} {x0 : Nat} {x1 : Int32} {x2 : Int32} {τ : CS} {o_ : ((Unit ⊕ Nat) × CS)} (hf : f_x_X2_most x0 x1 x2 τ = some o_) : xMetX (wC D P) l yX2_most (ws_ yX2_most cX2_most 3 none) 1 60 (grc τ.1) (grs τ.1) [.ref x0, .int x1, .int x2] τ (xzV o_.1, o_.2) := 
  xMetX_of (by decide) (Nat.le_of_ble_eq_true rfl) KC_moved (RPC_of (g := τ.1) (c := τ.2)) (fun K _ _ _ hno => ok_f_x_X2_most hno hf (fun _ h => by rw [h]))
theorem hd_f_x_X2_number : yX2_number.cls ≠ "java/lang/invoke/MethodHandle" ∧ yX2_number.cls ≠ "java/lang/invoke/VarHandle" ∧ (parseMethodDescriptor yX2_number.desc).map (fun d => d.parameters.length) = some 2 := by decide +kernel
theorem call_f_x_X2_number_X2_96_r {D : CD} {P : CP} {K : xK} {M : xM} {Q : State → Prop} {τ τ1 : CS} {x0 : Nat} {x1 : Int32} {x2 : Int32} {pc : Nat} {loc : List (Nat × Value)} {st : List Value} {r : Int32} (hf : f_x_X2_number x0 x1 x2 τ = some (.inl r, τ1)) (hr : gK τ.1 x0 = 3) (ho : M.2.2.1 = RX2) (hfr : 3 ≤ M.2.2.2.1) (hlo : 143 ≤ M.2.2.2.2.1) (hcat : (st.map fun v => v.category).sum ≤ 8) (d : decode M.1 pc = .ok (.invokevirtual 96, 3)) (k : xV (wC D P) K M Q τ1 (pc + 3) loc (.int r :: st)) : xV (wC D P) K M Q τ pc loc (.int x2 :: .int x1 :: .ref x0 :: st) :=
  yc_callVX (g := τ.1) (c := τ.2) (Z := (.inl (some (.int r)), τ1)) (As := [.int x1, .int x2]) (rest := st) (met_f_x_X2_number K.2.1 hf) (lw_V q709 q711 qs10 q179 q712) ⟨rfl, hd_f_x_X2_number⟩ ho hfr hlo rfl hr (by decide) (by decide) rfl rfl hcat d (yx_ret (v := some (.int r)) k) yx_noT
theorem call_f_x_X2_number_X2_96_t {D : CD} {P : CP} {K : xK} {M : xM} {Q : State → Prop} {τ τ1 : CS} {x0 : Nat} {x1 : Int32} {x2 : Int32} {pc : Nat} {loc : List (Nat × Value)} {st : List Value} {q : Nat} (hf : f_x_X2_number x0 x1 x2 τ = some (.inr q, τ1)) (hr : gK τ.1 x0 = 3) (ho : M.2.2.1 = RX2) (hfr : 3 ≤ M.2.2.2.1) (hlo : 143 ≤ M.2.2.2.2.1) (hcat : (st.map fun v => v.category).sum ≤ 8) (d : decode M.1 pc = .ok (.invokevirtual 96, 3)) (k : xT (wC D P) K M Q τ1 pc loc q) : xV (wC D P) K M Q τ pc loc (.int x2 :: .int x1 :: .ref x0 :: st) :=
  yc_callVX (g := τ.1) (c := τ.2) (Z := (.inr q, τ1)) (As := [.int x1, .int x2]) (rest := st) (met_f_x_X2_number K.2.1 hf) (lw_V q709 q711 qs10 q179 q712) ⟨rfl, hd_f_x_X2_number⟩ ho hfr hlo rfl hr (by decide) (by decide) rfl rfl hcat d yx_noR (yx_thr k)
abbrev mX2_column : xM := (cX2_column, 1, RX2, 3, 180, (some .int), "column")
def f_x_X2_column (x0 : Nat) (τ : CS) : Option ((Int32 ⊕ Nat) × CS) :=
  if gT τ.1 x0 = 3 then
  (cR τ.2 306 x0).bind fun b2 =>
  if gT τ.1 b2 = 2 then
  xbx (f_x_X2_number x0 0 ((cI τ.2 201 b2) - 1) τ) (fun r4 τ4 =>
  some ((.inl r4, τ4))) (fun q5 τ5 => some ((.inr q5, τ5)))
  else none
  else none
theorem ok_f_x_X2_column {D : CD} {P : CP} {K : xK} (hno : xNoT K) {Z : (Option Value ⊕ Nat) × CS} {x0 : Nat} {τ : CS} {o_ : ((Int32 ⊕ Nat) × CS)} (hf : f_x_X2_column x0 τ = some o_) (kr : ∀ r_ : ((Int32 ⊕ Nat) × CS), o_ = r_ → Z = (xzI r_.1, r_.2)) : xV (wC D P) K mX2_column (xQX (wC D P) K Z) τ 0 [(0, .ref x0)] [] := by
  unfold f_x_X2_column at hf
  refine xr_aload_n (pc := 0) 0 dX2_column_0 rfl rfl ?_
  refine xr_iconst (pc := 1) dX2_column_1 xci_0 ?_
  refine xr_aload_n (pc := 2) 0 dX2_column_2 rfl rfl ?_
  obtain ⟨ht1, hf⟩ := xo_if hf
  obtain ⟨b2, hb2, hf⟩ := xo_bind hf
  refine yc_getRs (pc := 3) 3 6 306 (gKo ht1 (by decide)) (by decide) (by decide) (by decide) rfl rfl hb2 q394 (ys_eq rfl) rfl dX2_column_3 ?_
  obtain ⟨ht3, hf⟩ := xo_if hf
  refine yc_getIN (pc := 6) 2 1 201 (gKo ht3 (by decide)) (by decide) (by decide) (by decide) rfl rfl q259 (ys_eq rfl) rfl dX2_column_6 ?_
  refine xr_iconst (pc := 9) dX2_column_9 xci_1 ?_
  refine xr_isub (pc := 10) dX2_column_10 ?_
  rcases xo_bx hf with ⟨r4, τ4, hτ4, hf⟩ | ⟨q5, τ5, hτ5, hf⟩
  · refine call_f_x_X2_number_X2_96_r (pc := 11) hτ4 (gKo ht1 (by decide)) rfl (Nat.le_of_ble_eq_true rfl) (Nat.le_of_ble_eq_true rfl) (Nat.le_of_ble_eq_true rfl) dX2_column_11 ?_
    rw [kr _ (Option.some.inj hf).symm]
    exact xV_ret (xr_iret (pc := 14) dX2_column_14 rfl)
  · refine call_f_x_X2_number_X2_96_t (pc := 11) hτ5 (gKo ht1 (by decide)) rfl (Nat.le_of_ble_eq_true rfl) (Nat.le_of_ble_eq_true rfl) (Nat.le_of_ble_eq_true rfl) dX2_column_11 ?_
    rw [kr _ (Option.some.inj hf).symm]
    exact xT_out hno
theorem met_f_x_X2_column (l : Launch) {D : CD} {P : CP} {x0 : Nat} {τ : CS} {o_ : ((Int32 ⊕ Nat) × CS)} (hf : f_x_X2_column x0 τ = some o_) : xMetX (wC D P) l yX2_column (ws_ yX2_column cX2_column 1 (some .int)) 3 180 (grc τ.1) (grs τ.1) [.ref x0] τ (xzI o_.1, o_.2) := 
  xMetX_of (by decide) (Nat.le_of_ble_eq_true rfl) KC_moved (RPC_of (g := τ.1) (c := τ.2)) (fun K _ _ _ hno => ok_f_x_X2_column hno hf (fun _ h => by rw [h]))
abbrev mX2_row : xM := (cX2_row, 1, RX2, 3, 180, (some .int), "row")
def f_x_X2_row (x0 : Nat) (τ : CS) : Option ((Int32 ⊕ Nat) × CS) :=
  if gT τ.1 x0 = 3 then
  (cR τ.2 306 x0).bind fun b2 =>
  if gT τ.1 b2 = 2 then
  xbx (f_x_X2_number x0 0 ((cI τ.2 202 b2) - 1) τ) (fun r4 τ4 =>
  some ((.inl r4, τ4))) (fun q5 τ5 => some ((.inr q5, τ5)))
  else none
  else none
theorem ok_f_x_X2_row {D : CD} {P : CP} {K : xK} (hno : xNoT K) {Z : (Option Value ⊕ Nat) × CS} {x0 : Nat} {τ : CS} {o_ : ((Int32 ⊕ Nat) × CS)} (hf : f_x_X2_row x0 τ = some o_) (kr : ∀ r_ : ((Int32 ⊕ Nat) × CS), o_ = r_ → Z = (xzI r_.1, r_.2)) : xV (wC D P) K mX2_row (xQX (wC D P) K Z) τ 0 [(0, .ref x0)] [] := by
  unfold f_x_X2_row at hf
  refine xr_aload_n (pc := 0) 0 dX2_row_0 rfl rfl ?_
  refine xr_iconst (pc := 1) dX2_row_1 xci_0 ?_
  refine xr_aload_n (pc := 2) 0 dX2_row_2 rfl rfl ?_
  obtain ⟨ht1, hf⟩ := xo_if hf
  obtain ⟨b2, hb2, hf⟩ := xo_bind hf
  refine yc_getRs (pc := 3) 3 6 306 (gKo ht1 (by decide)) (by decide) (by decide) (by decide) rfl rfl hb2 q394 (ys_eq rfl) rfl dX2_row_3 ?_
  obtain ⟨ht3, hf⟩ := xo_if hf
  refine yc_getIN (pc := 6) 2 2 202 (gKo ht3 (by decide)) (by decide) (by decide) (by decide) rfl rfl q262 (ys_eq rfl) rfl dX2_row_6 ?_
  refine xr_iconst (pc := 9) dX2_row_9 xci_1 ?_
  refine xr_isub (pc := 10) dX2_row_10 ?_
  rcases xo_bx hf with ⟨r4, τ4, hτ4, hf⟩ | ⟨q5, τ5, hτ5, hf⟩
  · refine call_f_x_X2_number_X2_96_r (pc := 11) hτ4 (gKo ht1 (by decide)) rfl (Nat.le_of_ble_eq_true rfl) (Nat.le_of_ble_eq_true rfl) (Nat.le_of_ble_eq_true rfl) dX2_row_11 ?_
    rw [kr _ (Option.some.inj hf).symm]
    exact xV_ret (xr_iret (pc := 14) dX2_row_14 rfl)
  · refine call_f_x_X2_number_X2_96_t (pc := 11) hτ5 (gKo ht1 (by decide)) rfl (Nat.le_of_ble_eq_true rfl) (Nat.le_of_ble_eq_true rfl) (Nat.le_of_ble_eq_true rfl) dX2_row_11 ?_
    rw [kr _ (Option.some.inj hf).symm]
    exact xT_out hno
theorem met_f_x_X2_row (l : Launch) {D : CD} {P : CP} {x0 : Nat} {τ : CS} {o_ : ((Int32 ⊕ Nat) × CS)} (hf : f_x_X2_row x0 τ = some o_) : xMetX (wC D P) l yX2_row (ws_ yX2_row cX2_row 1 (some .int)) 3 180 (grc τ.1) (grs τ.1) [.ref x0] τ (xzI o_.1, o_.2) := 
  xMetX_of (by decide) (Nat.le_of_ble_eq_true rfl) KC_moved (RPC_of (g := τ.1) (c := τ.2)) (fun K _ _ _ hno => ok_f_x_X2_row hno hf (fun _ h => by rw [h]))
abbrev mX2_opens : xM := (cX2_opens, 2, RX2, 1, 60, none, "opens")
def f_x_X2_opens (x0 : Nat) (x1 : Int32) (τ : CS) : Option ((Unit ⊕ Nat) × CS) :=
  if gT τ.1 x0 = 3 then
  if (cI τ.2 304 x0) = 6 then
  xbd (f_c_X2_wrong τ.1 x0 4 x1 τ.2) fun r2 τ2 =>
  if gT τ.1 r2 = 4 then
  some ((.inr r2, (τ.1, τ2)))
  else none
  else
  some ((.inl (), (τ.1, uI τ.2 304 x0 ((cI τ.2 304 x0) + 1))))
  else none
theorem ok_f_x_X2_opens {D : CD} {P : CP} {K : xK} (hno : xNoT K) {Z : (Option Value ⊕ Nat) × CS} {x0 : Nat} {x1 : Int32} {τ : CS} {o_ : ((Unit ⊕ Nat) × CS)} (hf : f_x_X2_opens x0 x1 τ = some o_) (kr : ∀ r_ : ((Unit ⊕ Nat) × CS), o_ = r_ → Z = (xzV r_.1, r_.2)) : xV (wC D P) K mX2_opens (xQX (wC D P) K Z) τ 0 [(0, .ref x0), (1, .int x1)] [] := by
  unfold f_x_X2_opens at hf
  refine xr_aload_n (pc := 0) 0 dX2_opens_0 rfl rfl ?_
  obtain ⟨ht1, hf⟩ := xo_if hf
  refine yc_getI (pc := 1) 3 4 304 (gKo ht1 (by decide)) (by decide) (by decide) (by decide) rfl rfl q392 (ys_eq rfl) rfl dX2_opens_1 ?_
  refine xr_bipush (pc := 4) dX2_opens_4 xcb_6 ?_
  refine xr_icmp_ne (pc := 6) 16 dX2_opens_6 (by decide) (fun c_ => ?_) (fun c_ => ?_)
  · have hf := xo_pos c_ hf
    refine xr_aload_n (pc := 9) 0 dX2_opens_9 rfl rfl ?_
    refine xr_iconst (pc := 10) dX2_opens_10 xci_4 ?_
    refine xr_iload_n (pc := 11) 1 dX2_opens_11 rfl rfl ?_
    obtain ⟨r2, τ2, hτ2, hf⟩ := xo_bd hf
    refine call_f_c_X2_wrong_X2_47 (pc := 12) hτ2 (gKo ht1 (by decide)) rfl (Nat.le_of_ble_eq_true rfl) (Nat.le_of_ble_eq_true rfl) (Nat.le_of_ble_eq_true rfl) dX2_opens_12 ?_
    obtain ⟨ht3, hf⟩ := xo_if hf
    rw [kr _ (Option.some.inj hf).symm]
    exact yc_athrow (pc := 15) (gKo ht3 (by decide)) (by decide) (by decide) rfl dX2_opens_15 (xT_out hno)
  · have hf := xo_neg c_ hf
    refine xr_aload_n (pc := 16) 0 dX2_opens_16 rfl rfl ?_
    refine xr_dup (pc := 17) dX2_opens_17 rfl ?_
    refine yc_getI (pc := 18) 3 4 304 (gKo ht1 (by decide)) (by decide) (by decide) (by decide) rfl rfl q392 (ys_eq rfl) rfl dX2_opens_18 ?_
    refine xr_iconst (pc := 21) dX2_opens_21 xci_1 ?_
    refine xr_iadd (pc := 22) dX2_opens_22 ?_
    refine yc_putI (pc := 23) 3 4 304 ht1 (by decide) (by decide) (by decide) rfl rfl rfl (ty := .int) (by decide +kernel) rfl rfl q392 (ys_eq rfl) rfl dX2_opens_23 ?_
    rw [kr _ (Option.some.inj hf).symm]
    exact xV_ret (xr_vret (pc := 26) dX2_opens_26 rfl)
theorem met_f_x_X2_opens (l : Launch) {D : CD} {P : CP} {x0 : Nat} {x1 : Int32} {τ : CS} {o_ : ((Unit ⊕ Nat) × CS)} (hf : f_x_X2_opens x0 x1 τ = some o_) : xMetX (wC D P) l yX2_opens (ws_ yX2_opens cX2_opens 2 none) 1 60 (grc τ.1) (grs τ.1) [.ref x0, .int x1] τ (xzV o_.1, o_.2) := 
  xMetX_of (by decide) (Nat.le_of_ble_eq_true rfl) KC_moved (RPC_of (g := τ.1) (c := τ.2)) (fun K _ _ _ hno => ok_f_x_X2_opens hno hf (fun _ h => by rw [h]))
abbrev mJ3_init_2 : xM := (cJ3_init_2, 5, RJ3, 1, 60, none, "<init>")
def Jc_J3_init_2_41 (x0 : Nat) (x1 : Option Nat) (x2 : Option Nat) (x3 : Int32) (τ : CS) : Option CS :=
  if gT τ.1 x0 = 4 then
  if x3 = 0 then
  some ((τ.1, uR (uR (uR τ.2 403 x0 x1) 400 x0 x2) 402 x0 none))
  else
  some ((τ.1, uR (uR τ.2 403 x0 x1) 400 x0 x2))
  else none
theorem ok_Jc_J3_init_2_41 {D : CD} {P : CP} {K : xK} {Z : Option Value × CS} {x0 : Nat} {x1 : Option Nat} {x2 : Option Nat} {x3 : Int32} {τ : CS} {o_ : CS} (hf : Jc_J3_init_2_41 x0 x1 x2 x3 τ = some o_) (kr : ∀ r_ : CS, o_ = r_ → Z = (none, r_)) : xV (wC D P) K mJ3_init_2 (xQ (wC D P) K Z) τ 41 [(0, .ref x0), (1, va_rf x1), (2, va_rf x2), (3, .int x3)] [] := by
  unfold Jc_J3_init_2_41 at hf
  refine xr_aload_n (pc := 41) 0 dJ3_init_2_41 rfl rfl ?_
  refine xr_aloadq_n (pc := 42) 1 dJ3_init_2_42 rfl rfl ?_
  obtain ⟨ht2, hf⟩ := xo_if hf
  refine yc_putR (pc := 43) 4 3 403 ht2 (by decide) (by decide) (by decide) rfl rfl rfl (ty := (.object "java/lang/String")) (by decide +kernel) rfl q371 (ys_eq rfl) rfl dJ3_init_2_43 ?_
  refine xr_aload_n (pc := 46) 0 dJ3_init_2_46 rfl rfl ?_
  refine xr_aloadq_n (pc := 47) 2 dJ3_init_2_47 rfl rfl ?_
  refine yc_putR (pc := 48) 4 0 400 ht2 (by decide) (by decide) (by decide) rfl rfl rfl (ty := (.object "java/lang/Throwable")) (by decide +kernel) rfl q372 (ys_eq rfl) rfl dJ3_init_2_48 ?_
  refine xr_iload_n (pc := 51) 3 dJ3_init_2_51 rfl rfl ?_
  refine xr_if_ne (pc := 52) 60 dJ3_init_2_52 (by decide) (fun c_ => ?_) (fun c_ => ?_)
  · have hf := xo_pos c_ hf
    refine xr_aload_n (pc := 55) 0 dJ3_init_2_55 rfl rfl ?_
    refine xr_null (pc := 56) dJ3_init_2_56 ?_
    refine yc_putR (pc := 57) 4 2 402 ht2 (by decide) (by decide) (by decide) rfl rfl rfl (ty := (.object "java/util/List")) (by decide +kernel) rfl q374 (ys_eq rfl) rfl dJ3_init_2_57 ?_
    rw [kr _ (Option.some.inj hf).symm]
    exact xr_vret (pc := 60) dJ3_init_2_60 rfl
  · have hf := xo_neg c_ hf
    rw [kr _ (Option.some.inj hf).symm]
    exact xr_vret (pc := 60) dJ3_init_2_60 rfl
def f_a_J3_init_2 (x0 : Nat) (x1 : Option Nat) (x2 : Option Nat) (x3 : Int32) (x4 : Int32) (τ : CS) : Option CS :=
  if gT τ.1 x0 = 4 then
  if x4 = 0 then
  Jc_J3_init_2_41 x0 x1 x2 x3 (τ.1, uR (uR (uR (uR τ.2 400 x0 (some x0)) 401 x0 (some (gA τ.1 0 6))) 402 x0 (some (gA τ.1 0 7))) 401 x0 none)
  else
  none
  else none
theorem ok_f_a_J3_init_2 {D : CD} {P : CP} {K : xK} {Z : Option Value × CS} {x0 : Nat} {x1 : Option Nat} {x2 : Option Nat} {x3 : Int32} {x4 : Int32} {τ : CS} {o_ : CS} (hf : f_a_J3_init_2 x0 x1 x2 x3 x4 τ = some o_) (kr : ∀ r_ : CS, o_ = r_ → Z = (none, r_)) : xV (wC D P) K mJ3_init_2 (xQ (wC D P) K Z) τ 0 [(0, .ref x0), (1, va_rf x1), (2, va_rf x2), (3, .int x3), (4, .int x4)] [] := by
  unfold f_a_J3_init_2 at hf
  refine xr_aload_n (pc := 0) 0 dJ3_init_2_0 rfl rfl ?_
  refine xr_objInit (pc := 1) q340 rfl (Nat.le_of_ble_eq_true rfl) (Nat.le_of_ble_eq_true rfl) (Nat.le_of_ble_eq_true rfl) dJ3_init_2_1 ?_
  refine xr_aload_n (pc := 4) 0 dJ3_init_2_4 rfl rfl ?_
  refine xr_aload_n (pc := 5) 0 dJ3_init_2_5 rfl rfl ?_
  obtain ⟨ht1, hf⟩ := xo_if hf
  refine yc_putRs (pc := 6) 4 0 400 ht1 (by decide) (by decide) (by decide) rfl rfl rfl (ty := (.object "java/lang/Throwable")) (by decide +kernel) rfl q372 (ys_eq rfl) rfl dJ3_init_2_6 ?_
  refine xr_aload_n (pc := 9) 0 dJ3_init_2_9 rfl rfl ?_
  refine yc_gets (pc := 10) 6 (by decide) (by decide) q341 rfl rfl dJ3_init_2_10 ?_
  refine yc_putRs (pc := 13) 4 1 401 ht1 (by decide) (by decide) (by decide) rfl rfl rfl (ty := (.array (.object "java/lang/StackTraceElement"))) (by decide +kernel) rfl q373 (ys_eq rfl) rfl dJ3_init_2_13 ?_
  refine xr_aload_n (pc := 16) 0 dJ3_init_2_16 rfl rfl ?_
  refine yc_gets (pc := 17) 7 (by decide) (by decide) q343 rfl rfl dJ3_init_2_17 ?_
  refine yc_putRs (pc := 20) 4 2 402 ht1 (by decide) (by decide) (by decide) rfl rfl rfl (ty := (.object "java/util/List")) (by decide +kernel) rfl q374 (ys_eq rfl) rfl dJ3_init_2_20 ?_
  refine xr_iload (pc := 23) 4 dJ3_init_2_23 rfl ?_
  refine xr_if_eq (pc := 25) 36 dJ3_init_2_25 (by decide) (fun c_ => ?_) (fun c_ => ?_)
  · have hf := xo_pos c_ hf
    refine xr_aload_n (pc := 36) 0 dJ3_init_2_36 rfl rfl ?_
    refine xr_null (pc := 37) dJ3_init_2_37 ?_
    refine yc_putR (pc := 38) 4 1 401 ht1 (by decide) (by decide) (by decide) rfl rfl rfl (ty := (.array (.object "java/lang/StackTraceElement"))) (by decide +kernel) rfl q373 (ys_eq rfl) rfl dJ3_init_2_38 ?_
    refine xV_sub [0, 1, 2, 3] rfl ?_
    exact ok_Jc_J3_init_2_41 hf kr
  · have hf := xo_neg c_ hf
    refine xr_aload_n (pc := 28) 0 dJ3_init_2_28 rfl rfl ?_
    cases hf
theorem met_f_a_J3_init_2 (l : Launch) {D : CD} {P : CP} {x0 : Nat} {x1 : Option Nat} {x2 : Option Nat} {x3 : Int32} {x4 : Int32} {τ : CS} {o_ : CS} (hf : f_a_J3_init_2 x0 x1 x2 x3 x4 τ = some o_) : xMet (wC D P) l yJ3_init_2 (ws_ yJ3_init_2 cJ3_init_2 5 none) 1 60 (grc τ.1) (grs τ.1) [.ref x0, va_rf x1, va_rf x2, .int x3, .int x4] τ (none, o_) := by
  cases x1 <;> cases x2 <;> exact xMet_of (by decide) (Nat.le_of_ble_eq_true rfl) KC_moved (RPC_of (g := τ.1) (c := τ.2)) (fun K _ _ _ => ok_f_a_J3_init_2 hf (fun _ h => by rw [h]))
theorem hd_f_a_J3_init_2 : yJ3_init_2.cls ≠ "java/lang/invoke/MethodHandle" ∧ yJ3_init_2.cls ≠ "java/lang/invoke/VarHandle" ∧ (parseMethodDescriptor yJ3_init_2.desc).map (fun d => d.parameters.length) = some 4 := by decide +kernel
theorem call_f_a_J3_init_2_J4_16 {D : CD} {P : CP} {K : xK} {M : xM} {Q : State → Prop} {τ τ1 : CS} {x0 : Nat} {x1 : Option Nat} {x2 : Option Nat} {x3 : Int32} {x4 : Int32} {pc : Nat} {loc : List (Nat × Value)} {st : List Value} (hf : f_a_J3_init_2 x0 x1 x2 x3 x4 τ = some τ1) (ho : M.2.2.1 = RJ4) (hfr : 2 ≤ M.2.2.2.1) (hlo : 84 ≤ M.2.2.2.2.1) (hcat : (st.map fun v => v.category).sum ≤ 8) (d : decode M.1 pc = .ok (.invokespecial 16, 3)) (k : xV (wC D P) K M Q τ1 (pc + 3) loc st) : xV (wC D P) K M Q τ pc loc (.int x4 :: .int x3 :: va_rf x2 :: va_rf x1 :: .ref x0 :: st) :=
  yc_callI (g := τ.1) (c := τ.2) (g1 := τ1.1) (c1 := τ1.2) (As := [va_rf x1, va_rf x2, .int x3, .int x4]) (rest := st) (met_f_a_J3_init_2 K.2.1 hf) (lw_meth q365) q363 q364 q180 rfl hd_f_a_J3_init_2 ho hfr hlo rfl rfl hcat d k
abbrev mJ4_init : xM := (cJ4_init, 5, RJ4, 2, 120, none, "<init>")
def f_a_J4_init (x0 : Nat) (x1 : Option Nat) (x2 : Option Nat) (x3 : Int32) (x4 : Int32) (τ : CS) : Option CS :=
  (f_a_J3_init_2 x0 x1 x2 x3 x4 τ).bind fun τ1 =>
  some (τ1)
theorem ok_f_a_J4_init {D : CD} {P : CP} {K : xK} {Z : Option Value × CS} {x0 : Nat} {x1 : Option Nat} {x2 : Option Nat} {x3 : Int32} {x4 : Int32} {τ : CS} {o_ : CS} (hf : f_a_J4_init x0 x1 x2 x3 x4 τ = some o_) (kr : ∀ r_ : CS, o_ = r_ → Z = (none, r_)) : xV (wC D P) K mJ4_init (xQ (wC D P) K Z) τ 0 [(0, .ref x0), (1, va_rf x1), (2, va_rf x2), (3, .int x3), (4, .int x4)] [] := by
  unfold f_a_J4_init at hf
  refine xr_aload_n (pc := 0) 0 dJ4_init_0 rfl rfl ?_
  refine xr_aloadq_n (pc := 1) 1 dJ4_init_1 rfl rfl ?_
  refine xr_aloadq_n (pc := 2) 2 dJ4_init_2 rfl rfl ?_
  refine xr_iload_n (pc := 3) 3 dJ4_init_3 rfl rfl ?_
  refine xr_iload (pc := 4) 4 dJ4_init_4 rfl ?_
  obtain ⟨τ1, hτ1, hf⟩ := xo_bind hf
  refine call_f_a_J3_init_2_J4_16 (pc := 6) hτ1 rfl (Nat.le_of_ble_eq_true rfl) (Nat.le_of_ble_eq_true rfl) (Nat.le_of_ble_eq_true rfl) dJ4_init_6 ?_
  rw [kr _ (Option.some.inj hf).symm]
  exact xr_vret (pc := 9) dJ4_init_9 rfl
theorem met_f_a_J4_init (l : Launch) {D : CD} {P : CP} {x0 : Nat} {x1 : Option Nat} {x2 : Option Nat} {x3 : Int32} {x4 : Int32} {τ : CS} {o_ : CS} (hf : f_a_J4_init x0 x1 x2 x3 x4 τ = some o_) : xMet (wC D P) l yJ4_init (ws_ yJ4_init cJ4_init 5 none) 2 120 (grc τ.1) (grs τ.1) [.ref x0, va_rf x1, va_rf x2, .int x3, .int x4] τ (none, o_) := by
  cases x1 <;> cases x2 <;> exact xMet_of (by decide) (Nat.le_of_ble_eq_true rfl) KC_moved (RPC_of (g := τ.1) (c := τ.2)) (fun K _ _ _ => ok_f_a_J4_init hf (fun _ h => by rw [h]))
theorem hd_f_a_J4_init : yJ4_init.cls ≠ "java/lang/invoke/MethodHandle" ∧ yJ4_init.cls ≠ "java/lang/invoke/VarHandle" ∧ (parseMethodDescriptor yJ4_init.desc).map (fun d => d.parameters.length) = some 4 := by decide +kernel
theorem call_f_a_J4_init_J5_16 {D : CD} {P : CP} {K : xK} {M : xM} {Q : State → Prop} {τ τ1 : CS} {x0 : Nat} {x1 : Option Nat} {x2 : Option Nat} {x3 : Int32} {x4 : Int32} {pc : Nat} {loc : List (Nat × Value)} {st : List Value} (hf : f_a_J4_init x0 x1 x2 x3 x4 τ = some τ1) (ho : M.2.2.1 = RJ5) (hfr : 3 ≤ M.2.2.2.1) (hlo : 144 ≤ M.2.2.2.2.1) (hcat : (st.map fun v => v.category).sum ≤ 8) (d : decode M.1 pc = .ok (.invokespecial 16, 3)) (k : xV (wC D P) K M Q τ1 (pc + 3) loc st) : xV (wC D P) K M Q τ pc loc (.int x4 :: .int x3 :: va_rf x2 :: va_rf x1 :: .ref x0 :: st) :=
  yc_callI (g := τ.1) (c := τ.2) (g1 := τ1.1) (c1 := τ1.2) (As := [va_rf x1, va_rf x2, .int x3, .int x4]) (rest := st) (met_f_a_J4_init K.2.1 hf) (lw_meth q362) q360 q361 q181 rfl hd_f_a_J4_init ho hfr hlo rfl rfl hcat d k
abbrev mJ5_init : xM := (cJ5_init, 5, RJ5, 3, 180, none, "<init>")
def f_a_J5_init (x0 : Nat) (x1 : Option Nat) (x2 : Option Nat) (x3 : Int32) (x4 : Int32) (τ : CS) : Option CS :=
  (f_a_J4_init x0 x1 x2 x3 x4 τ).bind fun τ1 =>
  some (τ1)
theorem ok_f_a_J5_init {D : CD} {P : CP} {K : xK} {Z : Option Value × CS} {x0 : Nat} {x1 : Option Nat} {x2 : Option Nat} {x3 : Int32} {x4 : Int32} {τ : CS} {o_ : CS} (hf : f_a_J5_init x0 x1 x2 x3 x4 τ = some o_) (kr : ∀ r_ : CS, o_ = r_ → Z = (none, r_)) : xV (wC D P) K mJ5_init (xQ (wC D P) K Z) τ 0 [(0, .ref x0), (1, va_rf x1), (2, va_rf x2), (3, .int x3), (4, .int x4)] [] := by
  unfold f_a_J5_init at hf
  refine xr_aload_n (pc := 0) 0 dJ5_init_0 rfl rfl ?_
  refine xr_aloadq_n (pc := 1) 1 dJ5_init_1 rfl rfl ?_
  refine xr_aloadq_n (pc := 2) 2 dJ5_init_2 rfl rfl ?_
  refine xr_iload_n (pc := 3) 3 dJ5_init_3 rfl rfl ?_
  refine xr_iload (pc := 4) 4 dJ5_init_4 rfl ?_
  obtain ⟨τ1, hτ1, hf⟩ := xo_bind hf
  refine call_f_a_J4_init_J5_16 (pc := 6) hτ1 rfl (Nat.le_of_ble_eq_true rfl) (Nat.le_of_ble_eq_true rfl) (Nat.le_of_ble_eq_true rfl) dJ5_init_6 ?_
  rw [kr _ (Option.some.inj hf).symm]
  exact xr_vret (pc := 9) dJ5_init_9 rfl
theorem met_f_a_J5_init (l : Launch) {D : CD} {P : CP} {x0 : Nat} {x1 : Option Nat} {x2 : Option Nat} {x3 : Int32} {x4 : Int32} {τ : CS} {o_ : CS} (hf : f_a_J5_init x0 x1 x2 x3 x4 τ = some o_) : xMet (wC D P) l yJ5_init (ws_ yJ5_init cJ5_init 5 none) 3 180 (grc τ.1) (grs τ.1) [.ref x0, va_rf x1, va_rf x2, .int x3, .int x4] τ (none, o_) := by
  cases x1 <;> cases x2 <;> exact xMet_of (by decide) (Nat.le_of_ble_eq_true rfl) KC_moved (RPC_of (g := τ.1) (c := τ.2)) (fun K _ _ _ => ok_f_a_J5_init hf (fun _ h => by rw [h]))
