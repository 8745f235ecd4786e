set_option maxRecDepth 100000
theorem hd_f_a_J5_init : yJ5_init.cls ≠ "java/lang/invoke/MethodHandle" ∧ yJ5_init.cls ≠ "java/lang/invoke/VarHandle" ∧ (parseMethodDescriptor yJ5_init.desc).map (fun d => d.parameters.length) = some 4 := by decide +kernel
theorem call_f_a_J5_init_X3_1 {D : CD} {P : CP} {K : xK} {M : xM} {Q : State → Prop} {τ τ1 : CS} {x0 : Nat} {x1 : Option Nat} {x2 : Option Nat} {x3 : Int32} {x4 : Int32} {pc : Nat} {loc : List (Nat × Value)} {st : List Value} (hf : f_a_J5_init x0 x1 x2 x3 x4 τ = some τ1) (ho : M.2.2.1 = RX3) (hfr : 4 ≤ M.2.2.2.1) (hlo : 204 ≤ M.2.2.2.2.1) (hcat : (st.map fun v => v.category).sum ≤ 8) (d : decode M.1 pc = .ok (.invokespecial 1, 3)) (k : xV (wC D P) K M Q τ1 (pc + 3) loc st) : xV (wC D P) K M Q τ pc loc (.int x4 :: .int x3 :: va_rf x2 :: va_rf x1 :: .ref x0 :: st) :=
  yc_callI (g := τ.1) (c := τ.2) (g1 := τ1.1) (c1 := τ1.2) (As := [va_rf x1, va_rf x2, .int x3, .int x4]) (rest := st) (met_f_a_J5_init K.2.1 hf) (lw_meth q359) q357 q358 q182 rfl hd_f_a_J5_init ho hfr hlo rfl rfl hcat d k
abbrev mX3_init : xM := (cX3_init, 1, RX3, 4, 240, none, "<init>")
def f_a_X3_init (x0 : Nat) (τ : CS) : Option CS :=
  (f_a_J5_init x0 none none 0 0 τ).bind fun τ1 =>
  some (τ1)
theorem ok_f_a_X3_init {D : CD} {P : CP} {K : xK} {Z : Option Value × CS} {x0 : Nat} {τ : CS} {o_ : CS} (hf : f_a_X3_init x0 τ = some o_) (kr : ∀ r_ : CS, o_ = r_ → Z = (none, r_)) : xV (wC D P) K mX3_init (xQ (wC D P) K Z) τ 0 [(0, .ref x0)] [] := by
  unfold f_a_X3_init at hf
  refine xr_aload_n (pc := 0) 0 dX3_init_0 rfl rfl ?_
  refine xr_null (pc := 1) dX3_init_1 ?_
  refine xr_null (pc := 2) dX3_init_2 ?_
  refine xr_iconst (pc := 3) dX3_init_3 xci_0 ?_
  refine xr_iconst (pc := 4) dX3_init_4 xci_0 ?_
  obtain ⟨τ1, hτ1, hf⟩ := xo_bind hf
  refine call_f_a_J5_init_X3_1 (pc := 5) hτ1 rfl (Nat.le_of_ble_eq_true rfl) (Nat.le_of_ble_eq_true rfl) (Nat.le_of_ble_eq_true rfl) dX3_init_5 ?_
  rw [kr _ (Option.some.inj hf).symm]
  exact xr_vret (pc := 8) dX3_init_8 rfl
theorem met_f_a_X3_init (l : Launch) {D : CD} {P : CP} {x0 : Nat} {τ : CS} {o_ : CS} (hf : f_a_X3_init x0 τ = some o_) : xMet (wC D P) l yX3_init (ws_ yX3_init cX3_init 1 none) 4 240 (grc τ.1) (grs τ.1) [.ref x0] τ (none, o_) := 
  xMet_of (by decide) (Nat.le_of_ble_eq_true rfl) KC_moved (RPC_of (g := τ.1) (c := τ.2)) (fun K _ _ _ => ok_f_a_X3_init hf (fun _ h => by rw [h]))
abbrev mX8_init : xM := (cX8_init, 1, RX8, 1, 60, none, "<init>")
def f_a_X8_init (x0 : Nat) (τ : CS) : Option CS :=
  some (τ)
theorem ok_f_a_X8_init {D : CD} {P : CP} {K : xK} {Z : Option Value × CS} {x0 : Nat} {τ : CS} {o_ : CS} (hf : f_a_X8_init x0 τ = some o_) (kr : ∀ r_ : CS, o_ = r_ → Z = (none, r_)) : xV (wC D P) K mX8_init (xQ (wC D P) K Z) τ 0 [(0, .ref x0)] [] := by
  unfold f_a_X8_init at hf
  refine xr_aload_n (pc := 0) 0 dX8_init_0 rfl rfl ?_
  refine xr_objInit (pc := 1) q991 rfl (Nat.le_of_ble_eq_true rfl) (Nat.le_of_ble_eq_true rfl) (Nat.le_of_ble_eq_true rfl) dX8_init_1 ?_
  rw [kr _ (Option.some.inj hf).symm]
  exact xr_vret (pc := 4) dX8_init_4 rfl
theorem met_f_a_X8_init (l : Launch) {D : CD} {P : CP} {x0 : Nat} {τ : CS} {o_ : CS} (hf : f_a_X8_init x0 τ = some o_) : xMet (wC D P) l yX8_init (ws_ yX8_init cX8_init 1 none) 1 60 (grc τ.1) (grs τ.1) [.ref x0] τ (none, o_) := 
  xMet_of (by decide) (Nat.le_of_ble_eq_true rfl) KC_moved (RPC_of (g := τ.1) (c := τ.2)) (fun K _ _ _ => ok_f_a_X8_init hf (fun _ h => by rw [h]))
abbrev mX14_init : xM := (cX14_init, 1, RX14, 1, 60, none, "<init>")
def f_a_X14_init (x0 : Nat) (τ : CS) : Option CS :=
  some (τ)
theorem ok_f_a_X14_init {D : CD} {P : CP} {K : xK} {Z : Option Value × CS} {x0 : Nat} {τ : CS} {o_ : CS} (hf : f_a_X14_init x0 τ = some o_) (kr : ∀ r_ : CS, o_ = r_ → Z = (none, r_)) : xV (wC D P) K mX14_init (xQ (wC D P) K Z) τ 0 [(0, .ref x0)] [] := by
  unfold f_a_X14_init at hf
  refine xr_aload_n (pc := 0) 0 dX14_init_0 rfl rfl ?_
  refine xr_objInit (pc := 1) q1183 rfl (Nat.le_of_ble_eq_true rfl) (Nat.le_of_ble_eq_true rfl) (Nat.le_of_ble_eq_true rfl) dX14_init_1 ?_
  rw [kr _ (Option.some.inj hf).symm]
  exact xr_vret (pc := 4) dX14_init_4 rfl
theorem met_f_a_X14_init (l : Launch) {D : CD} {P : CP} {x0 : Nat} {τ : CS} {o_ : CS} (hf : f_a_X14_init x0 τ = some o_) : xMet (wC D P) l yX14_init (ws_ yX14_init cX14_init 1 none) 1 60 (grc τ.1) (grs τ.1) [.ref x0] τ (none, o_) := 
  xMet_of (by decide) (Nat.le_of_ble_eq_true rfl) KC_moved (RPC_of (g := τ.1) (c := τ.2)) (fun K _ _ _ => ok_f_a_X14_init hf (fun _ h => by rw [h]))
theorem hd_f_a_X8_init : yX8_init.cls ≠ "java/lang/invoke/MethodHandle" ∧ yX8_init.cls ≠ "java/lang/invoke/VarHandle" ∧ (parseMethodDescriptor yX8_init.desc).map (fun d => d.parameters.length) = some 0 := by decide +kernel
theorem call_f_a_X8_init_X10_1 {D : CD} {P : CP} {K : xK} {M : xM} {Q : State → Prop} {τ τ1 : CS} {x0 : Nat} {pc : Nat} {loc : List (Nat × Value)} {st : List Value} (hf : f_a_X8_init x0 τ = some τ1) (ho : M.2.2.1 = RX10) (hfr : 2 ≤ M.2.2.2.1) (hlo : 80 ≤ M.2.2.2.2.1) (hcat : (st.map fun v => v.category).sum ≤ 8) (d : decode M.1 pc = .ok (.invokespecial 1, 3)) (k : xV (wC D P) K M Q τ1 (pc + 3) loc st) : xV (wC D P) K M Q τ pc loc (.ref x0 :: st) :=
  yc_callIN (g := τ.1) (c := τ.2) (g1 := τ1.1) (c1 := τ1.2) (As := []) (rest := st) (met_f_a_X8_init K.2.1 hf) (lw_meth q990) q1045 q989 q197 rfl hd_f_a_X8_init ho hfr hlo rfl rfl hcat d k
abbrev mX10_init : xM := (cX10_init, 4, RX10, 2, 120, none, "<init>")
def f_a_X10_init (x0 : Nat) (x1 : Int32) (x2 : Nat) (x3 : Nat) (τ : CS) : Option CS :=
  (f_a_X8_init x0 τ).bind fun τ1 =>
  if gT τ1.1 x0 = 9 then
  if xbl x1 = true then
  some ((vR (vR τ1.1 901 x0 (some x2)) 902 x0 (some x3), (uI τ1.2 900 x0 x1)))
  else none
  else none
theorem ok_f_a_X10_init {D : CD} {P : CP} {K : xK} {Z : Option Value × CS} {x0 : Nat} {x1 : Int32} {x2 : Nat} {x3 : Nat} {τ : CS} {o_ : CS} (hf : f_a_X10_init x0 x1 x2 x3 τ = some o_) (kr : ∀ r_ : CS, o_ = r_ → Z = (none, r_)) : xV (wC D P) K mX10_init (xQ (wC D P) K Z) τ 0 [(0, .ref x0), (1, .int x1), (2, .ref x2), (3, .ref x3)] [] := by
  unfold f_a_X10_init at hf
  refine xr_aload_n (pc := 0) 0 dX10_init_0 rfl rfl ?_
  obtain ⟨τ1, hτ1, hf⟩ := xo_bind hf
  refine call_f_a_X8_init_X10_1 (pc := 1) hτ1 rfl (Nat.le_of_ble_eq_true rfl) (Nat.le_of_ble_eq_true rfl) (Nat.le_of_ble_eq_true rfl) dX10_init_1 ?_
  refine xr_aload_n (pc := 4) 0 dX10_init_4 rfl rfl ?_
  refine xr_iload_n (pc := 5) 1 dX10_init_5 rfl rfl ?_
  obtain ⟨ht2, hf⟩ := xo_if hf
  obtain ⟨hb_, hf⟩ := xo_if hf
  refine yc_putFI (pc := 6) 9 0 900 ht2 (by decide) (by decide) (by decide) rfl rfl rfl (ty := .boolean) (by decide +kernel) (xbl_n hb_) (xbl_f hb_) q1046 rfl rfl rfl dX10_init_6 ?_
  refine xr_aload_n (pc := 9) 0 dX10_init_9 rfl rfl ?_
  refine xr_aload_n (pc := 10) 2 dX10_init_10 rfl rfl ?_
  refine yc_putFRs (pc := 11) 9 1 901 ht2 (by decide) (by decide) (by decide) rfl rfl rfl (ty := (.object "BentRiver$Value")) (by decide +kernel) rfl q1047 rfl rfl rfl dX10_init_11 ?_
  refine xr_aload_n (pc := 14) 0 dX10_init_14 rfl rfl ?_
  refine xr_aload_n (pc := 15) 3 dX10_init_15 rfl rfl ?_
  refine yc_putFRs (pc := 16) 9 2 902 ht2 (by decide) (by decide) (by decide) rfl rfl rfl (ty := (.object "BentRiver$Value")) (by decide +kernel) rfl q1048 rfl rfl rfl dX10_init_16 ?_
  rw [kr _ (Option.some.inj hf).symm]
  exact xr_vret (pc := 19) dX10_init_19 rfl
theorem met_f_a_X10_init (l : Launch) {D : CD} {P : CP} {x0 : Nat} {x1 : Int32} {x2 : Nat} {x3 : Nat} {τ : CS} {o_ : CS} (hf : f_a_X10_init x0 x1 x2 x3 τ = some o_) : xMet (wC D P) l yX10_init (ws_ yX10_init cX10_init 4 none) 2 120 (grc τ.1) (grs τ.1) [.ref x0, .int x1, .ref x2, .ref x3] τ (none, o_) := 
  xMet_of (by decide) (Nat.le_of_ble_eq_true rfl) KC_moved (RPC_of (g := τ.1) (c := τ.2)) (fun K _ _ _ => ok_f_a_X10_init hf (fun _ h => by rw [h]))
theorem call_f_a_X8_init_X11_1 {D : CD} {P : CP} {K : xK} {M : xM} {Q : State → Prop} {τ τ1 : CS} {x0 : Nat} {pc : Nat} {loc : List (Nat × Value)} {st : List Value} (hf : f_a_X8_init x0 τ = some τ1) (ho : M.2.2.1 = RX11) (hfr : 2 ≤ M.2.2.2.1) (hlo : 80 ≤ M.2.2.2.2.1) (hcat : (st.map fun v => v.category).sum ≤ 8) (d : decode M.1 pc = .ok (.invokespecial 1, 3)) (k : xV (wC D P) K M Q τ1 (pc + 3) loc st) : xV (wC D P) K M Q τ pc loc (.ref x0 :: st) :=
  yc_callIN (g := τ.1) (c := τ.2) (g1 := τ1.1) (c1 := τ1.2) (As := []) (rest := st) (met_f_a_X8_init K.2.1 hf) (lw_meth q990) q1061 q989 q197 rfl hd_f_a_X8_init ho hfr hlo rfl rfl hcat d k
abbrev mX11_init : xM := (cX11_init, 3, RX11, 2, 120, none, "<init>")
def f_a_X11_init (x0 : Nat) (x1 : Int64) (τ : CS) : Option CS :=
  (f_a_X8_init x0 τ).bind fun τ1 =>
  if gT τ1.1 x0 = 10 then
  some ((τ1.1, uL τ1.2 1000 x0 x1))
  else none
theorem ok_f_a_X11_init {D : CD} {P : CP} {K : xK} {Z : Option Value × CS} {x0 : Nat} {x1 : Int64} {τ : CS} {o_ : CS} (hf : f_a_X11_init x0 x1 τ = some o_) (kr : ∀ r_ : CS, o_ = r_ → Z = (none, r_)) : xV (wC D P) K mX11_init (xQ (wC D P) K Z) τ 0 [(0, .ref x0), (1, .long x1)] [] := by
  unfold f_a_X11_init at hf
  refine xr_aload_n (pc := 0) 0 dX11_init_0 rfl rfl ?_
  obtain ⟨τ1, hτ1, hf⟩ := xo_bind hf
  refine call_f_a_X8_init_X11_1 (pc := 1) hτ1 rfl (Nat.le_of_ble_eq_true rfl) (Nat.le_of_ble_eq_true rfl) (Nat.le_of_ble_eq_true rfl) dX11_init_1 ?_
  refine xr_aload_n (pc := 4) 0 dX11_init_4 rfl rfl ?_
  refine xr_lload_n (pc := 5) 1 dX11_init_5 rfl rfl ?_
  obtain ⟨ht2, hf⟩ := xo_if hf
  refine yc_putFL (pc := 6) 10 0 1000 ht2 (by decide) (by decide) (by decide) rfl rfl rfl (by decide +kernel) q1062 rfl rfl rfl dX11_init_6 ?_
  rw [kr _ (Option.some.inj hf).symm]
  exact xr_vret (pc := 9) dX11_init_9 rfl
theorem met_f_a_X11_init (l : Launch) {D : CD} {P : CP} {x0 : Nat} {x1 : Int64} {τ : CS} {o_ : CS} (hf : f_a_X11_init x0 x1 τ = some o_) : xMet (wC D P) l yX11_init (ws_ yX11_init cX11_init 3 none) 2 120 (grc τ.1) (grs τ.1) [.ref x0, .long x1] τ (none, o_) := 
  xMet_of (by decide) (Nat.le_of_ble_eq_true rfl) KC_moved (RPC_of (g := τ.1) (c := τ.2)) (fun K _ _ _ => ok_f_a_X11_init hf (fun _ h => by rw [h]))
theorem call_f_a_X8_init_X12_1 {D : CD} {P : CP} {K : xK} {M : xM} {Q : State → Prop} {τ τ1 : CS} {x0 : Nat} {pc : Nat} {loc : List (Nat × Value)} {st : List Value} (hf : f_a_X8_init x0 τ = some τ1) (ho : M.2.2.1 = RX12) (hfr : 2 ≤ M.2.2.2.1) (hlo : 80 ≤ M.2.2.2.2.1) (hcat : (st.map fun v => v.category).sum ≤ 8) (d : decode M.1 pc = .ok (.invokespecial 1, 3)) (k : xV (wC D P) K M Q τ1 (pc + 3) loc st) : xV (wC D P) K M Q τ pc loc (.ref x0 :: st) :=
  yc_callIN (g := τ.1) (c := τ.2) (g1 := τ1.1) (c1 := τ1.2) (As := []) (rest := st) (met_f_a_X8_init K.2.1 hf) (lw_meth q990) q1076 q989 q197 rfl hd_f_a_X8_init ho hfr hlo rfl rfl hcat d k
abbrev mX12_init : xM := (cX12_init, 2, RX12, 2, 120, none, "<init>")
def f_a_X12_init (x0 : Nat) (x1 : Int32) (τ : CS) : Option CS :=
  (f_a_X8_init x0 τ).bind fun τ1 =>
  if gT τ1.1 x0 = 11 then
  some ((τ1.1, uI τ1.2 1100 x0 x1))
  else none
theorem ok_f_a_X12_init {D : CD} {P : CP} {K : xK} {Z : Option Value × CS} {x0 : Nat} {x1 : Int32} {τ : CS} {o_ : CS} (hf : f_a_X12_init x0 x1 τ = some o_) (kr : ∀ r_ : CS, o_ = r_ → Z = (none, r_)) : xV (wC D P) K mX12_init (xQ (wC D P) K Z) τ 0 [(0, .ref x0), (1, .int x1)] [] := by
  unfold f_a_X12_init at hf
  refine xr_aload_n (pc := 0) 0 dX12_init_0 rfl rfl ?_
  obtain ⟨τ1, hτ1, hf⟩ := xo_bind hf
  refine call_f_a_X8_init_X12_1 (pc := 1) hτ1 rfl (Nat.le_of_ble_eq_true rfl) (Nat.le_of_ble_eq_true rfl) (Nat.le_of_ble_eq_true rfl) dX12_init_1 ?_
  refine xr_aload_n (pc := 4) 0 dX12_init_4 rfl rfl ?_
  refine xr_iload_n (pc := 5) 1 dX12_init_5 rfl rfl ?_
  obtain ⟨ht2, hf⟩ := xo_if hf
  refine yc_putFI (pc := 6) 11 0 1100 ht2 (by decide) (by decide) (by decide) rfl rfl rfl (ty := .int) (by decide +kernel) rfl rfl q1077 rfl rfl rfl dX12_init_6 ?_
  rw [kr _ (Option.some.inj hf).symm]
  exact xr_vret (pc := 9) dX12_init_9 rfl
theorem met_f_a_X12_init (l : Launch) {D : CD} {P : CP} {x0 : Nat} {x1 : Int32} {τ : CS} {o_ : CS} (hf : f_a_X12_init x0 x1 τ = some o_) : xMet (wC D P) l yX12_init (ws_ yX12_init cX12_init 2 none) 2 120 (grc τ.1) (grs τ.1) [.ref x0, .int x1] τ (none, o_) := 
  xMet_of (by decide) (Nat.le_of_ble_eq_true rfl) KC_moved (RPC_of (g := τ.1) (c := τ.2)) (fun K _ _ _ => ok_f_a_X12_init hf (fun _ h => by rw [h]))
theorem call_f_a_X8_init_X13_7 {D : CD} {P : CP} {K : xK} {M : xM} {Q : State → Prop} {τ τ1 : CS} {x0 : Nat} {pc : Nat} {loc : List (Nat × Value)} {st : List Value} (hf : f_a_X8_init x0 τ = some τ1) (ho : M.2.2.1 = RX13) (hfr : 2 ≤ M.2.2.2.1) (hlo : 80 ≤ M.2.2.2.2.1) (hcat : (st.map fun v => v.category).sum ≤ 8) (d : decode M.1 pc = .ok (.invokespecial 7, 3)) (k : xV (wC D P) K M Q τ1 (pc + 3) loc st) : xV (wC D P) K M Q τ pc loc (.ref x0 :: st) :=
  yc_callIN (g := τ.1) (c := τ.2) (g1 := τ1.1) (c1 := τ1.2) (As := []) (rest := st) (met_f_a_X8_init K.2.1 hf) (lw_meth q990) q1093 q989 q197 rfl hd_f_a_X8_init ho hfr hlo rfl rfl hcat d k
abbrev mX13_init : xM := (cX13_init, 4, RX13, 2, 120, none, "<init>")
def f_a_X13_init (x0 : Nat) (x1 : Nat) (x2 : Int32) (x3 : Nat) (τ : CS) : Option CS :=
  if gT τ.1 x0 = 12 then
  (f_a_X8_init x0 (vR τ.1 1202 x0 (some x1), τ.2)).bind fun τ2 =>
  if gT τ2.1 x0 = 12 then
  some ((vR τ2.1 1201 x0 (some x3), (uI τ2.2 1200 x0 x2)))
  else none
  else none
theorem ok_f_a_X13_init {D : CD} {P : CP} {K : xK} {Z : Option Value × CS} {x0 : Nat} {x1 : Nat} {x2 : Int32} {x3 : Nat} {τ : CS} {o_ : CS} (hf : f_a_X13_init x0 x1 x2 x3 τ = some o_) (kr : ∀ r_ : CS, o_ = r_ → Z = (none, r_)) : xV (wC D P) K mX13_init (xQ (wC D P) K Z) τ 0 [(0, .ref x0), (1, .ref x1), (2, .int x2), (3, .ref x3)] [] := by
  unfold f_a_X13_init at hf
  refine xr_aload_n (pc := 0) 0 dX13_init_0 rfl rfl ?_
  refine xr_aload_n (pc := 1) 1 dX13_init_1 rfl rfl ?_
  obtain ⟨ht1, hf⟩ := xo_if hf
  refine yc_putFRs (pc := 2) 12 2 1202 ht1 (by decide) (by decide) (by decide) rfl rfl rfl (ty := (.object "BentRiver")) (by decide +kernel) rfl q1096 rfl rfl rfl dX13_init_2 ?_
  refine xr_aload_n (pc := 5) 0 dX13_init_5 rfl rfl ?_
  obtain ⟨τ2, hτ2, hf⟩ := xo_bind hf
  refine call_f_a_X8_init_X13_7 (pc := 6) hτ2 rfl (Nat.le_of_ble_eq_true rfl) (Nat.le_of_ble_eq_true rfl) (Nat.le_of_ble_eq_true rfl) dX13_init_6 ?_
  refine xr_aload_n (pc := 9) 0 dX13_init_9 rfl rfl ?_
  refine xr_iload_n (pc := 10) 2 dX13_init_10 rfl rfl ?_
  obtain ⟨ht3, hf⟩ := xo_if hf
  refine yc_putFI (pc := 11) 12 0 1200 ht3 (by decide) (by decide) (by decide) rfl rfl rfl (ty := .int) (by decide +kernel) rfl rfl q1094 rfl rfl rfl dX13_init_11 ?_
  refine xr_aload_n (pc := 14) 0 dX13_init_14 rfl rfl ?_
  refine xr_aload_n (pc := 15) 3 dX13_init_15 rfl rfl ?_
  refine yc_putFRs (pc := 16) 12 1 1201 ht3 (by decide) (by decide) (by decide) rfl rfl rfl (ty := (.object "BentRiver$Value")) (by decide +kernel) rfl q1095 rfl rfl rfl dX13_init_16 ?_
  rw [kr _ (Option.some.inj hf).symm]
  exact xr_vret (pc := 19) dX13_init_19 rfl
theorem met_f_a_X13_init (l : Launch) {D : CD} {P : CP} {x0 : Nat} {x1 : Nat} {x2 : Int32} {x3 : Nat} {τ : CS} {o_ : CS} (hf : f_a_X13_init x0 x1 x2 x3 τ = some o_) : xMet (wC D P) l yX13_init (ws_ yX13_init cX13_init 4 none) 2 120 (grc τ.1) (grs τ.1) [.ref x0, .ref x1, .int x2, .ref x3] τ (none, o_) := 
  xMet_of (by decide) (Nat.le_of_ble_eq_true rfl) KC_moved (RPC_of (g := τ.1) (c := τ.2)) (fun K _ _ _ => ok_f_a_X13_init hf (fun _ h => by rw [h]))
theorem hd_f_a_X14_init : yX14_init.cls ≠ "java/lang/invoke/MethodHandle" ∧ yX14_init.cls ≠ "java/lang/invoke/VarHandle" ∧ (parseMethodDescriptor yX14_init.desc).map (fun d => d.parameters.length) = some 0 := by decide +kernel
theorem call_f_a_X14_init_X16_1 {D : CD} {P : CP} {K : xK} {M : xM} {Q : State → Prop} {τ τ1 : CS} {x0 : Nat} {pc : Nat} {loc : List (Nat × Value)} {st : List Value} (hf : f_a_X14_init x0 τ = some τ1) (ho : M.2.2.1 = RX16) (hfr : 2 ≤ M.2.2.2.1) (hlo : 80 ≤ M.2.2.2.2.1) (hcat : (st.map fun v => v.category).sum ≤ 8) (d : decode M.1 pc = .ok (.invokespecial 1, 3)) (k : xV (wC D P) K M Q τ1 (pc + 3) loc st) : xV (wC D P) K M Q τ pc loc (.ref x0 :: st) :=
  yc_callIN (g := τ.1) (c := τ.2) (g1 := τ1.1) (c1 := τ1.2) (As := []) (rest := st) (met_f_a_X14_init K.2.1 hf) (lw_meth q1182) q1212 q1181 q205 rfl hd_f_a_X14_init ho hfr hlo rfl rfl hcat d k
abbrev mX16_init : xM := (cX16_init, 2, RX16, 2, 120, none, "<init>")
def f_a_X16_init (x0 : Nat) (x1 : Nat) (τ : CS) : Option CS :=
  (f_a_X14_init x0 τ).bind fun τ1 =>
  if gT τ1.1 x0 = 14 then
  some ((vR τ1.1 1400 x0 (some x1), τ1.2))
  else none
theorem ok_f_a_X16_init {D : CD} {P : CP} {K : xK} {Z : Option Value × CS} {x0 : Nat} {x1 : Nat} {τ : CS} {o_ : CS} (hf : f_a_X16_init x0 x1 τ = some o_) (kr : ∀ r_ : CS, o_ = r_ → Z = (none, r_)) : xV (wC D P) K mX16_init (xQ (wC D P) K Z) τ 0 [(0, .ref x0), (1, .ref x1)] [] := by
  unfold f_a_X16_init at hf
  refine xr_aload_n (pc := 0) 0 dX16_init_0 rfl rfl ?_
  obtain ⟨τ1, hτ1, hf⟩ := xo_bind hf
  refine call_f_a_X14_init_X16_1 (pc := 1) hτ1 rfl (Nat.le_of_ble_eq_true rfl) (Nat.le_of_ble_eq_true rfl) (Nat.le_of_ble_eq_true rfl) dX16_init_1 ?_
  refine xr_aload_n (pc := 4) 0 dX16_init_4 rfl rfl ?_
  refine xr_aload_n (pc := 5) 1 dX16_init_5 rfl rfl ?_
  obtain ⟨ht2, hf⟩ := xo_if hf
  refine yc_putFRs (pc := 6) 14 0 1400 ht2 (by decide) (by decide) (by decide) rfl rfl rfl (ty := (.object "BentRiver$Test")) (by decide +kernel) rfl q1213 rfl rfl rfl dX16_init_6 ?_
  rw [kr _ (Option.some.inj hf).symm]
  exact xr_vret (pc := 9) dX16_init_9 rfl
theorem met_f_a_X16_init (l : Launch) {D : CD} {P : CP} {x0 : Nat} {x1 : Nat} {τ : CS} {o_ : CS} (hf : f_a_X16_init x0 x1 τ = some o_) : xMet (wC D P) l yX16_init (ws_ yX16_init cX16_init 2 none) 2 120 (grc τ.1) (grs τ.1) [.ref x0, .ref x1] τ (none, o_) := 
  xMet_of (by decide) (Nat.le_of_ble_eq_true rfl) KC_moved (RPC_of (g := τ.1) (c := τ.2)) (fun K _ _ _ => ok_f_a_X16_init hf (fun _ h => by rw [h]))
theorem call_f_a_X14_init_X18_1 {D : CD} {P : CP} {K : xK} {M : xM} {Q : State → Prop} {τ τ1 : CS} {x0 : Nat} {pc : Nat} {loc : List (Nat × Value)} {st : List Value} (hf : f_a_X14_init x0 τ = some τ1) (ho : M.2.2.1 = RX18) (hfr : 2 ≤ M.2.2.2.1) (hlo : 80 ≤ M.2.2.2.2.1) (hcat : (st.map fun v => v.category).sum ≤ 8) (d : decode M.1 pc = .ok (.invokespecial 1, 3)) (k : xV (wC D P) K M Q τ1 (pc + 3) loc st) : xV (wC D P) K M Q τ pc loc (.ref x0 :: st) :=
  yc_callIN (g := τ.1) (c := τ.2) (g1 := τ1.1) (c1 := τ1.2) (As := []) (rest := st) (met_f_a_X14_init K.2.1 hf) (lw_meth q1182) q1230 q1181 q205 rfl hd_f_a_X14_init ho hfr hlo rfl rfl hcat d k
abbrev mX18_init : xM := (cX18_init, 4, RX18, 2, 120, none, "<init>")
def f_a_X18_init (x0 : Nat) (x1 : Nat) (x2 : Int32) (x3 : Nat) (τ : CS) : Option CS :=
  (f_a_X14_init x0 τ).bind fun τ1 =>
  if gT τ1.1 x0 = 16 then
  some ((vR (vR τ1.1 1600 x0 (some x1)) 1601 x0 (some x3), (uI τ1.2 1602 x0 x2)))
  else none
theorem ok_f_a_X18_init {D : CD} {P : CP} {K : xK} {Z : Option Value × CS} {x0 : Nat} {x1 : Nat} {x2 : Int32} {x3 : Nat} {τ : CS} {o_ : CS} (hf : f_a_X18_init x0 x1 x2 x3 τ = some o_) (kr : ∀ r_ : CS, o_ = r_ → Z = (none, r_)) : xV (wC D P) K mX18_init (xQ (wC D P) K Z) τ 0 [(0, .ref x0), (1, .ref x1), (2, .int x2), (3, .ref x3)] [] := by
  unfold f_a_X18_init at hf
  refine xr_aload_n (pc := 0) 0 dX18_init_0 rfl rfl ?_
  obtain ⟨τ1, hτ1, hf⟩ := xo_bind hf
  refine call_f_a_X14_init_X18_1 (pc := 1) hτ1 rfl (Nat.le_of_ble_eq_true rfl) (Nat.le_of_ble_eq_true rfl) (Nat.le_of_ble_eq_true rfl) dX18_init_1 ?_
  refine xr_aload_n (pc := 4) 0 dX18_init_4 rfl rfl ?_
  refine xr_aload_n (pc := 5) 1 dX18_init_5 rfl rfl ?_
  obtain ⟨ht2, hf⟩ := xo_if hf
  refine yc_putFRs (pc := 6) 16 0 1600 ht2 (by decide) (by decide) (by decide) rfl rfl rfl (ty := (.object "BentRiver$Value")) (by decide +kernel) rfl q1231 rfl rfl rfl dX18_init_6 ?_
  refine xr_aload_n (pc := 9) 0 dX18_init_9 rfl rfl ?_
  refine xr_iload_n (pc := 10) 2 dX18_init_10 rfl rfl ?_
  refine yc_putFI (pc := 11) 16 2 1602 ht2 (by decide) (by decide) (by decide) rfl rfl rfl (ty := .int) (by decide +kernel) rfl rfl q1233 rfl rfl rfl dX18_init_11 ?_
  refine xr_aload_n (pc := 14) 0 dX18_init_14 rfl rfl ?_
  refine xr_aload_n (pc := 15) 3 dX18_init_15 rfl rfl ?_
  refine yc_putFRs (pc := 16) 16 1 1601 ht2 (by decide) (by decide) (by decide) rfl rfl rfl (ty := (.object "BentRiver$Value")) (by decide +kernel) rfl q1232 rfl rfl rfl dX18_init_16 ?_
  rw [kr _ (Option.some.inj hf).symm]
  exact xr_vret (pc := 19) dX18_init_19 rfl
theorem met_f_a_X18_init (l : Launch) {D : CD} {P : CP} {x0 : Nat} {x1 : Nat} {x2 : Int32} {x3 : Nat} {τ : CS} {o_ : CS} (hf : f_a_X18_init x0 x1 x2 x3 τ = some o_) : xMet (wC D P) l yX18_init (ws_ yX18_init cX18_init 4 none) 2 120 (grc τ.1) (grs τ.1) [.ref x0, .ref x1, .int x2, .ref x3] τ (none, o_) := 
  xMet_of (by decide) (Nat.le_of_ble_eq_true rfl) KC_moved (RPC_of (g := τ.1) (c := τ.2)) (fun K _ _ _ => ok_f_a_X18_init hf (fun _ h => by rw [h]))
theorem call_f_a_X14_init_X17_1 {D : CD} {P : CP} {K : xK} {M : xM} {Q : State → Prop} {τ τ1 : CS} {x0 : Nat} {pc : Nat} {loc : List (Nat × Value)} {st : List Value} (hf : f_a_X14_init x0 τ = some τ1) (ho : M.2.2.1 = RX17) (hfr : 2 ≤ M.2.2.2.1) (hlo : 80 ≤ M.2.2.2.2.1) (hcat : (st.map fun v => v.category).sum ≤ 8) (d : decode M.1 pc = .ok (.invokespecial 1, 3)) (k : xV (wC D P) K M Q τ1 (pc + 3) loc st) : xV (wC D P) K M Q τ pc loc (.ref x0 :: st) :=
  yc_callIN (g := τ.1) (c := τ.2) (g1 := τ1.1) (c1 := τ1.2) (As := []) (rest := st) (met_f_a_X14_init K.2.1 hf) (lw_meth q1182) q1223 q1181 q205 rfl hd_f_a_X14_init ho hfr hlo rfl rfl hcat d k
abbrev mX17_init : xM := (cX17_init, 1, RX17, 2, 120, none, "<init>")
def f_a_X17_init (x0 : Nat) (τ : CS) : Option CS :=
  (f_a_X14_init x0 τ).bind fun τ1 =>
  some (τ1)
theorem ok_f_a_X17_init {D : CD} {P : CP} {K : xK} {Z : Option Value × CS} {x0 : Nat} {τ : CS} {o_ : CS} (hf : f_a_X17_init x0 τ = some o_) (kr : ∀ r_ : CS, o_ = r_ → Z = (none, r_)) : xV (wC D P) K mX17_init (xQ (wC D P) K Z) τ 0 [(0, .ref x0)] [] := by
  unfold f_a_X17_init at hf
  refine xr_aload_n (pc := 0) 0 dX17_init_0 rfl rfl ?_
  obtain ⟨τ1, hτ1, hf⟩ := xo_bind hf
  refine call_f_a_X14_init_X17_1 (pc := 1) hτ1 rfl (Nat.le_of_ble_eq_true rfl) (Nat.le_of_ble_eq_true rfl) (Nat.le_of_ble_eq_true rfl) dX17_init_1 ?_
  rw [kr _ (Option.some.inj hf).symm]
  exact xr_vret (pc := 4) dX17_init_4 rfl
theorem met_f_a_X17_init (l : Launch) {D : CD} {P : CP} {x0 : Nat} {τ : CS} {o_ : CS} (hf : f_a_X17_init x0 τ = some o_) : xMet (wC D P) l yX17_init (ws_ yX17_init cX17_init 1 none) 2 120 (grc τ.1) (grs τ.1) [.ref x0] τ (none, o_) := 
  xMet_of (by decide) (Nat.le_of_ble_eq_true rfl) KC_moved (RPC_of (g := τ.1) (c := τ.2)) (fun K _ _ _ => ok_f_a_X17_init hf (fun _ h => by rw [h]))
abbrev mX7_init : xM := (cX7_init, 7, RX7, 1, 60, none, "<init>")
def f_a_X7_init (x0 : Nat) (x1 : Nat) (x2 : Int32) (x3 : Int32) (x4 : Int32) (x5 : Int32) (x6 : Int32) (τ : CS) : Option CS :=
  if gT τ.1 x0 = 7 then
  some (((vR τ.1 700 x0 (some x1)), uI (uI (uI (uI (uI τ.2 701 x0 x2) 702 x0 x3) 703 x0 x4) 704 x0 x5) 705 x0 x6))
  else none
theorem ok_f_a_X7_init {D : CD} {P : CP} {K : xK} {Z : Option Value × CS} {x0 : Nat} {x1 : Nat} {x2 : Int32} {x3 : Int32} {x4 : Int32} {x5 : Int32} {x6 : Int32} {τ : CS} {o_ : CS} (hf : f_a_X7_init x0 x1 x2 x3 x4 x5 x6 τ = some o_) (kr : ∀ r_ : CS, o_ = r_ → Z = (none, r_)) : xV (wC D P) K mX7_init (xQ (wC D P) K Z) τ 0 [(0, .ref x0), (1, .ref x1), (2, .int x2), (3, .int x3), (4, .int x4), (5, .int x5), (6, .int x6)] [] := by
  unfold f_a_X7_init at hf
  refine xr_aload_n (pc := 0) 0 dX7_init_0 rfl rfl ?_
  refine xr_objInit (pc := 1) q868 rfl (Nat.le_of_ble_eq_true rfl) (Nat.le_of_ble_eq_true rfl) (Nat.le_of_ble_eq_true rfl) dX7_init_1 ?_
  refine xr_aload_n (pc := 4) 0 dX7_init_4 rfl rfl ?_
  refine xr_aload_n (pc := 5) 1 dX7_init_5 rfl rfl ?_
  obtain ⟨ht1, hf⟩ := xo_if hf
  refine yc_putFRs (pc := 6) 7 0 700 ht1 (by decide) (by decide) (by decide) rfl rfl rfl (ty := (.object "java/lang/String")) (by decide +kernel) rfl q869 rfl rfl rfl dX7_init_6 ?_
  refine xr_aload_n (pc := 9) 0 dX7_init_9 rfl rfl ?_
  refine xr_iload_n (pc := 10) 2 dX7_init_10 rfl rfl ?_
  refine yc_putFI (pc := 11) 7 1 701 ht1 (by decide) (by decide) (by decide) rfl rfl rfl (ty := .int) (by decide +kernel) rfl rfl q871 rfl rfl rfl dX7_init_11 ?_
  refine xr_aload_n (pc := 14) 0 dX7_init_14 rfl rfl ?_
  refine xr_iload_n (pc := 15) 3 dX7_init_15 rfl rfl ?_
  refine yc_putFI (pc := 16) 7 2 702 ht1 (by decide) (by decide) (by decide) rfl rfl rfl (ty := .int) (by decide +kernel) rfl rfl q874 rfl rfl rfl dX7_init_16 ?_
  refine xr_aload_n (pc := 19) 0 dX7_init_19 rfl rfl ?_
  refine xr_iload (pc := 20) 4 dX7_init_20 rfl ?_
  refine yc_putFI (pc := 22) 7 3 703 ht1 (by decide) (by decide) (by decide) rfl rfl rfl (ty := .int) (by decide +kernel) rfl rfl q877 rfl rfl rfl dX7_init_22 ?_
  refine xr_aload_n (pc := 25) 0 dX7_init_25 rfl rfl ?_
  refine xr_iload (pc := 26) 5 dX7_init_26 rfl ?_
  refine yc_putFI (pc := 28) 7 4 704 ht1 (by decide) (by decide) (by decide) rfl rfl rfl (ty := .int) (by decide +kernel) rfl rfl q880 rfl rfl rfl dX7_init_28 ?_
  refine xr_aload_n (pc := 31) 0 dX7_init_31 rfl rfl ?_
  refine xr_iload (pc := 32) 6 dX7_init_32 rfl ?_
  refine yc_putFI (pc := 34) 7 5 705 ht1 (by decide) (by decide) (by decide) rfl rfl rfl (ty := .int) (by decide +kernel) rfl rfl q883 rfl rfl rfl dX7_init_34 ?_
  rw [kr _ (Option.some.inj hf).symm]
  exact xr_vret (pc := 37) dX7_init_37 rfl
theorem met_f_a_X7_init (l : Launch) {D : CD} {P : CP} {x0 : Nat} {x1 : Nat} {x2 : Int32} {x3 : Int32} {x4 : Int32} {x5 : Int32} {x6 : Int32} {τ : CS} {o_ : CS} (hf : f_a_X7_init x0 x1 x2 x3 x4 x5 x6 τ = some o_) : xMet (wC D P) l yX7_init (ws_ yX7_init cX7_init 7 none) 1 60 (grc τ.1) (grs τ.1) [.ref x0, .ref x1, .int x2, .int x3, .int x4, .int x5, .int x6] τ (none, o_) := 
  xMet_of (by decide) (Nat.le_of_ble_eq_true rfl) KC_moved (RPC_of (g := τ.1) (c := τ.2)) (fun K _ _ _ => ok_f_a_X7_init hf (fun _ h => by rw [h]))
abbrev mX4_init : xM := (cX4_init, 1, RX4, 1, 60, none, "<init>")
def f_a_X4_init (x0 : Nat) (τ : CS) : Option CS :=
  xbd (aArr 101 (18 : Int32) τ) fun r1 τ1 =>
  if gT τ1.1 x0 = 5 then
  some ((vR τ1.1 500 x0 (some r1), τ1.2))
  else none
theorem ok_f_a_X4_init {D : CD} {P : CP} {K : xK} {Z : Option Value × CS} {x0 : Nat} {τ : CS} {o_ : CS} (hf : f_a_X4_init x0 τ = some o_) (kr : ∀ r_ : CS, o_ = r_ → Z = (none, r_)) : xV (wC D P) K mX4_init (xQ (wC D P) K Z) τ 0 [(0, .ref x0)] [] := by
  unfold f_a_X4_init at hf
  refine xr_aload_n (pc := 0) 0 dX4_init_0 rfl rfl ?_
  refine xr_objInit (pc := 1) q418 rfl (Nat.le_of_ble_eq_true rfl) (Nat.le_of_ble_eq_true rfl) (Nat.le_of_ble_eq_true rfl) dX4_init_1 ?_
  refine xr_aload_n (pc := 4) 0 dX4_init_4 rfl rfl ?_
  refine xr_bipush (pc := 5) dX4_init_5 xcb_18 ?_
  obtain ⟨r1, τ1, hτ1, hf⟩ := xo_bd hf
  refine yc_aArr (pc := 7) 101 (by decide) (by decide) rfl (Or.inr rfl) (by decide +kernel) (by decide) q426 hτ1 dX4_init_7 ?_
  obtain ⟨ht2, hf⟩ := xo_if hf
  refine yc_putFRs (pc := 9) 5 0 500 ht2 (by decide) (by decide) (by decide) rfl rfl rfl (ty := (.array .long)) (by decide +kernel) rfl q419 rfl rfl rfl dX4_init_9 ?_
  rw [kr _ (Option.some.inj hf).symm]
  exact xr_vret (pc := 12) dX4_init_12 rfl
theorem met_f_a_X4_init (l : Launch) {D : CD} {P : CP} {x0 : Nat} {τ : CS} {o_ : CS} (hf : f_a_X4_init x0 τ = some o_) : xMet (wC D P) l yX4_init (ws_ yX4_init cX4_init 1 none) 1 60 (grc τ.1) (grs τ.1) [.ref x0] τ (none, o_) := 
  xMet_of (by decide) (Nat.le_of_ble_eq_true rfl) KC_moved (RPC_of (g := τ.1) (c := τ.2)) (fun K _ _ _ => ok_f_a_X4_init hf (fun _ h => by rw [h]))
theorem hd_f_a_X3_init : yX3_init.cls ≠ "java/lang/invoke/MethodHandle" ∧ yX3_init.cls ≠ "java/lang/invoke/VarHandle" ∧ (parseMethodDescriptor yX3_init.desc).map (fun d => d.parameters.length) = some 0 := by decide +kernel
theorem call_f_a_X3_init_X2_17 {D : CD} {P : CP} {K : xK} {M : xM} {Q : State → Prop} {τ τ1 : CS} {x0 : Nat} {pc : Nat} {loc : List (Nat × Value)} {st : List Value} (hf : f_a_X3_init x0 τ = some τ1) (ho : M.2.2.1 = RX2) (hfr : 5 ≤ M.2.2.2.1) (hlo : 260 ≤ M.2.2.2.2.1) (hcat : (st.map fun v => v.category).sum ≤ 8) (d : decode M.1 pc = .ok (.invokespecial 17, 3)) (k : xV (wC D P) K M Q τ1 (pc + 3) loc st) : xV (wC D P) K M Q τ pc loc (.ref x0 :: st) :=
  yc_callI (g := τ.1) (c := τ.2) (g1 := τ1.1) (c1 := τ1.2) (As := []) (rest := st) (met_f_a_X3_init K.2.1 hf) (lw_meth q356) q354 q355 q183 rfl hd_f_a_X3_init ho hfr hlo rfl rfl hcat d k
abbrev mX2_init : xM := (cX2_init, 2, RX2, 5, 300, none, "<init>")
def f_a_X2_init (x0 : Nat) (x1 : Nat) (τ : CS) : Option CS :=
  if gT τ.1 x0 = 3 then
  xbd (aNew 4 (vR τ.1 307 x0 (some x1), τ.2)) fun r2 τ2 =>
  (f_a_X3_init r2 τ2).bind fun τ3 =>
  if gT τ3.1 x0 = 3 then
  some ((vR τ3.1 300 x0 (some r2), τ3.2))
  else none
  else none
theorem ok_f_a_X2_init {D : CD} {P : CP} {K : xK} {Z : Option Value × CS} {x0 : Nat} {x1 : Nat} {τ : CS} {o_ : CS} (hf : f_a_X2_init x0 x1 τ = some o_) (kr : ∀ r_ : CS, o_ = r_ → Z = (none, r_)) : xV (wC D P) K mX2_init (xQ (wC D P) K Z) τ 0 [(0, .ref x0), (1, .ref x1)] [] := by
  unfold f_a_X2_init at hf
  refine xr_aload_n (pc := 0) 0 dX2_init_0 rfl rfl ?_
  refine xr_aload_n (pc := 1) 1 dX2_init_1 rfl rfl ?_
  obtain ⟨ht1, hf⟩ := xo_if hf
  refine yc_putFRs (pc := 2) 3 7 307 ht1 (by decide) (by decide) (by decide) rfl rfl rfl (ty := (.object "BentRiver")) (by decide +kernel) rfl q395 rfl rfl rfl dX2_init_2 ?_
  refine xr_aload_n (pc := 5) 0 dX2_init_5 rfl rfl ?_
  refine xr_objInit (pc := 6) q314 rfl (Nat.le_of_ble_eq_true rfl) (Nat.le_of_ble_eq_true rfl) (Nat.le_of_ble_eq_true rfl) dX2_init_6 ?_
  refine xr_aload_n (pc := 9) 0 dX2_init_9 rfl rfl ?_
  obtain ⟨r2, τ2, hτ2, hf⟩ := xo_bd hf
  refine yc_aNew (pc := 10) 4 (by decide) (by decide) q315 q316 q183 hτ2 rfl dX2_init_10 ?_
  refine xr_dup (pc := 13) dX2_init_13 rfl ?_
  obtain ⟨τ3, hτ3, hf⟩ := xo_bind hf
  refine call_f_a_X3_init_X2_17 (pc := 14) hτ3 rfl (Nat.le_of_ble_eq_true rfl) (Nat.le_of_ble_eq_true rfl) (Nat.le_of_ble_eq_true rfl) dX2_init_14 ?_
  obtain ⟨ht4, hf⟩ := xo_if hf
  refine yc_putFRs (pc := 17) 3 0 300 ht4 (by decide) (by decide) (by decide) rfl rfl rfl (ty := (.object "BentRiver$Fault")) (by decide +kernel) rfl q388 rfl rfl rfl dX2_init_17 ?_
  rw [kr _ (Option.some.inj hf).symm]
  exact xr_vret (pc := 20) dX2_init_20 rfl
theorem met_f_a_X2_init (l : Launch) {D : CD} {P : CP} {x0 : Nat} {x1 : Nat} {τ : CS} {o_ : CS} (hf : f_a_X2_init x0 x1 τ = some o_) : xMet (wC D P) l yX2_init (ws_ yX2_init cX2_init 2 none) 5 300 (grc τ.1) (grs τ.1) [.ref x0, .ref x1] τ (none, o_) := 
  xMet_of (by decide) (Nat.le_of_ble_eq_true rfl) KC_moved (RPC_of (g := τ.1) (c := τ.2)) (fun K _ _ _ => ok_f_a_X2_init hf (fun _ h => by rw [h]))
abbrev mX5_init : xM := (cX5_init, 2, RX5, 1, 60, none, "<init>")
def f_a_X5_init (x0 : Nat) (x1 : Nat) (τ : CS) : Option CS :=
  if gT τ.1 x0 = 6 then
  xbd (aArr 100 (10 : Int32) (vR τ.1 610 x0 (some x1), τ.2)) fun r2 τ2 =>
  if gT τ2.1 x0 = 6 then
  xbd (aArr 100 (5 : Int32) (vR τ2.1 603 x0 (some r2), τ2.2)) fun r4 τ4 =>
  if gT τ4.1 x0 = 6 then
  xbd (aArr 104 (5 : Int32) (vR τ4.1 604 x0 (some r4), τ4.2)) fun r6 τ6 =>
  if gT τ6.1 x0 = 6 then
  xbd (aMul 105 (10 : Int32) (8 : Int32) (vR τ6.1 605 x0 (some r6), τ6.2)) fun r8 τ8 =>
  if gT τ8.1 x0 = 6 then
  xbd (aMul 105 (10 : Int32) (8 : Int32) (vR τ8.1 606 x0 (some r8), τ8.2)) fun r10 τ10 =>
  if gT τ10.1 x0 = 6 then
  xbd (aMul 107 (40 : Int32) (3 : Int32) (vR τ10.1 607 x0 (some r10), τ10.2)) fun r12 τ12 =>
  if gT τ12.1 x0 = 6 then
  xbd (aArr 100 (5 : Int32) (vR τ12.1 608 x0 (some r12), τ12.2)) fun r14 τ14 =>
  if gT τ14.1 x0 = 6 then
  some ((vR τ14.1 609 x0 (some r14), τ14.2))
  else none
  else none
  else none
  else none
  else none
  else none
  else none
  else none
theorem ok_f_a_X5_init {D : CD} {P : CP} {K : xK} {Z : Option Value × CS} {x0 : Nat} {x1 : Nat} {τ : CS} {o_ : CS} (hf : f_a_X5_init x0 x1 τ = some o_) (kr : ∀ r_ : CS, o_ = r_ → Z = (none, r_)) : xV (wC D P) K mX5_init (xQ (wC D P) K Z) τ 0 [(0, .ref x0), (1, .ref x1)] [] := by
  unfold f_a_X5_init at hf
  refine xr_aload_n (pc := 0) 0 dX5_init_0 rfl rfl ?_
  refine xr_aload_n (pc := 1) 1 dX5_init_1 rfl rfl ?_
  obtain ⟨ht1, hf⟩ := xo_if hf
  refine yc_putFRs (pc := 2) 6 10 610 ht1 (by decide) (by decide) (by decide) rfl rfl rfl (ty := (.object "BentRiver")) (by decide +kernel) rfl q454 rfl rfl rfl dX5_init_2 ?_
  refine xr_aload_n (pc := 5) 0 dX5_init_5 rfl rfl ?_
  refine xr_objInit (pc := 6) q432 rfl (Nat.le_of_ble_eq_true rfl) (Nat.le_of_ble_eq_true rfl) (Nat.le_of_ble_eq_true rfl) dX5_init_6 ?_
  refine xr_aload_n (pc := 9) 0 dX5_init_9 rfl rfl ?_
  refine xr_bipush (pc := 10) dX5_init_10 xcb_10 ?_
  obtain ⟨r2, τ2, hτ2, hf⟩ := xo_bd hf
  refine yc_aArr (pc := 12) 100 (by decide) (by decide) rfl (Or.inl rfl) (by decide +kernel) (by decide) q256 hτ2 dX5_init_12 ?_
  obtain ⟨ht3, hf⟩ := xo_if hf
  refine yc_putFRs (pc := 14) 6 3 603 ht3 (by decide) (by decide) (by decide) rfl rfl rfl (ty := (.array .int)) (by decide +kernel) rfl q440 rfl rfl rfl dX5_init_14 ?_
  refine xr_aload_n (pc := 17) 0 dX5_init_17 rfl rfl ?_
  refine xr_iconst (pc := 18) dX5_init_18 xci_5 ?_
  obtain ⟨r4, τ4, hτ4, hf⟩ := xo_bd hf
  refine yc_aArr (pc := 19) 100 (by decide) (by decide) rfl (Or.inl rfl) (by decide +kernel) (by decide) q256 hτ4 dX5_init_19 ?_
  obtain ⟨ht5, hf⟩ := xo_if hf
  refine yc_putFRs (pc := 21) 6 4 604 ht5 (by decide) (by decide) (by decide) rfl rfl rfl (ty := (.array .int)) (by decide +kernel) rfl q442 rfl rfl rfl dX5_init_21 ?_
  refine xr_aload_n (pc := 24) 0 dX5_init_24 rfl rfl ?_
  refine xr_iconst (pc := 25) dX5_init_25 xci_5 ?_
  obtain ⟨r6, τ6, hτ6, hf⟩ := xo_bd hf
  refine yc_aArr (pc := 26) 104 (by decide) (by decide) rfl (Or.inl rfl) (by decide +kernel) (by decide) q478 hτ6 dX5_init_26 ?_
  obtain ⟨ht7, hf⟩ := xo_if hf
  refine yc_putFRs (pc := 28) 6 5 605 ht7 (by decide) (by decide) (by decide) rfl rfl rfl (ty := (.array .boolean)) (by decide +kernel) rfl q444 rfl rfl rfl dX5_init_28 ?_
  refine xr_aload_n (pc := 31) 0 dX5_init_31 rfl rfl ?_
  refine xr_bipush (pc := 32) dX5_init_32 xcb_10 ?_
  refine xr_bipush (pc := 34) dX5_init_34 xcb_8 ?_
  obtain ⟨r8, τ8, hτ8, hf⟩ := xo_bd hf
  refine yc_aMul (pc := 36) 105 (by decide) q433 q256 hτ8 rfl dX5_init_36 ?_
  obtain ⟨ht9, hf⟩ := xo_if hf
  refine yc_putFRs (pc := 40) 6 6 606 ht9 (by decide) (by decide) (by decide) rfl rfl rfl (ty := (.array (.array .int))) (by decide +kernel) rfl q446 rfl rfl rfl dX5_init_40 ?_
  refine xr_aload_n (pc := 43) 0 dX5_init_43 rfl rfl ?_
  refine xr_bipush (pc := 44) dX5_init_44 xcb_10 ?_
  refine xr_bipush (pc := 46) dX5_init_46 xcb_8 ?_
  obtain ⟨r10, τ10, hτ10, hf⟩ := xo_bd hf
  refine yc_aMul (pc := 48) 105 (by decide) q433 q256 hτ10 rfl dX5_init_48 ?_
  obtain ⟨ht11, hf⟩ := xo_if hf
  refine yc_putFRs (pc := 52) 6 7 607 ht11 (by decide) (by decide) (by decide) rfl rfl rfl (ty := (.array (.array .int))) (by decide +kernel) rfl q448 rfl rfl rfl dX5_init_52 ?_
  refine xr_aload_n (pc := 55) 0 dX5_init_55 rfl rfl ?_
  refine xr_bipush (pc := 56) dX5_init_56 xcb_40 ?_
  refine xr_iconst (pc := 58) dX5_init_58 xci_3 ?_
  obtain ⟨r12, τ12, hτ12, hf⟩ := xo_bd hf
  refine yc_aMul (pc := 59) 107 (by decide) q433 q256 hτ12 rfl dX5_init_59 ?_
  obtain ⟨ht13, hf⟩ := xo_if hf
  refine yc_putFRs (pc := 63) 6 8 608 ht13 (by decide) (by decide) (by decide) rfl rfl rfl (ty := (.array (.array .int))) (by decide +kernel) rfl q450 rfl rfl rfl dX5_init_63 ?_
  refine xr_aload_n (pc := 66) 0 dX5_init_66 rfl rfl ?_
  refine xr_iconst (pc := 67) dX5_init_67 xci_5 ?_
  obtain ⟨r14, τ14, hτ14, hf⟩ := xo_bd hf
  refine yc_aArr (pc := 68) 100 (by decide) (by decide) rfl (Or.inl rfl) (by decide +kernel) (by decide) q256 hτ14 dX5_init_68 ?_
  obtain ⟨ht15, hf⟩ := xo_if hf
  refine yc_putFRs (pc := 70) 6 9 609 ht15 (by decide) (by decide) (by decide) rfl rfl rfl (ty := (.array .int)) (by decide +kernel) rfl q452 rfl rfl rfl dX5_init_70 ?_
  rw [kr _ (Option.some.inj hf).symm]
  exact xr_vret (pc := 73) dX5_init_73 rfl
theorem met_f_a_X5_init (l : Launch) {D : CD} {P : CP} {x0 : Nat} {x1 : Nat} {τ : CS} {o_ : CS} (hf : f_a_X5_init x0 x1 τ = some o_) : xMet (wC D P) l yX5_init (ws_ yX5_init cX5_init 2 none) 1 60 (grc τ.1) (grs τ.1) [.ref x0, .ref x1] τ (none, o_) := 
  xMet_of (by decide) (Nat.le_of_ble_eq_true rfl) KC_moved (RPC_of (g := τ.1) (c := τ.2)) (fun K _ _ _ => ok_f_a_X5_init hf (fun _ h => by rw [h]))
abbrev mJ0_init : xM := (cJ0_init, 1, RJ0, 1, 60, none, "<init>")
def f_a_J0_init (x0 : Nat) (τ : CS) : Option CS :=
  some (τ)
theorem ok_f_a_J0_init {D : CD} {P : CP} {K : xK} {Z : Option Value × CS} {x0 : Nat} {τ : CS} {o_ : CS} (hf : f_a_J0_init x0 τ = some o_) (kr : ∀ r_ : CS, o_ = r_ → Z = (none, r_)) : xV (wC D P) K mJ0_init (xQ (wC D P) K Z) τ 0 [(0, .ref x0)] [] := by
  unfold f_a_J0_init at hf
  refine xr_aload_n (pc := 0) 0 dJ0_init_0 rfl rfl ?_
  refine xr_objInit (pc := 1) q239 rfl (Nat.le_of_ble_eq_true rfl) (Nat.le_of_ble_eq_true rfl) (Nat.le_of_ble_eq_true rfl) dJ0_init_1 ?_
  rw [kr _ (Option.some.inj hf).symm]
  exact xr_vret (pc := 4) dJ0_init_4 rfl
theorem met_f_a_J0_init (l : Launch) {D : CD} {P : CP} {x0 : Nat} {τ : CS} {o_ : CS} (hf : f_a_J0_init x0 τ = some o_) : xMet (wC D P) l yJ0_init (ws_ yJ0_init cJ0_init 1 none) 1 60 (grc τ.1) (grs τ.1) [.ref x0] τ (none, o_) := 
  xMet_of (by decide) (Nat.le_of_ble_eq_true rfl) KC_moved (RPC_of (g := τ.1) (c := τ.2)) (fun K _ _ _ => ok_f_a_J0_init hf (fun _ h => by rw [h]))
theorem hd_f_a_J0_init : yJ0_init.cls ≠ "java/lang/invoke/MethodHandle" ∧ yJ0_init.cls ≠ "java/lang/invoke/VarHandle" ∧ (parseMethodDescriptor yJ0_init.desc).map (fun d => d.parameters.length) = some 0 := by decide +kernel
theorem call_f_a_J0_init_J1_1 {D : CD} {P : CP} {K : xK} {M : xM} {Q : State → Prop} {τ τ1 : CS} {x0 : Nat} {pc : Nat} {loc : List (Nat × Value)} {st : List Value} (hf : f_a_J0_init x0 τ = some τ1) (ho : M.2.2.1 = RJ1) (hfr : 2 ≤ M.2.2.2.1) (hlo : 80 ≤ M.2.2.2.2.1) (hcat : (st.map fun v => v.category).sum ≤ 8) (d : decode M.1 pc = .ok (.invokespecial 1, 3)) (k : xV (wC D P) K M Q τ1 (pc + 3) loc st) : xV (wC D P) K M Q τ pc loc (.ref x0 :: st) :=
  yc_callI (g := τ.1) (c := τ.2) (g1 := τ1.1) (c1 := τ1.2) (As := []) (rest := st) (met_f_a_J0_init K.2.1 hf) (lw_meth q238) q236 q237 q176 rfl hd_f_a_J0_init ho hfr hlo rfl rfl hcat d k
abbrev mJ1_init : xM := (cJ1_init, 1, RJ1, 2, 120, none, "<init>")
def f_a_J1_init (x0 : Nat) (τ : CS) : Option CS :=
  (f_a_J0_init x0 τ).bind fun τ1 =>
  if gT τ1.1 x0 = 18 then
  some ((τ1.1, uI τ1.2 1800 x0 0))
  else none
theorem ok_f_a_J1_init {D : CD} {P : CP} {K : xK} {Z : Option Value × CS} {x0 : Nat} {τ : CS} {o_ : CS} (hf : f_a_J1_init x0 τ = some o_) (kr : ∀ r_ : CS, o_ = r_ → Z = (none, r_)) : xV (wC D P) K mJ1_init (xQ (wC D P) K Z) τ 0 [(0, .ref x0)] [] := by
  unfold f_a_J1_init at hf
  refine xr_aload_n (pc := 0) 0 dJ1_init_0 rfl rfl ?_
  obtain ⟨τ1, hτ1, hf⟩ := xo_bind hf
  refine call_f_a_J0_init_J1_1 (pc := 1) hτ1 rfl (Nat.le_of_ble_eq_true rfl) (Nat.le_of_ble_eq_true rfl) (Nat.le_of_ble_eq_true rfl) dJ1_init_1 ?_
  refine xr_aload_n (pc := 4) 0 dJ1_init_4 rfl rfl ?_
  refine xr_iconst (pc := 5) dJ1_init_5 xci_0 ?_
  obtain ⟨ht2, hf⟩ := xo_if hf
  refine yc_putI (pc := 6) 18 0 1800 ht2 (by decide) (by decide) (by decide) rfl rfl rfl (ty := .int) (by decide +kernel) rfl rfl q246 (ys_eq rfl) rfl dJ1_init_6 ?_
  rw [kr _ (Option.some.inj hf).symm]
  exact xr_vret (pc := 9) dJ1_init_9 rfl
theorem met_f_a_J1_init (l : Launch) {D : CD} {P : CP} {x0 : Nat} {τ : CS} {o_ : CS} (hf : f_a_J1_init x0 τ = some o_) : xMet (wC D P) l yJ1_init (ws_ yJ1_init cJ1_init 1 none) 2 120 (grc τ.1) (grs τ.1) [.ref x0] τ (none, o_) := 
  xMet_of (by decide) (Nat.le_of_ble_eq_true rfl) KC_moved (RPC_of (g := τ.1) (c := τ.2)) (fun K _ _ _ => ok_f_a_J1_init hf (fun _ h => by rw [h]))
theorem hd_f_a_J1_init : yJ1_init.cls ≠ "java/lang/invoke/MethodHandle" ∧ yJ1_init.cls ≠ "java/lang/invoke/VarHandle" ∧ (parseMethodDescriptor yJ1_init.desc).map (fun d => d.parameters.length) = some 0 := by decide +kernel
theorem call_f_a_J1_init_J2_1 {D : CD} {P : CP} {K : xK} {M : xM} {Q : State → Prop} {τ τ1 : CS} {x0 : Nat} {pc : Nat} {loc : List (Nat × Value)} {st : List Value} (hf : f_a_J1_init x0 τ = some τ1) (ho : M.2.2.1 = RJ2) (hfr : 3 ≤ M.2.2.2.1) (hlo : 140 ≤ M.2.2.2.2.1) (hcat : (st.map fun v => v.category).sum ≤ 8) (d : decode M.1 pc = .ok (.invokespecial 1, 3)) (k : xV (wC D P) K M Q τ1 (pc + 3) loc st) : xV (wC D P) K M Q τ pc loc (.ref x0 :: st) :=
  yc_callI (g := τ.1) (c := τ.2) (g1 := τ1.1) (c1 := τ1.2) (As := []) (rest := st) (met_f_a_J1_init K.2.1 hf) (lw_meth q235) q233 q234 q177 rfl hd_f_a_J1_init ho hfr hlo rfl rfl hcat d k
abbrev mJ2_init : xM := (cJ2_init, 2, RJ2, 3, 180, none, "<init>")
def f_a_J2_init (x0 : Nat) (x1 : Int32) (τ : CS) : Option CS :=
  (f_a_J1_init x0 τ).bind fun τ1 =>
  if x1 ≤ 0 then
  if x1 = 0 then
  if gT τ1.1 x0 = 18 then
  some ((τ1.1, uR τ1.2 1801 x0 (some (gA τ1.1 0 4))))
  else none
  else
  none
  else
  xbd (aArr 109 x1 τ1) fun r3 τ3 =>
  if gT τ3.1 x0 = 18 then
  some ((τ3.1, uR τ3.2 1801 x0 (some r3)))
  else none
theorem ok_f_a_J2_init {D : CD} {P : CP} {K : xK} {Z : Option Value × CS} {x0 : Nat} {x1 : Int32} {τ : CS} {o_ : CS} (hf : f_a_J2_init x0 x1 τ = some o_) (kr : ∀ r_ : CS, o_ = r_ → Z = (none, r_)) : xV (wC D P) K mJ2_init (xQ (wC D P) K Z) τ 0 [(0, .ref x0), (1, .int x1)] [] := by
  unfold f_a_J2_init at hf
  refine xr_aload_n (pc := 0) 0 dJ2_init_0 rfl rfl ?_
  obtain ⟨τ1, hτ1, hf⟩ := xo_bind hf
  refine call_f_a_J1_init_J2_1 (pc := 1) hτ1 rfl (Nat.le_of_ble_eq_true rfl) (Nat.le_of_ble_eq_true rfl) (Nat.le_of_ble_eq_true rfl) dJ2_init_1 ?_
  refine xr_iload_n (pc := 4) 1 dJ2_init_4 rfl rfl ?_
  refine xr_if_le (pc := 5) 19 dJ2_init_5 (by decide) (fun c_ => ?_) (fun c_ => ?_)
  · have hf := xo_pos c_ hf
    refine xr_iload_n (pc := 19) 1 dJ2_init_19 rfl rfl ?_
    refine xr_if_ne (pc := 20) 33 dJ2_init_20 (by decide) (fun c_ => ?_) (fun c_ => ?_)
    · have hf := xo_pos c_ hf
      refine xr_aload_n (pc := 23) 0 dJ2_init_23 rfl rfl ?_
      refine yc_gets (pc := 24) 4 (by decide) (by decide) q242 rfl rfl dJ2_init_24 ?_
      obtain ⟨ht2, hf⟩ := xo_if hf
      refine yc_putRs (pc := 27) 18 1 1801 ht2 (by decide) (by decide) (by decide) rfl rfl rfl (ty := (.array (.object "java/lang/Object"))) (by decide +kernel) rfl q244 (ys_eq rfl) rfl dJ2_init_27 ?_
      refine xr_goto (pc := 30) 60 dJ2_init_30 (by decide) ?_
      rw [kr _ (Option.some.inj hf).symm]
      exact xr_vret (pc := 60) dJ2_init_60 rfl
    · have hf := xo_neg c_ hf
      cases hf
  · have hf := xo_neg c_ hf
    refine xr_aload_n (pc := 8) 0 dJ2_init_8 rfl rfl ?_
    refine xr_iload_n (pc := 9) 1 dJ2_init_9 rfl rfl ?_
    obtain ⟨r3, τ3, hτ3, hf⟩ := xo_bd hf
    refine yc_aArrO (pc := 10) 109 (by decide) (by decide) rfl rfl q240 (by decide) hτ3 rfl dJ2_init_10 ?_
    obtain ⟨ht4, hf⟩ := xo_if hf
    refine yc_putRs (pc := 13) 18 1 1801 ht4 (by decide) (by decide) (by decide) rfl rfl rfl (ty := (.array (.object "java/lang/Object"))) (by decide +kernel) rfl q244 (ys_eq rfl) rfl dJ2_init_13 ?_
    refine xr_goto (pc := 16) 60 dJ2_init_16 (by decide) ?_
    rw [kr _ (Option.some.inj hf).symm]
    exact xr_vret (pc := 60) dJ2_init_60 rfl
theorem met_f_a_J2_init (l : Launch) {D : CD} {P : CP} {x0 : Nat} {x1 : Int32} {τ : CS} {o_ : CS} (hf : f_a_J2_init x0 x1 τ = some o_) : xMet (wC D P) l yJ2_init (ws_ yJ2_init cJ2_init 2 none) 3 180 (grc τ.1) (grs τ.1) [.ref x0, .int x1] τ (none, o_) := 
  xMet_of (by decide) (Nat.le_of_ble_eq_true rfl) KC_moved (RPC_of (g := τ.1) (c := τ.2)) (fun K _ _ _ => ok_f_a_J2_init hf (fun _ h => by rw [h]))
theorem call_f_a_X14_init_X15_1 {D : CD} {P : CP} {K : xK} {M : xM} {Q : State → Prop} {τ τ1 : CS} {x0 : Nat} {pc : Nat} {loc : List (Nat × Value)} {st : List Value} (hf : f_a_X14_init x0 τ = some τ1) (ho : M.2.2.1 = RX15) (hfr : 2 ≤ M.2.2.2.1) (hlo : 80 ≤ M.2.2.2.2.1) (hcat : (st.map fun v => v.category).sum ≤ 8) (d : decode M.1 pc = .ok (.invokespecial 1, 3)) (k : xV (wC D P) K M Q τ1 (pc + 3) loc st) : xV (wC D P) K M Q τ pc loc (.ref x0 :: st) :=
  yc_callIN (g := τ.1) (c := τ.2) (g1 := τ1.1) (c1 := τ1.2) (As := []) (rest := st) (met_f_a_X14_init K.2.1 hf) (lw_meth q1182) q1180 q1181 q205 rfl hd_f_a_X14_init ho hfr hlo rfl rfl hcat d k
theorem hd_f_a_J2_init : yJ2_init.cls ≠ "java/lang/invoke/MethodHandle" ∧ yJ2_init.cls ≠ "java/lang/invoke/VarHandle" ∧ (parseMethodDescriptor yJ2_init.desc).map (fun d => d.parameters.length) = some 1 := by decide +kernel
theorem call_f_a_J2_init_X15_9 {D : CD} {P : CP} {K : xK} {M : xM} {Q : State → Prop} {τ τ1 : CS} {x0 : Nat} {x1 : Int32} {pc : Nat} {loc : List (Nat × Value)} {st : List Value} (hf : f_a_J2_init x0 x1 τ = some τ1) (ho : M.2.2.1 = RX15) (hfr : 4 ≤ M.2.2.2.1) (hlo : 201 ≤ M.2.2.2.2.1) (hcat : (st.map fun v => v.category).sum ≤ 8) (d : decode M.1 pc = .ok (.invokespecial 9, 3)) (k : xV (wC D P) K M Q τ1 (pc + 3) loc st) : xV (wC D P) K M Q τ pc loc (.int x1 :: .ref x0 :: st) :=
  yc_callI (g := τ.1) (c := τ.2) (g1 := τ1.1) (c1 := τ1.2) (As := [.int x1]) (rest := st) (met_f_a_J2_init K.2.1 hf) (lw_meth q232) q1185 q231 q178 rfl hd_f_a_J2_init ho hfr hlo rfl rfl hcat d k
abbrev mX15_init : xM := (cX15_init, 2, RX15, 4, 240, none, "<init>")
def f_a_X15_init (x0 : Nat) (x1 : Int32) (τ : CS) : Option CS :=
  (f_a_X14_init x0 τ).bind fun τ1 =>
  xbd (aNew 18 τ1) fun r2 τ2 =>
  (f_a_J2_init r2 2 τ2).bind fun τ3 =>
  if gT τ3.1 x0 = 13 then
  if xbl x1 = true then
  some (((vR τ3.1 1300 x0 (some r2)), uI τ3.2 1301 x0 x1))
  else none
  else none
theorem ok_f_a_X15_init {D : CD} {P : CP} {K : xK} {Z : Option Value × CS} {x0 : Nat} {x1 : Int32} {τ : CS} {o_ : CS} (hf : f_a_X15_init x0 x1 τ = some o_) (kr : ∀ r_ : CS, o_ = r_ → Z = (none, r_)) : xV (wC D P) K mX15_init (xQ (wC D P) K Z) τ 0 [(0, .ref x0), (1, .int x1)] [] := by
  unfold f_a_X15_init at hf
  refine xr_aload_n (pc := 0) 0 dX15_init_0 rfl rfl ?_
  obtain ⟨τ1, hτ1, hf⟩ := xo_bind hf
  refine call_f_a_X14_init_X15_1 (pc := 1) hτ1 rfl (Nat.le_of_ble_eq_true rfl) (Nat.le_of_ble_eq_true rfl) (Nat.le_of_ble_eq_true rfl) dX15_init_1 ?_
  refine xr_aload_n (pc := 4) 0 dX15_init_4 rfl rfl ?_
  obtain ⟨r2, τ2, hτ2, hf⟩ := xo_bd hf
  refine yc_aNew (pc := 5) 18 (by decide) (by decide) q1184 q229 q178 hτ2 rfl dX15_init_5 ?_
  refine xr_dup (pc := 8) dX15_init_8 rfl ?_
  refine xr_iconst (pc := 9) dX15_init_9 xci_2 ?_
  obtain ⟨τ3, hτ3, hf⟩ := xo_bind hf
  refine call_f_a_J2_init_X15_9 (pc := 10) hτ3 rfl (Nat.le_of_ble_eq_true rfl) (Nat.le_of_ble_eq_true rfl) (Nat.le_of_ble_eq_true rfl) dX15_init_10 ?_
  obtain ⟨ht4, hf⟩ := xo_if hf
  refine yc_putFRs (pc := 13) 13 0 1300 ht4 (by decide) (by decide) (by decide) rfl rfl rfl (ty := (.object "java/util/List")) (by decide +kernel) rfl q1186 rfl rfl rfl dX15_init_13 ?_
  refine xr_aload_n (pc := 16) 0 dX15_init_16 rfl rfl ?_
  refine xr_iload_n (pc := 17) 1 dX15_init_17 rfl rfl ?_
  obtain ⟨hb_, hf⟩ := xo_if hf
  refine yc_putFI (pc := 18) 13 1 1301 ht4 (by decide) (by decide) (by decide) rfl rfl rfl (ty := .boolean) (by decide +kernel) (xbl_n hb_) (xbl_f hb_) q1188 rfl rfl rfl dX15_init_18 ?_
  rw [kr _ (Option.some.inj hf).symm]
  exact xr_vret (pc := 21) dX15_init_21 rfl
theorem met_f_a_X15_init (l : Launch) {D : CD} {P : CP} {x0 : Nat} {x1 : Int32} {τ : CS} {o_ : CS} (hf : f_a_X15_init x0 x1 τ = some o_) : xMet (wC D P) l yX15_init (ws_ yX15_init cX15_init 2 none) 4 240 (grc τ.1) (grs τ.1) [.ref x0, .int x1] τ (none, o_) := 
  xMet_of (by decide) (Nat.le_of_ble_eq_true rfl) KC_moved (RPC_of (g := τ.1) (c := τ.2)) (fun K _ _ _ => ok_f_a_X15_init hf (fun _ h => by rw [h]))
theorem call_f_a_J2_init_X1_25 {D : CD} {P : CP} {K : xK} {M : xM} {Q : State → Prop} {τ τ1 : CS} {x0 : Nat} {x1 : Int32} {pc : Nat} {loc : List (Nat × Value)} {st : List Value} (hf : f_a_J2_init x0 x1 τ = some τ1) (ho : M.2.2.1 = RX1) (hfr : 4 ≤ M.2.2.2.1) (hlo : 201 ≤ M.2.2.2.2.1) (hcat : (st.map fun v => v.category).sum ≤ 8) (d : decode M.1 pc = .ok (.invokespecial 25, 3)) (k : xV (wC D P) K M Q τ1 (pc + 3) loc st) : xV (wC D P) K M Q τ pc loc (.int x1 :: .ref x0 :: st) :=
  yc_callI (g := τ.1) (c := τ.2) (g1 := τ1.1) (c1 := τ1.2) (As := [.int x1]) (rest := st) (met_f_a_J2_init K.2.1 hf) (lw_meth q232) q230 q231 q178 rfl hd_f_a_J2_init ho hfr hlo rfl rfl hcat d k
abbrev mX1_init : xM := (cX1_init, 3, RX1, 4, 240, none, "<init>")
def Bc_X1_init_58 (x0 : Nat) (x1 : Int32) (x2 : Int32) (τ : CS) : Option ((Int32 × CS) ⊕ ((CS))) :=
  if (8 : Int32) ≤ x2 then
  some (.inr τ)
  else
  if gT τ.1 x0 = 2 then
  (gR τ.1 206 x0).bind fun b11 =>
  if gT τ.1 b11 = 105 then
  if xin x1 (gN τ.1 b11) = true then
  if gT τ.1 (gA τ.1 b11 x1.toNatClampNeg) = 100 then
  if xin x2 (gN τ.1 (gA τ.1 b11 x1.toNatClampNeg)) = true then
  some (.inl (x2 + 1, (τ.1, uA τ.2 (gA τ.1 b11 x1.toNatClampNeg) x2.toNatClampNeg 5)))
  else none
  else none
  else none
  else none
  else none
theorem ok_Bc_X1_init_58 {D : CD} {P : CP} {K : xK} {Z : Option Value × CS} {x0 : Nat} {x1 : Int32} {x2 : Int32} {τ : CS} {o_ : ((Int32 × CS) ⊕ ((CS)))} (hf : Bc_X1_init_58 x0 x1 x2 τ = some o_) (kc : ∀ s_ : Int32 × CS, o_ = .inl s_ → xV (wC D P) K mX1_init (xQ (wC D P) K Z) s_.2 58 [(0, .ref x0), (1, .int x1), (2, .int s_.1)] []) (ke0 : ∀ e_ : CS, o_ = .inr e_ → xV (wC D P) K mX1_init (xQ (wC D P) K Z) e_ 79 [(0, .ref x0), (1, .int x1)] []) : xV (wC D P) K mX1_init (xQ (wC D P) K Z) τ 58 [(0, .ref x0), (1, .int x1), (2, .int x2)] [] := by
  unfold Bc_X1_init_58 at hf
  refine xr_iload_n (pc := 58) 2 dX1_init_58 rfl rfl ?_
  refine xr_bipush (pc := 59) dX1_init_59 xcb_8 ?_
  refine xr_icmp_ge (pc := 61) 79 dX1_init_61 (by decide) (fun c_ => ?_) (fun c_ => ?_)
  · have hf := xo_pos c_ hf
    refine xV_sub [0, 1] rfl ?_
    exact ke0 _ (Option.some.inj hf).symm
  · have hf := xo_neg c_ hf
    refine xr_aload_n (pc := 64) 0 dX1_init_64 rfl rfl ?_
    obtain ⟨ht10, hf⟩ := xo_if hf
    obtain ⟨b11, hb11, hf⟩ := xo_bind hf
    refine yc_getFs (pc := 65) 2 6 206 (gKo ht10 (by decide)) (by decide) (by decide) (by decide) rfl rfl hb11 q272 (ys_eq rfl) rfl dX1_init_65 ?_
    refine xr_iload_n (pc := 68) 1 dX1_init_68 rfl rfl ?_
    obtain ⟨ht12, hf⟩ := xo_if hf
    obtain ⟨hi_, hf⟩ := xo_if hf
    refine yc_aaldF (pc := 69) 105 (gKo ht12 (by decide)) (by decide) (by decide) rfl rfl hi_ dX1_init_69 ?_
    refine xr_iload_n (pc := 70) 2 dX1_init_70 rfl rfl ?_
    refine xr_iconst (pc := 71) dX1_init_71 xci_5 ?_
    obtain ⟨ht13, hf⟩ := xo_if hf
    obtain ⟨hi_, hf⟩ := xo_if hf
    refine yc_iast (pc := 72) ht13 hi_ dX1_init_72 ?_
    refine xr_iinc (pc := 73) (loc' := [(2, .int (x2 + 1)), (0, .ref x0), (1, .int x1)]) 2 dX1_init_73 rfl xci_1 (by decide) rfl ?_
    refine xr_goto (pc := 76) 58 dX1_init_76 (by decide) ?_
    refine xV_sub [1, 2, 0] rfl ?_
    exact kc _ (Option.some.inj hf).symm
def Bc_X1_init_50 (x0 : Nat) (x1 : Int32) (τ : CS) : Option ((Int32 × CS) ⊕ ((CS))) :=
  if (10 : Int32) ≤ x1 then
  some (.inr τ)
  else
  (itr (fun s_ : Int32 × CS => Bc_X1_init_58 x0 x1 s_.1 s_.2) 4096 (0, τ)).bind fun b14 =>
  some (.inl (x1 + 1, b14))
theorem ok_Bc_X1_init_50 {D : CD} {P : CP} {K : xK} {Z : Option Value × CS} {x0 : Nat} {x1 : Int32} {τ : CS} {o_ : ((Int32 × CS) ⊕ ((CS)))} (hf : Bc_X1_init_50 x0 x1 τ = some o_) (kc : ∀ s_ : Int32 × CS, o_ = .inl s_ → xV (wC D P) K mX1_init (xQ (wC D P) K Z) s_.2 50 [(0, .ref x0), (1, .int s_.1)] []) (ke0 : ∀ e_ : CS, o_ = .inr e_ → xV (wC D P) K mX1_init (xQ (wC D P) K Z) e_ 85 [] []) : xV (wC D P) K mX1_init (xQ (wC D P) K Z) τ 50 [(0, .ref x0), (1, .int x1)] [] := by
  unfold Bc_X1_init_50 at hf
  refine xr_iload_n (pc := 50) 1 dX1_init_50 rfl rfl ?_
  refine xr_bipush (pc := 51) dX1_init_51 xcb_10 ?_
  refine xr_icmp_ge (pc := 53) 85 dX1_init_53 (by decide) (fun c_ => ?_) (fun c_ => ?_)
  · have hf := xo_pos c_ hf
    refine xV_sub [] rfl ?_
    exact ke0 _ (Option.some.inj hf).symm
  · have hf := xo_neg c_ hf
    refine xr_iconst (pc := 56) dX1_init_56 xci_0 ?_
    refine xr_istore_n (pc := 57) (loc' := [(2, .int 0), (0, .ref x0), (1, .int x1)]) dX1_init_57 rfl (by decide) rfl ?_
    refine xV_sub [1, 2, 0] rfl ?_
    obtain ⟨b14, hb14, hf⟩ := xo_bind hf
    refine itr_rule (P := fun s_ : Int32 × CS => xV (wC D P) K mX1_init (xQ (wC D P) K Z) s_.2 58 [(0, .ref x0), (1, .int x1), (2, .int s_.1)] []) (fun s_ o_ hB_ hc_ he_ => ok_Bc_X1_init_58 hB_ hc_ (fun e_ h_ => ?_)) 4096 _ hb14
    · have e9_ := he_ _ h_
      rw [e9_]
      refine xr_iinc (pc := 79) (loc' := [(1, .int (x1 + 1)), (0, .ref x0)]) 1 dX1_init_79 rfl xci_1 (by decide) rfl ?_
      refine xr_goto (pc := 82) 50 dX1_init_82 (by decide) ?_
      refine xV_sub [1, 0] rfl ?_
      exact kc _ (Option.some.inj hf).symm
def f_a_X1_init (x0 : Nat) (τ : CS) : Option CS :=
  xbd (aArr 100 (10 : Int32) τ) fun r1 τ1 =>
  if gT τ1.1 x0 = 2 then
  xbd (aMul 105 (10 : Int32) (8 : Int32) (vR τ1.1 205 x0 (some r1), τ1.2)) fun r3 τ3 =>
  if gT τ3.1 x0 = 2 then
  xbd (aMul 105 (10 : Int32) (8 : Int32) (vR τ3.1 206 x0 (some r3), τ3.2)) fun r5 τ5 =>
  if gT τ5.1 x0 = 2 then
  xbd (aNew 18 (vR τ5.1 207 x0 (some r5), τ5.2)) fun r7 τ7 =>
  (f_a_J2_init r7 2 τ7).bind fun τ8 =>
  if gT τ8.1 x0 = 2 then
  (itr (fun s_ : Int32 × CS => Bc_X1_init_50 x0 s_.1 s_.2) 4096 (0, (vR τ8.1 208 x0 (some r7), τ8.2))).bind fun b15 =>
  some (b15)
  else none
  else none
  else none
  else none
theorem ok_f_a_X1_init {D : CD} {P : CP} {K : xK} {Z : Option Value × CS} {x0 : Nat} {τ : CS} {o_ : CS} (hf : f_a_X1_init x0 τ = some o_) (kr : ∀ r_ : CS, o_ = r_ → Z = (none, r_)) : xV (wC D P) K mX1_init (xQ (wC D P) K Z) τ 0 [(0, .ref x0)] [] := by
  unfold f_a_X1_init at hf
  refine xr_aload_n (pc := 0) 0 dX1_init_0 rfl rfl ?_
  refine xr_objInit (pc := 1) q225 rfl (Nat.le_of_ble_eq_true rfl) (Nat.le_of_ble_eq_true rfl) (Nat.le_of_ble_eq_true rfl) dX1_init_1 ?_
  refine xr_aload_n (pc := 4) 0 dX1_init_4 rfl rfl ?_
  refine xr_bipush (pc := 5) dX1_init_5 xcb_10 ?_
  obtain ⟨r1, τ1, hτ1, hf⟩ := xo_bd hf
  refine yc_aArr (pc := 7) 100 (by decide) (by decide) rfl (Or.inl rfl) (by decide +kernel) (by decide) q256 hτ1 dX1_init_7 ?_
  obtain ⟨ht2, hf⟩ := xo_if hf
  refine yc_putFRs (pc := 9) 2 5 205 ht2 (by decide) (by decide) (by decide) rfl rfl rfl (ty := (.array .int)) (by decide +kernel) rfl q269 rfl rfl rfl dX1_init_9 ?_
  refine xr_aload_n (pc := 12) 0 dX1_init_12 rfl rfl ?_
  refine xr_bipush (pc := 13) dX1_init_13 xcb_10 ?_
  refine xr_bipush (pc := 15) dX1_init_15 xcb_8 ?_
  obtain ⟨r3, τ3, hτ3, hf⟩ := xo_bd hf
  refine yc_aMul (pc := 17) 105 (by decide) q226 q256 hτ3 rfl dX1_init_17 ?_
  obtain ⟨ht4, hf⟩ := xo_if hf
  refine yc_putFRs (pc := 21) 2 6 206 ht4 (by decide) (by decide) (by decide) rfl rfl rfl (ty := (.array (.array .int))) (by decide +kernel) rfl q272 rfl rfl rfl dX1_init_21 ?_
  refine xr_aload_n (pc := 24) 0 dX1_init_24 rfl rfl ?_
  refine xr_bipush (pc := 25) dX1_init_25 xcb_10 ?_
  refine xr_bipush (pc := 27) dX1_init_27 xcb_8 ?_
  obtain ⟨r5, τ5, hτ5, hf⟩ := xo_bd hf
  refine yc_aMul (pc := 29) 105 (by decide) q226 q256 hτ5 rfl dX1_init_29 ?_
  obtain ⟨ht6, hf⟩ := xo_if hf
  refine yc_putFRs (pc := 33) 2 7 207 ht6 (by decide) (by decide) (by decide) rfl rfl rfl (ty := (.array (.array .int))) (by decide +kernel) rfl q276 rfl rfl rfl dX1_init_33 ?_
  refine xr_aload_n (pc := 36) 0 dX1_init_36 rfl rfl ?_
  obtain ⟨r7, τ7, hτ7, hf⟩ := xo_bd hf
  refine yc_aNew (pc := 37) 18 (by decide) (by decide) q228 q229 q178 hτ7 rfl dX1_init_37 ?_
  refine xr_dup (pc := 40) dX1_init_40 rfl ?_
  refine xr_iconst (pc := 41) dX1_init_41 xci_2 ?_
  obtain ⟨τ8, hτ8, hf⟩ := xo_bind hf
  refine call_f_a_J2_init_X1_25 (pc := 42) hτ8 rfl (Nat.le_of_ble_eq_true rfl) (Nat.le_of_ble_eq_true rfl) (Nat.le_of_ble_eq_true rfl) dX1_init_42 ?_
  obtain ⟨ht9, hf⟩ := xo_if hf
  refine yc_putFRs (pc := 45) 2 8 208 ht9 (by decide) (by decide) (by decide) rfl rfl rfl (ty := (.object "java/util/List")) (by decide +kernel) rfl q279 rfl rfl rfl dX1_init_45 ?_
  refine xr_iconst (pc := 48) dX1_init_48 xci_0 ?_
  refine xr_istore_n (pc := 49) (loc' := [(1, .int 0), (0, .ref x0)]) dX1_init_49 rfl (by decide) rfl ?_
  refine xV_sub [1, 0] rfl ?_
  obtain ⟨b15, hb15, hf⟩ := xo_bind hf
  refine itr_rule (P := fun s_ : Int32 × CS => xV (wC D P) K mX1_init (xQ (wC D P) K Z) s_.2 50 [(0, .ref x0), (1, .int s_.1)] []) (fun s_ o_ hB_ hc_ he_ => ok_Bc_X1_init_50 hB_ hc_ (fun e_ h_ => ?_)) 4096 _ hb15
  · have e9_ := he_ _ h_
    rw [e9_]
    rw [kr _ (Option.some.inj hf).symm]
    exact xr_vret (pc := 85) dX1_init_85 rfl
theorem met_f_a_X1_init (l : Launch) {D : CD} {P : CP} {x0 : Nat} {τ : CS} {o_ : CS} (hf : f_a_X1_init x0 τ = some o_) : xMet (wC D P) l yX1_init (ws_ yX1_init cX1_init 3 none) 4 240 (grc τ.1) (grs τ.1) [.ref x0] τ (none, o_) := 
  xMet_of (by decide) (Nat.le_of_ble_eq_true rfl) KC_moved (RPC_of (g := τ.1) (c := τ.2)) (fun K _ _ _ => ok_f_a_X1_init hf (fun _ h => by rw [h]))
theorem hd_f_c_J7_compress_2 : yJ7_compress_2.cls ≠ "java/lang/invoke/MethodHandle" ∧ yJ7_compress_2.cls ≠ "java/lang/invoke/VarHandle" ∧ (parseMethodDescriptor yJ7_compress_2.desc).map (fun d => d.parameters.length) = some 5 := by decide +kernel
theorem call_f_c_J7_compress_2_J7_115 {D : CD} {P : CP} {K : xK} {M : xM} {Q : State → Prop} {g : CG} {c : CC} {x0 : Nat} {x1 : Int32} {x2 : Nat} {x3 : Int32} {x4 : Int32} {pc : Nat} {loc : List (Nat × Value)} {st : List Value} {r : Int32} {c1 : CC} (hf : f_c_J7_compress_2 g x0 x1 x2 x3 x4 c = some (r, c1)) (ho : M.2.2.1 = RJ7) (hfr : 1 ≤ M.2.2.2.1) (hlo : 26 ≤ M.2.2.2.2.1) (hcat : (st.map fun v => v.category).sum ≤ 8) (d : decode M.1 pc = .ok (.invokestatic 115, 3)) (k : xV (wC D P) K M Q (g, c1) (pc + 3) loc (.int r :: st)) : xV (wC D P) K M Q (g, c) pc loc (.int x4 :: .int x3 :: .ref x2 :: .int x1 :: .ref x0 :: st) :=
  yc_callS (As := [.ref x0, .int x1, .ref x2, .int x3, .int x4]) (rest := st) (met_f_c_J7_compress_2 K.2.1 hf) (lw_S q642 q643 q188 q644) hd_f_c_J7_compress_2 ho hfr hlo rfl rfl hcat d k
abbrev mJ7_compress : xM := (cJ7_compress, 6, RJ7, 4, 240, (some (.array .byte)), "compress")
def f_a_J7_compress (x0 : Nat) (x1 : Int32) (x2 : Int32) (τ : CS) : Option (Nat × CS) :=
  xbd (aArr 103 x2 τ) fun r1 τ1 =>
  xbd (f_c_J7_compress_2 τ1.1 x0 x1 r1 0 x2 τ1.2) fun r2 τ2 =>
  if r2 = x2 then
  some ((r1, (τ1.1, τ2)))
  else
  none
theorem ok_f_a_J7_compress {D : CD} {P : CP} {K : xK} {Z : Option Value × CS} {x0 : Nat} {x1 : Int32} {x2 : Int32} {τ : CS} {o_ : (Nat × CS)} (hf : f_a_J7_compress x0 x1 x2 τ = some o_) (kr : ∀ r_ : (Nat × CS), o_ = r_ → Z = (some (.ref r_.1), r_.2)) : xV (wC D P) K mJ7_compress (xQ (wC D P) K Z) τ 0 [(0, .ref x0), (1, .int x1), (2, .int x2)] [] := by
  unfold f_a_J7_compress at hf
  refine xr_iload_n (pc := 0) 2 dJ7_compress_0 rfl rfl ?_
  obtain ⟨r1, τ1, hτ1, hf⟩ := xo_bd hf
  refine yc_aArr (pc := 1) 103 (by decide) (by decide) rfl (Or.inl rfl) (by decide +kernel) (by decide) q387 hτ1 dJ7_compress_1 ?_
  refine xr_astore_n (pc := 3) (loc' := [(3, .ref r1), (0, .ref x0), (1, .int x1), (2, .int x2)]) dJ7_compress_3 rfl (by decide) rfl ?_
  refine xr_aload_n (pc := 4) 1 dJ7_compress_4 rfl rfl ?_
  refine xr_iload_n (pc := 5) 2 dJ7_compress_5 rfl rfl ?_
  refine xr_aload_n (pc := 6) 0 dJ7_compress_6 rfl rfl ?_
  refine xr_iconst (pc := 7) dJ7_compress_7 xci_0 ?_
  refine xr_iload_n (pc := 8) 3 dJ7_compress_8 rfl rfl ?_
  obtain ⟨r2, τ2, hτ2, hf⟩ := xo_bd hf
  refine call_f_c_J7_compress_2_J7_115 (pc := 9) hτ2 rfl (Nat.le_of_ble_eq_true rfl) (Nat.le_of_ble_eq_true rfl) (Nat.le_of_ble_eq_true rfl) dJ7_compress_9 ?_
  refine xr_istore (pc := 12) (loc' := [(4, .int r2), (3, .ref r1), (0, .ref x0), (1, .int x1), (2, .int x2)]) dJ7_compress_12 (by decide) rfl ?_
  refine xr_iload (pc := 14) 0 dJ7_compress_14 rfl ?_
  refine xr_iload_n (pc := 16) 4 dJ7_compress_16 rfl rfl ?_
  refine xr_icmp_eq (pc := 17) 57 dJ7_compress_17 (by decide) (fun c_ => ?_) (fun c_ => ?_)
  · have hf := xo_pos c_ hf
    refine xr_aload_n (pc := 57) 1 dJ7_compress_57 rfl rfl ?_
    rw [kr _ (Option.some.inj hf).symm]
    exact xr_aret (pc := 58) dJ7_compress_58 rfl (Or.inr ⟨_, rfl⟩)
  · have hf := xo_neg c_ hf
    refine xr_aload_n (pc := 20) 2 dJ7_compress_20 rfl rfl ?_
    refine xr_iload_n (pc := 21) 3 dJ7_compress_21 rfl rfl ?_
    refine xr_iload_n (pc := 22) 4 dJ7_compress_22 rfl rfl ?_
    cases hf
theorem met_f_a_J7_compress (l : Launch) {D : CD} {P : CP} {x0 : Nat} {x1 : Int32} {x2 : Int32} {τ : CS} {o_ : (Nat × CS)} (hf : f_a_J7_compress x0 x1 x2 τ = some o_) : xMet (wC D P) l yJ7_compress (ws_ yJ7_compress cJ7_compress 6 (some (.array .byte))) 4 240 (grc τ.1) (grs τ.1) [.ref x0, .int x1, .int x2] τ (some (.ref o_.1), o_.2) := 
  xMet_of (by decide) (Nat.le_of_ble_eq_true rfl) KC_moved (RPC_of (g := τ.1) (c := τ.2)) (fun K _ _ _ => ok_f_a_J7_compress hf (fun _ h => by rw [h]))
theorem hd_f_a_J7_compress : yJ7_compress.cls ≠ "java/lang/invoke/MethodHandle" ∧ yJ7_compress.cls ≠ "java/lang/invoke/VarHandle" ∧ (parseMethodDescriptor yJ7_compress.desc).map (fun d => d.parameters.length) = some 3 := by decide +kernel
theorem call_f_a_J7_compress_J6_177 {D : CD} {P : CP} {K : xK} {M : xM} {Q : State → Prop} {τ τ1 : CS} {x0 : Nat} {x1 : Int32} {x2 : Int32} {pc : Nat} {loc : List (Nat × Value)} {st : List Value} {r : Nat} (hf : f_a_J7_compress x0 x1 x2 τ = some (r, τ1)) (ho : M.2.2.1 = RJ6) (hfr : 5 ≤ M.2.2.2.1) (hlo : 265 ≤ M.2.2.2.2.1) (hcat : (st.map fun v => v.category).sum ≤ 8) (d : decode M.1 pc = .ok (.invokestatic 177, 3)) (k : xV (wC D P) K M Q τ1 (pc + 3) loc (.ref r :: st)) : xV (wC D P) K M Q τ pc loc (.int x2 :: .int x1 :: .ref x0 :: st) :=
  yc_callS (g := τ.1) (c := τ.2) (g1 := τ1.1) (c1 := τ1.2) (As := [.ref x0, .int x1, .int x2]) (rest := st) (met_f_a_J7_compress K.2.1 hf) (lw_S q639 q640 q188 q641) hd_f_a_J7_compress ho hfr hlo rfl rfl hcat d k
theorem hd_f_c_J7_coderFromArrayLen : yJ7_coderFromArrayLen.cls ≠ "java/lang/invoke/MethodHandle" ∧ yJ7_coderFromArrayLen.cls ≠ "java/lang/invoke/VarHandle" ∧ (parseMethodDescriptor yJ7_coderFromArrayLen.desc).map (fun d => d.parameters.length) = some 2 := by decide +kernel
theorem call_f_c_J7_coderFromArrayLen_J6_47 {D : CD} {P : CP} {K : xK} {M : xM} {Q : State → Prop} {g : CG} {c : CC} {x0 : Nat} {x1 : Int32} {pc : Nat} {loc : List (Nat × Value)} {st : List Value} {r : Int32} {c1 : CC} (hf : f_c_J7_coderFromArrayLen g x0 x1 c = some (r, c1)) (ho : M.2.2.1 = RJ6) (hfr : 1 ≤ M.2.2.2.1) (hlo : 21 ≤ M.2.2.2.2.1) (hcat : (st.map fun v => v.category).sum ≤ 8) (d : decode M.1 pc = .ok (.invokestatic 47, 3)) (k : xV (wC D P) K M Q (g, c1) (pc + 3) loc (.int r :: st)) : xV (wC D P) K M Q (g, c) pc loc (.int x1 :: .ref x0 :: st) :=
  yc_callS (As := [.ref x0, .int x1]) (rest := st) (met_f_c_J7_coderFromArrayLen K.2.1 hf) (lw_S q684 q685 q188 q686) hd_f_c_J7_coderFromArrayLen ho hfr hlo rfl rfl hcat d k
abbrev mJ6_init_2 : xM := (cJ6_init_2, 6, RJ6, 5, 300, none, "<init>")
def f_a_J6_init_2 (x0 : Nat) (x1 : Nat) (x2 : Int32) (x3 : Int32) (x4 : Option Nat) (τ : CS) : Option CS :=
  if x3 = 0 then
  none
  else
  xbd (f_a_J7_compress x1 x2 x3 τ) fun r1 τ1 =>
  xbd (f_c_J7_coderFromArrayLen τ1.1 r1 x3 τ1.2) fun r2 τ2 =>
  if gT τ1.1 x0 = 19 then
  if xfb r2 = true then
  some ((vR τ1.1 1900 x0 (some r1), (uI τ2 1901 x0 r2)))
  else none
  else none
theorem ok_f_a_J6_init_2 {D : CD} {P : CP} {K : xK} {Z : Option Value × CS} {x0 : Nat} {x1 : Nat} {x2 : Int32} {x3 : Int32} {x4 : Option Nat} {τ : CS} {o_ : CS} (hf : f_a_J6_init_2 x0 x1 x2 x3 x4 τ = some o_) (kr : ∀ r_ : CS, o_ = r_ → Z = (none, r_)) : xV (wC D P) K mJ6_init_2 (xQ (wC D P) K Z) τ 0 [(0, .ref x0), (1, .ref x1), (2, .int x2), (3, .int x3), (4, va_rf x4)] [] := by
  unfold f_a_J6_init_2 at hf
  refine xV_sub [0, 1, 2, 3] rfl ?_
  refine xr_aload_n (pc := 0) 0 dJ6_init_2_0 rfl rfl ?_
  refine xr_objInit (pc := 1) q635 rfl (Nat.le_of_ble_eq_true rfl) (Nat.le_of_ble_eq_true rfl) (Nat.le_of_ble_eq_true rfl) dJ6_init_2_1 ?_
  refine xr_iload_n (pc := 4) 3 dJ6_init_2_4 rfl rfl ?_
  refine xr_if_ne (pc := 5) 27 dJ6_init_2_5 (by decide) (fun c_ => ?_) (fun c_ => ?_)
  · have hf := xo_pos c_ hf
    refine xr_aload_n (pc := 8) 0 dJ6_init_2_8 rfl rfl ?_
    cases hf
  · have hf := xo_neg c_ hf
    refine yc_gets8 (pc := 27) q637 rfl rfl dJ6_init_2_27 ?_
    refine xr_if_eq (pc := 30) 58 dJ6_init_2_30 (by decide) (fun c_ => ?_) (fun c_ => ?_)
    · exact absurd c_ (by decide)
    · refine xr_aload_n (pc := 33) 1 dJ6_init_2_33 rfl rfl ?_
      refine xr_iload_n (pc := 34) 2 dJ6_init_2_34 rfl rfl ?_
      refine xr_iload_n (pc := 35) 3 dJ6_init_2_35 rfl rfl ?_
      obtain ⟨r1, τ1, hτ1, hf⟩ := xo_bd hf
      refine call_f_a_J7_compress_J6_177 (pc := 36) hτ1 rfl (Nat.le_of_ble_eq_true rfl) (Nat.le_of_ble_eq_true rfl) (Nat.le_of_ble_eq_true rfl) dJ6_init_2_36 ?_
      refine xr_astore (pc := 39) (loc' := [(5, .ref r1), (0, .ref x0), (1, .ref x1), (2, .int x2), (3, .int x3)]) dJ6_init_2_39 (by decide) rfl ?_
      refine xr_aload_n (pc := 41) 1 dJ6_init_2_41 rfl rfl ?_
      refine xr_aload (pc := 42) 0 dJ6_init_2_42 rfl ?_
      refine xr_iload_n (pc := 44) 4 dJ6_init_2_44 rfl rfl ?_
      obtain ⟨r2, τ2, hτ2, hf⟩ := xo_bd hf
      refine call_f_c_J7_coderFromArrayLen_J6_47 (pc := 45) hτ2 rfl (Nat.le_of_ble_eq_true rfl) (Nat.le_of_ble_eq_true rfl) (Nat.le_of_ble_eq_true rfl) dJ6_init_2_45 ?_
      obtain ⟨ht3, hf⟩ := xo_if hf
      obtain ⟨hb_, hf⟩ := xo_if hf
      refine yc_putFI (pc := 48) 19 1 1901 ht3 (by decide) (by decide) (by decide) rfl rfl rfl (ty := .byte) (by decide +kernel) (xfb_n hb_) (xfb_f hb_) q689 rfl rfl rfl dJ6_init_2_48 ?_
      refine xr_aload_n (pc := 51) 1 dJ6_init_2_51 rfl rfl ?_
      refine xr_aload (pc := 52) 0 dJ6_init_2_52 rfl ?_
      refine yc_putFRs (pc := 54) 19 0 1900 ht3 (by decide) (by decide) (by decide) rfl rfl rfl (ty := (.array .byte)) (by decide +kernel) rfl q688 rfl rfl rfl dJ6_init_2_54 ?_
      rw [kr _ (Option.some.inj hf).symm]
      exact xr_vret (pc := 57) dJ6_init_2_57 rfl
theorem met_f_a_J6_init_2 (l : Launch) {D : CD} {P : CP} {x0 : Nat} {x1 : Nat} {x2 : Int32} {x3 : Int32} {x4 : Option Nat} {τ : CS} {o_ : CS} (hf : f_a_J6_init_2 x0 x1 x2 x3 x4 τ = some o_) : xMet (wC D P) l yJ6_init_2 (ws_ yJ6_init_2 cJ6_init_2 6 none) 5 300 (grc τ.1) (grs τ.1) [.ref x0, .ref x1, .int x2, .int x3, va_rf x4] τ (none, o_) := by
  cases x4 <;> exact xMet_of (by decide) (Nat.le_of_ble_eq_true rfl) KC_moved (RPC_of (g := τ.1) (c := τ.2)) (fun K _ _ _ => ok_f_a_J6_init_2 hf (fun _ h => by rw [h]))
theorem hd_f_a_J6_init_2 : yJ6_init_2.cls ≠ "java/lang/invoke/MethodHandle" ∧ yJ6_init_2.cls ≠ "java/lang/invoke/VarHandle" ∧ (parseMethodDescriptor yJ6_init_2.desc).map (fun d => d.parameters.length) = some 4 := by decide +kernel
theorem call_f_a_J6_init_2_J6_27 {D : CD} {P : CP} {K : xK} {M : xM} {Q : State → Prop} {τ τ1 : CS} {x0 : Nat} {x1 : Nat} {x2 : Int32} {x3 : Int32} {x4 : Option Nat} {pc : Nat} {loc : List (Nat × Value)} {st : List Value} (hf : f_a_J6_init_2 x0 x1 x2 x3 x4 τ = some τ1) (ho : M.2.2.1 = RJ6) (hfr : 6 ≤ M.2.2.2.1) (hlo : 325 ≤ M.2.2.2.2.1) (hcat : (st.map fun v => v.category).sum ≤ 8) (d : decode M.1 pc = .ok (.invokespecial 27, 3)) (k : xV (wC D P) K M Q τ1 (pc + 3) loc st) : xV (wC D P) K M Q τ pc loc (va_rf x4 :: .int x3 :: .int x2 :: .ref x1 :: .ref x0 :: st) :=
  yc_callI (g := τ.1) (c := τ.2) (g1 := τ1.1) (c1 := τ1.2) (As := [.ref x1, .int x2, .int x3, va_rf x4]) (rest := st) (met_f_a_J6_init_2 K.2.1 hf) (lw_meth q634) q632 q633 q187 rfl hd_f_a_J6_init_2 ho hfr hlo rfl rfl hcat d k
abbrev mJ6_init : xM := (cJ6_init, 2, RJ6, 6, 360, none, "<init>")
def f_a_J6_init (x0 : Nat) (x1 : Nat) (τ : CS) : Option CS :=
  if gT τ.1 x1 = 102 then
  (f_a_J6_init_2 x0 x1 0 (Int32.ofNat (gN τ.1 x1)) none τ).bind fun τ2 =>
  some (τ2)
  else none
theorem ok_f_a_J6_init {D : CD} {P : CP} {K : xK} {Z : Option Value × CS} {x0 : Nat} {x1 : Nat} {τ : CS} {o_ : CS} (hf : f_a_J6_init x0 x1 τ = some o_) (kr : ∀ r_ : CS, o_ = r_ → Z = (none, r_)) : xV (wC D P) K mJ6_init (xQ (wC D P) K Z) τ 0 [(0, .ref x0), (1, .ref x1)] [] := by
  unfold f_a_J6_init at hf
  refine xr_aload_n (pc := 0) 0 dJ6_init_0 rfl rfl ?_
  refine xr_aload_n (pc := 1) 1 dJ6_init_1 rfl rfl ?_
  refine xr_iconst (pc := 2) dJ6_init_2 xci_0 ?_
  refine xr_aload_n (pc := 3) 1 dJ6_init_3 rfl rfl ?_
  obtain ⟨ht1, hf⟩ := xo_if hf
  refine yc_alen (pc := 4) 102 (gKo ht1 (by decide)) (by decide) (by decide) dJ6_init_4 ?_
  refine xr_null (pc := 5) dJ6_init_5 ?_
  obtain ⟨τ2, hτ2, hf⟩ := xo_bind hf
  refine call_f_a_J6_init_2_J6_27 (pc := 6) hτ2 rfl (Nat.le_of_ble_eq_true rfl) (Nat.le_of_ble_eq_true rfl) (Nat.le_of_ble_eq_true rfl) dJ6_init_6 ?_
  rw [kr _ (Option.some.inj hf).symm]
  exact xr_vret (pc := 9) dJ6_init_9 rfl
theorem met_f_a_J6_init (l : Launch) {D : CD} {P : CP} {x0 : Nat} {x1 : Nat} {τ : CS} {o_ : CS} (hf : f_a_J6_init x0 x1 τ = some o_) : xMet (wC D P) l yJ6_init (ws_ yJ6_init cJ6_init 2 none) 6 360 (grc τ.1) (grs τ.1) [.ref x0, .ref x1] τ (none, o_) := 
  xMet_of (by decide) (Nat.le_of_ble_eq_true rfl) KC_moved (RPC_of (g := τ.1) (c := τ.2)) (fun K _ _ _ => ok_f_a_J6_init hf (fun _ h => by rw [h]))
theorem hd_f_a_J6_init : yJ6_init.cls ≠ "java/lang/invoke/MethodHandle" ∧ yJ6_init.cls ≠ "java/lang/invoke/VarHandle" ∧ (parseMethodDescriptor yJ6_init.desc).map (fun d => d.parameters.length) = some 1 := by decide +kernel
theorem call_f_a_J6_init_J6_1008 {D : CD} {P : CP} {K : xK} {M : xM} {Q : State → Prop} {τ τ1 : CS} {x0 : Nat} {x1 : Nat} {pc : Nat} {loc : List (Nat × Value)} {st : List Value} (hf : f_a_J6_init x0 x1 τ = some τ1) (ho : M.2.2.1 = RJ6) (hfr : 7 ≤ M.2.2.2.1) (hlo : 381 ≤ M.2.2.2.2.1) (hcat : (st.map fun v => v.category).sum ≤ 8) (d : decode M.1 pc = .ok (.invokespecial 1008, 3)) (k : xV (wC D P) K M Q τ1 (pc + 3) loc st) : xV (wC D P) K M Q τ pc loc (.ref x1 :: .ref x0 :: st) :=
  yc_callI (g := τ.1) (c := τ.2) (g1 := τ1.1) (c1 := τ1.2) (As := [.ref x1]) (rest := st) (met_f_a_J6_init K.2.1 hf) (lw_meth q631) q629 q630 q187 rfl hd_f_a_J6_init ho hfr hlo rfl rfl hcat d k
abbrev mJ6_valueOf : xM := (cJ6_valueOf, 1, RJ6, 7, 420, (some (.object "java/lang/String")), "valueOf")
def f_a_J6_valueOf (x0 : Nat) (τ : CS) : Option (Nat × CS) :=
  xbd (aNew 19 τ) fun r1 τ1 =>
  (f_a_J6_init r1 x0 τ1).bind fun τ2 =>
  some ((r1, τ2))
theorem ok_f_a_J6_valueOf {D : CD} {P : CP} {K : xK} {Z : Option Value × CS} {x0 : Nat} {τ : CS} {o_ : (Nat × CS)} (hf : f_a_J6_valueOf x0 τ = some o_) (kr : ∀ r_ : (Nat × CS), o_ = r_ → Z = (some (.ref r_.1), r_.2)) : xV (wC D P) K mJ6_valueOf (xQ (wC D P) K Z) τ 0 [(0, .ref x0)] [] := by
  unfold f_a_J6_valueOf at hf
  obtain ⟨r1, τ1, hτ1, hf⟩ := xo_bd hf
  refine yc_aNew (pc := 0) 19 (by decide) (by decide) q627 q628 q187 hτ1 rfl dJ6_valueOf_0 ?_
  refine xr_dup (pc := 3) dJ6_valueOf_3 rfl ?_
  refine xr_aload_n (pc := 4) 0 dJ6_valueOf_4 rfl rfl ?_
  obtain ⟨τ2, hτ2, hf⟩ := xo_bind hf
  refine call_f_a_J6_init_J6_1008 (pc := 5) hτ2 rfl (Nat.le_of_ble_eq_true rfl) (Nat.le_of_ble_eq_true rfl) (Nat.le_of_ble_eq_true rfl) dJ6_valueOf_5 ?_
  rw [kr _ (Option.some.inj hf).symm]
  exact xr_aret (pc := 8) dJ6_valueOf_8 rfl (Or.inl ⟨_, rfl⟩)
theorem met_f_a_J6_valueOf (l : Launch) {D : CD} {P : CP} {x0 : Nat} {τ : CS} {o_ : (Nat × CS)} (hf : f_a_J6_valueOf x0 τ = some o_) : xMet (wC D P) l yJ6_valueOf (ws_ yJ6_valueOf cJ6_valueOf 1 (some (.object "java/lang/String"))) 7 420 (grc τ.1) (grs τ.1) [.ref x0] τ (some (.ref o_.1), o_.2) := 
  xMet_of (by decide) (Nat.le_of_ble_eq_true rfl) KC_moved (RPC_of (g := τ.1) (c := τ.2)) (fun K _ _ _ => ok_f_a_J6_valueOf hf (fun _ h => by rw [h]))
theorem call_f_c_J12_min_J13_304 {D : CD} {P : CP} {K : xK} {M : xM} {Q : State → Prop} {g : CG} {c : CC} {x0 : Int32} {x1 : Int32} {pc : Nat} {loc : List (Nat × Value)} {st : List Value} {r : Int32} {c1 : CC} (hf : f_c_J12_min g x0 x1 c = some (r, c1)) (ho : M.2.2.1 = RJ13) (hfr : 1 ≤ M.2.2.2.1) (hlo : 21 ≤ M.2.2.2.2.1) (hcat : (st.map fun v => v.category).sum ≤ 8) (d : decode M.1 pc = .ok (.invokestatic 304, 3)) (k : xV (wC D P) K M Q (g, c1) (pc + 3) loc (.int r :: st)) : xV (wC D P) K M Q (g, c) pc loc (.int x1 :: .int x0 :: st) :=
  yc_callS (As := [.int x0, .int x1]) (rest := st) (met_f_c_J12_min K.2.1 hf) (lw_S q965 q966 q194 q967) hd_f_c_J12_min ho hfr hlo rfl rfl hcat d k
abbrev mJ13_copyOf_2 : xM := (cJ13_copyOf_2, 4, RJ13, 1, 60, (some (.array (.object "java/lang/Object"))), "copyOf")
def Jc_J13_copyOf_2_24 (x0 : Nat) (x1 : Int32) (s0 : Nat) (τ : CS) : Option (Nat × CS) :=
  if gT τ.1 x0 = 109 then
  xbd (f_c_J12_min τ.1 (Int32.ofNat (gN τ.1 x0)) x1 τ.2) fun r3 τ3 =>
  if gT τ.1 s0 = 109 then
  if xcp (0 : Int32) (0 : Int32) r3 (gN τ.1 x0) (gN τ.1 s0) = true then
  if xcpO τ.1 τ3 x0 (0 : Int32).toNatClampNeg r3.toNatClampNeg = true then
  some ((s0, (τ.1, cpP τ3 x0 s0 (0 : Int32).toNatClampNeg (0 : Int32).toNatClampNeg r3.toNatClampNeg)))
  else none
  else none
  else none
  else none
theorem ok_Jc_J13_copyOf_2_24 {D : CD} {P : CP} {K : xK} {Z : Option Value × CS} {x0 : Nat} {x1 : Int32} {s0 : Nat} {τ : CS} {o_ : (Nat × CS)} (hf : Jc_J13_copyOf_2_24 x0 x1 s0 τ = some o_) (kr : ∀ r_ : (Nat × CS), o_ = r_ → Z = (some (.ref r_.1), r_.2)) : xV (wC D P) K mJ13_copyOf_2 (xQ (wC D P) K Z) τ 24 [(0, .ref x0), (1, .int x1)] [.ref s0] := by
  unfold Jc_J13_copyOf_2_24 at hf
  refine xr_astore_n (pc := 24) (loc' := [(3, .ref s0), (0, .ref x0), (1, .int x1)]) dJ13_copyOf_2_24 rfl (by decide) rfl ?_
  refine xr_aload_n (pc := 25) 1 dJ13_copyOf_2_25 rfl rfl ?_
  refine xr_iconst (pc := 26) dJ13_copyOf_2_26 xci_0 ?_
  refine xr_aload_n (pc := 27) 0 dJ13_copyOf_2_27 rfl rfl ?_
  refine xr_iconst (pc := 28) dJ13_copyOf_2_28 xci_0 ?_
  refine xr_aload_n (pc := 29) 1 dJ13_copyOf_2_29 rfl rfl ?_
  obtain ⟨ht2, hf⟩ := xo_if hf
  refine yc_alen (pc := 30) 109 (gKo ht2 (by decide)) (by decide) (by decide) dJ13_copyOf_2_30 ?_
  refine xr_iload_n (pc := 31) 2 dJ13_copyOf_2_31 rfl rfl ?_
  obtain ⟨r3, τ3, hτ3, hf⟩ := xo_bd hf
  refine call_f_c_J12_min_J13_304 (pc := 32) hτ3 rfl (Nat.le_of_ble_eq_true rfl) (Nat.le_of_ble_eq_true rfl) (Nat.le_of_ble_eq_true rfl) dJ13_copyOf_2_32 ?_
  obtain ⟨ht4, hf⟩ := xo_if hf
  obtain ⟨hx_, hf⟩ := xo_if hf
  obtain ⟨hb_, hf⟩ := xo_if hf
  refine yc_acpyO (pc := 35) ht2 ht4 hx_ hb_ q968 q970 q969 q196 rfl (Nat.le_of_ble_eq_true rfl) (Nat.le_of_ble_eq_true rfl) (Nat.le_of_ble_eq_true rfl) dJ13_copyOf_2_35 ?_
  refine xr_aload_n (pc := 38) 0 dJ13_copyOf_2_38 rfl rfl ?_
  rw [kr _ (Option.some.inj hf).symm]
  exact xr_aret (pc := 39) dJ13_copyOf_2_39 rfl (Or.inr ⟨_, rfl⟩)
def f_a_J13_copyOf_2 (x0 : Nat) (x1 : Int32) (τ : CS) : Option (Nat × CS) :=
  xbd (aArr 109 x1 τ) fun r1 τ1 =>
  Jc_J13_copyOf_2_24 x0 x1 r1 τ1
theorem ok_f_a_J13_copyOf_2 {D : CD} {P : CP} {K : xK} {Z : Option Value × CS} {x0 : Nat} {x1 : Int32} {τ : CS} {o_ : (Nat × CS)} (hf : f_a_J13_copyOf_2 x0 x1 τ = some o_) (kr : ∀ r_ : (Nat × CS), o_ = r_ → Z = (some (.ref r_.1), r_.2)) : xV (wC D P) K mJ13_copyOf_2 (xQ (wC D P) K Z) τ 0 [(0, .ref x0), (1, .int x1), (2, .ref (D.2.2.2.2 1000))] [] := by
  unfold f_a_J13_copyOf_2 at hf
  refine xr_aload_n (pc := 0) 2 dJ13_copyOf_2_0 rfl rfl ?_
  refine yc_ldcM (pc := 1) q963 rfl dJ13_copyOf_2_1 ?_
  refine xr_acmp_ne (pc := 3) 13 dJ13_copyOf_2_3 (by decide) (fun c_ => ?_) (fun c_ => absurd rfl c_)
  refine xr_iload_n (pc := 6) 1 dJ13_copyOf_2_6 rfl rfl ?_
  obtain ⟨r1, τ1, hτ1, hf⟩ := xo_bd hf
  refine yc_aArrO (pc := 7) 109 (by decide) (by decide) rfl rfl q964 (by decide) hτ1 rfl dJ13_copyOf_2_7 ?_
  refine xr_goto (pc := 10) 24 dJ13_copyOf_2_10 (by decide) ?_
  refine xV_sub [0, 1] rfl ?_
  exact ok_Jc_J13_copyOf_2_24 hf kr
theorem met_f_a_J13_copyOf_2 (l : Launch) {D : CD} {P : CP} {x0 : Nat} {x1 : Int32} {τ : CS} {o_ : (Nat × CS)} (hf : f_a_J13_copyOf_2 x0 x1 τ = some o_) : xMet (wC D P) l yJ13_copyOf_2 (ws_ yJ13_copyOf_2 cJ13_copyOf_2 4 (some (.array (.object "java/lang/Object")))) 1 60 (grc τ.1) (grs τ.1) [.ref x0, .int x1, .ref (D.2.2.2.2 1000)] τ (some (.ref o_.1), o_.2) := 
  xMet_of (by decide) (Nat.le_of_ble_eq_true rfl) KC_moved (RPC_of (g := τ.1) (c := τ.2)) (fun K _ _ _ => ok_f_a_J13_copyOf_2 hf (fun _ h => by rw [h]))
theorem hd_f_a_J13_copyOf_2 : yJ13_copyOf_2.cls ≠ "java/lang/invoke/MethodHandle" ∧ yJ13_copyOf_2.cls ≠ "java/lang/invoke/VarHandle" ∧ (parseMethodDescriptor yJ13_copyOf_2.desc).map (fun d => d.parameters.length) = some 3 := by decide +kernel
theorem call_f_a_J13_copyOf_2_J13_300 {D : CD} {P : CP} {K : xK} {M : xM} {Q : State → Prop} {τ τ1 : CS} {x0 : Nat} {x1 : Int32} {pc : Nat} {loc : List (Nat × Value)} {st : List Value} {r : Nat} (hf : f_a_J13_copyOf_2 x0 x1 τ = some (r, τ1)) (ho : M.2.2.1 = RJ13) (hfr : 2 ≤ M.2.2.2.1) (hlo : 83 ≤ M.2.2.2.2.1) (hcat : (st.map fun v => v.category).sum ≤ 8) (d : decode M.1 pc = .ok (.invokestatic 300, 3)) (k : xV (wC D P) K M Q τ1 (pc + 3) loc (.ref r :: st)) : xV (wC D P) K M Q τ pc loc (.ref (D.2.2.2.2 1000) :: .int x1 :: .ref x0 :: st) :=
  yc_callS (g := τ.1) (c := τ.2) (g1 := τ1.1) (c1 := τ1.2) (As := [.ref x0, .int x1, .ref (D.2.2.2.2 1000)]) (rest := st) (met_f_a_J13_copyOf_2 K.2.1 hf) (lw_S q960 q961 q195 q962) hd_f_a_J13_copyOf_2 ho hfr hlo rfl rfl hcat d k
abbrev mJ13_copyOf : xM := (cJ13_copyOf, 2, RJ13, 2, 120, (some (.array (.object "java/lang/Object"))), "copyOf")
def f_a_J13_copyOf (x0 : Nat) (x1 : Int32) (τ : CS) : Option (Nat × CS) :=
  if gT τ.1 x0 = 109 then
  xbd (f_a_J13_copyOf_2 x0 x1 τ) fun r2 τ2 =>
  some ((r2, τ2))
  else none
theorem ok_f_a_J13_copyOf {D : CD} {P : CP} {K : xK} {Z : Option Value × CS} {x0 : Nat} {x1 : Int32} {τ : CS} {o_ : (Nat × CS)} (hf : f_a_J13_copyOf x0 x1 τ = some o_) (kr : ∀ r_ : (Nat × CS), o_ = r_ → Z = (some (.ref r_.1), r_.2)) : xV (wC D P) K mJ13_copyOf (xQ (wC D P) K Z) τ 0 [(0, .ref x0), (1, .int x1)] [] := by
  unfold f_a_J13_copyOf at hf
  refine xr_aload_n (pc := 0) 0 dJ13_copyOf_0 rfl rfl ?_
  refine xr_iload_n (pc := 1) 1 dJ13_copyOf_1 rfl rfl ?_
  refine xr_aload_n (pc := 2) 0 dJ13_copyOf_2 rfl rfl ?_
  obtain ⟨ht1, hf⟩ := xo_if hf
  refine yc_getC (pc := 3) (gKo ht1 (by decide)) q934 q2788 q2787 q935 q959 rfl (Nat.le_of_ble_eq_true rfl) (Nat.le_of_ble_eq_true rfl) (Nat.le_of_ble_eq_true rfl) dJ13_copyOf_3 ?_
  obtain ⟨r2, τ2, hτ2, hf⟩ := xo_bd hf
  refine call_f_a_J13_copyOf_2_J13_300 (pc := 6) hτ2 rfl (Nat.le_of_ble_eq_true rfl) (Nat.le_of_ble_eq_true rfl) (Nat.le_of_ble_eq_true rfl) dJ13_copyOf_6 ?_
  rw [kr _ (Option.some.inj hf).symm]
  exact xr_aret (pc := 9) dJ13_copyOf_9 rfl (Or.inr ⟨_, rfl⟩)
theorem met_f_a_J13_copyOf (l : Launch) {D : CD} {P : CP} {x0 : Nat} {x1 : Int32} {τ : CS} {o_ : (Nat × CS)} (hf : f_a_J13_copyOf x0 x1 τ = some o_) : xMet (wC D P) l yJ13_copyOf (ws_ yJ13_copyOf cJ13_copyOf 2 (some (.array (.object "java/lang/Object")))) 2 120 (grc τ.1) (grs τ.1) [.ref x0, .int x1] τ (some (.ref o_.1), o_.2) := 
  xMet_of (by decide) (Nat.le_of_ble_eq_true rfl) KC_moved (RPC_of (g := τ.1) (c := τ.2)) (fun K _ _ _ => ok_f_a_J13_copyOf hf (fun _ h => by rw [h]))
theorem call_f_c_J10_newLength_J2_73 {D : CD} {P : CP} {K : xK} {M : xM} {Q : State → Prop} {g : CG} {c : CC} {x0 : Int32} {x1 : Int32} {x2 : Int32} {pc : Nat} {loc : List (Nat × Value)} {st : List Value} {r : Int32} {c1 : CC} (hf : f_c_J10_newLength g x0 x1 x2 c = some (r, c1)) (ho : M.2.2.1 = RJ2) (hfr : 2 ≤ M.2.2.2.1) (hlo : 83 ≤ M.2.2.2.2.1) (hcat : (st.map fun v => v.category).sum ≤ 8) (d : decode M.1 pc = .ok (.invokestatic 73, 3)) (k : xV (wC D P) K M Q (g, c1) (pc + 3) loc (.int r :: st)) : xV (wC D P) K M Q (g, c) pc loc (.int x2 :: .int x1 :: .int x0 :: st) :=
  yc_callS (As := [.int x0, .int x1, .int x2]) (rest := st) (met_f_c_J10_newLength K.2.1 hf) (lw_S q921 q922 q191 q923) hd_f_c_J10_newLength ho hfr hlo rfl rfl hcat d k
theorem hd_f_a_J13_copyOf : yJ13_copyOf.cls ≠ "java/lang/invoke/MethodHandle" ∧ yJ13_copyOf.cls ≠ "java/lang/invoke/VarHandle" ∧ (parseMethodDescriptor yJ13_copyOf.desc).map (fun d => d.parameters.length) = some 2 := by decide +kernel
theorem call_f_a_J13_copyOf_J2_66 {D : CD} {P : CP} {K : xK} {M : xM} {Q : State → Prop} {τ τ1 : CS} {x0 : Nat} {x1 : Int32} {pc : Nat} {loc : List (Nat × Value)} {st : List Value} {r : Nat} (hf : f_a_J13_copyOf x0 x1 τ = some (r, τ1)) (ho : M.2.2.1 = RJ2) (hfr : 3 ≤ M.2.2.2.1) (hlo : 141 ≤ M.2.2.2.2.1) (hcat : (st.map fun v => v.category).sum ≤ 8) (d : decode M.1 pc = .ok (.invokestatic 66, 3)) (k : xV (wC D P) K M Q τ1 (pc + 3) loc (.ref r :: st)) : xV (wC D P) K M Q τ pc loc (.int x1 :: .ref x0 :: st) :=
  yc_callS (g := τ.1) (c := τ.2) (g1 := τ1.1) (c1 := τ1.2) (As := [.ref x0, .int x1]) (rest := st) (met_f_a_J13_copyOf K.2.1 hf) (lw_S q931 q932 q195 q933) hd_f_a_J13_copyOf ho hfr hlo rfl rfl hcat d k
theorem call_f_c_J12_max_J2_79 {D : CD} {P : CP} {K : xK} {M : xM} {Q : State → Prop} {g : CG} {c : CC} {x0 : Int32} {x1 : Int32} {pc : Nat} {loc : List (Nat × Value)} {st : List Value} {r : Int32} {c1 : CC} (hf : f_c_J12_max g x0 x1 c = some (r, c1)) (ho : M.2.2.1 = RJ2) (hfr : 1 ≤ M.2.2.2.1) (hlo : 21 ≤ M.2.2.2.2.1) (hcat : (st.map fun v => v.category).sum ≤ 8) (d : decode M.1 pc = .ok (.invokestatic 79, 3)) (k : xV (wC D P) K M Q (g, c1) (pc + 3) loc (.int r :: st)) : xV (wC D P) K M Q (g, c) pc loc (.int x1 :: .int x0 :: st) :=
  yc_callS (As := [.int x0, .int x1]) (rest := st) (met_f_c_J12_max K.2.1 hf) (lw_S q971 q925 q194 q926) hd_f_c_J12_max ho hfr hlo rfl rfl hcat d k
abbrev mJ2_grow_2 : xM := (cJ2_grow_2, 4, RJ2, 3, 180, (some (.array (.object "java/lang/Object"))), "grow")
def Jc_J2_grow_2_20 (x0 : Nat) (x1 : Int32) (x2 : Int32) (τ : CS) : Option (Nat × CS) :=
  xbd (f_c_J10_newLength τ.1 x2 (x1 - x2) ((x2 : Int32) >>> (1 &&& 31)) τ.2) fun r4 τ4 =>
  if gT τ.1 x0 = 18 then
  (cR τ4 1801 x0).bind fun b6 =>
  xbd (f_a_J13_copyOf b6 r4 (τ.1, τ4)) fun r7 τ7 =>
  if gT τ7.1 x0 = 18 then
  some ((r7, (τ7.1, uR τ7.2 1801 x0 (some r7))))
  else none
  else none
theorem ok_Jc_J2_grow_2_20 {D : CD} {P : CP} {K : xK} {Z : Option Value × CS} {x0 : Nat} {x1 : Int32} {x2 : Int32} {τ : CS} {o_ : (Nat × CS)} (hf : Jc_J2_grow_2_20 x0 x1 x2 τ = some o_) (kr : ∀ r_ : (Nat × CS), o_ = r_ → Z = (some (.ref r_.1), r_.2)) : xV (wC D P) K mJ2_grow_2 (xQ (wC D P) K Z) τ 20 [(0, .ref x0), (1, .int x1), (2, .int x2)] [] := by
  unfold Jc_J2_grow_2_20 at hf
  refine xr_iload_n (pc := 20) 2 dJ2_grow_2_20 rfl rfl ?_
  refine xr_iload_n (pc := 21) 1 dJ2_grow_2_21 rfl rfl ?_
  refine xr_iload_n (pc := 22) 2 dJ2_grow_2_22 rfl rfl ?_
  refine xr_isub (pc := 23) dJ2_grow_2_23 ?_
  refine xr_iload_n (pc := 24) 2 dJ2_grow_2_24 rfl rfl ?_
  refine xr_iconst (pc := 25) dJ2_grow_2_25 xci_1 ?_
  refine xr_ishr (pc := 26) dJ2_grow_2_26 ?_
  obtain ⟨r4, τ4, hτ4, hf⟩ := xo_bd hf
  refine call_f_c_J10_newLength_J2_73 (pc := 27) hτ4 rfl (Nat.le_of_ble_eq_true rfl) (Nat.le_of_ble_eq_true rfl) (Nat.le_of_ble_eq_true rfl) dJ2_grow_2_27 ?_
  refine xr_istore_n (pc := 30) (loc' := [(3, .int r4), (0, .ref x0), (1, .int x1), (2, .int x2)]) dJ2_grow_2_30 rfl (by decide) rfl ?_
  refine xr_aload_n (pc := 31) 1 dJ2_grow_2_31 rfl rfl ?_
  refine xr_aload_n (pc := 32) 1 dJ2_grow_2_32 rfl rfl ?_
  obtain ⟨ht5, hf⟩ := xo_if hf
  obtain ⟨b6, hb6, hf⟩ := xo_bind hf
  refine yc_getRs (pc := 33) 18 1 1801 (gKo ht5 (by decide)) (by decide) (by decide) (by decide) rfl rfl hb6 q244 (ys_eq rfl) rfl dJ2_grow_2_33 ?_
  refine xr_iload_n (pc := 36) 0 dJ2_grow_2_36 rfl rfl ?_
  obtain ⟨r7, τ7, hτ7, hf⟩ := xo_bd hf
  refine call_f_a_J13_copyOf_J2_66 (pc := 37) hτ7 rfl (Nat.le_of_ble_eq_true rfl) (Nat.le_of_ble_eq_true rfl) (Nat.le_of_ble_eq_true rfl) dJ2_grow_2_37 ?_
  refine xr_dup_x1 (pc := 40) dJ2_grow_2_40 rfl rfl ?_
  obtain ⟨ht8, hf⟩ := xo_if hf
  refine yc_putRs (pc := 41) 18 1 1801 ht8 (by decide) (by decide) (by decide) rfl rfl rfl (ty := (.array (.object "java/lang/Object"))) (by decide +kernel) rfl q244 (ys_eq rfl) rfl dJ2_grow_2_41 ?_
  rw [kr _ (Option.some.inj hf).symm]
  exact xr_aret (pc := 44) dJ2_grow_2_44 rfl (Or.inr ⟨_, rfl⟩)
def f_a_J2_grow_2 (x0 : Nat) (x1 : Int32) (τ : CS) : Option (Nat × CS) :=
  if gT τ.1 x0 = 18 then
  (cR τ.2 1801 x0).bind fun b2 =>
  if gT τ.1 b2 = 109 then
  if (0 : Int32) < (Int32.ofNat (gN τ.1 b2)) then
  Jc_J2_grow_2_20 x0 x1 (Int32.ofNat (gN τ.1 b2)) τ
  else
  (cR τ.2 1801 x0).bind fun b9 =>
  if b9 = (gA τ.1 0 5) then
  xbd (f_c_J12_max τ.1 10 x1 τ.2) fun r10 τ10 =>
  xbd (aArr 109 r10 (τ.1, τ10)) fun r11 τ11 =>
  if gT τ11.1 x0 = 18 then
  some ((r11, (τ11.1, uR τ11.2 1801 x0 (some r11))))
  else none
  else
  Jc_J2_grow_2_20 x0 x1 (Int32.ofNat (gN τ.1 b2)) τ
  else none
  else none
theorem ok_f_a_J2_grow_2 {D : CD} {P : CP} {K : xK} {Z : Option Value × CS} {x0 : Nat} {x1 : Int32} {τ : CS} {o_ : (Nat × CS)} (hf : f_a_J2_grow_2 x0 x1 τ = some o_) (kr : ∀ r_ : (Nat × CS), o_ = r_ → Z = (some (.ref r_.1), r_.2)) : xV (wC D P) K mJ2_grow_2 (xQ (wC D P) K Z) τ 0 [(0, .ref x0), (1, .int x1)] [] := by
  unfold f_a_J2_grow_2 at hf
  refine xr_aload_n (pc := 0) 0 dJ2_grow_2_0 rfl rfl ?_
  obtain ⟨ht1, hf⟩ := xo_if hf
  obtain ⟨b2, hb2, hf⟩ := xo_bind hf
  refine yc_getRs (pc := 1) 18 1 1801 (gKo ht1 (by decide)) (by decide) (by decide) (by decide) rfl rfl hb2 q244 (ys_eq rfl) rfl dJ2_grow_2_1 ?_
  obtain ⟨ht3, hf⟩ := xo_if hf
  refine yc_alen (pc := 4) 109 (gKo ht3 (by decide)) (by decide) (by decide) dJ2_grow_2_4 ?_
  refine xr_istore_n (pc := 5) (loc' := [(2, .int (Int32.ofNat (gN τ.1 b2))), (0, .ref x0), (1, .int x1)]) dJ2_grow_2_5 rfl (by decide) rfl ?_
  refine xr_iload_n (pc := 6) 0 dJ2_grow_2_6 rfl rfl ?_
  refine xr_if_gt (pc := 7) 20 dJ2_grow_2_7 (by decide) (fun c_ => ?_) (fun c_ => ?_)
  · have hf := xo_pos c_ hf
    refine xV_sub [1, 2, 0] rfl ?_
    exact ok_Jc_J2_grow_2_20 hf kr
  · have hf := xo_neg c_ hf
    refine xr_aload_n (pc := 10) 1 dJ2_grow_2_10 rfl rfl ?_
    obtain ⟨b9, hb9, hf⟩ := xo_bind hf
    refine yc_getRs (pc := 11) 18 1 1801 (gKo ht1 (by decide)) (by decide) (by decide) (by decide) rfl rfl hb9 q244 (ys_eq rfl) rfl dJ2_grow_2_11 ?_
    refine yc_gets (pc := 14) 5 (by decide) (by decide) q919 rfl rfl dJ2_grow_2_14 ?_
    refine xr_acmp_eq (pc := 17) 45 dJ2_grow_2_17 (by decide) (fun c_ => ?_) (fun c_ => ?_)
    · have hf := xo_pos c_ hf
      refine xr_aload_n (pc := 45) 1 dJ2_grow_2_45 rfl rfl ?_
      refine xr_bipush (pc := 46) dJ2_grow_2_46 xcb_10 ?_
      refine xr_iload_n (pc := 48) 2 dJ2_grow_2_48 rfl rfl ?_
      obtain ⟨r10, τ10, hτ10, hf⟩ := xo_bd hf
      refine call_f_c_J12_max_J2_79 (pc := 49) hτ10 rfl (Nat.le_of_ble_eq_true rfl) (Nat.le_of_ble_eq_true rfl) (Nat.le_of_ble_eq_true rfl) dJ2_grow_2_49 ?_
      obtain ⟨r11, τ11, hτ11, hf⟩ := xo_bd hf
      refine yc_aArrO (pc := 52) 109 (by decide) (by decide) rfl rfl q240 (by decide) hτ11 rfl dJ2_grow_2_52 ?_
      refine xr_dup_x1 (pc := 55) dJ2_grow_2_55 rfl rfl ?_
      obtain ⟨ht12, hf⟩ := xo_if hf
      refine yc_putRs (pc := 56) 18 1 1801 ht12 (by decide) (by decide) (by decide) rfl rfl rfl (ty := (.array (.object "java/lang/Object"))) (by decide +kernel) rfl q244 (ys_eq rfl) rfl dJ2_grow_2_56 ?_
      rw [kr _ (Option.some.inj hf).symm]
      exact xr_aret (pc := 59) dJ2_grow_2_59 rfl (Or.inr ⟨_, rfl⟩)
    · have hf := xo_neg c_ hf
      refine xV_sub [1, 2, 0] rfl ?_
      exact ok_Jc_J2_grow_2_20 hf kr
theorem met_f_a_J2_grow_2 (l : Launch) {D : CD} {P : CP} {x0 : Nat} {x1 : Int32} {τ : CS} {o_ : (Nat × CS)} (hf : f_a_J2_grow_2 x0 x1 τ = some o_) : xMet (wC D P) l yJ2_grow_2 (ws_ yJ2_grow_2 cJ2_grow_2 4 (some (.array (.object "java/lang/Object")))) 3 180 (grc τ.1) (grs τ.1) [.ref x0, .int x1] τ (some (.ref o_.1), o_.2) := 
  xMet_of (by decide) (Nat.le_of_ble_eq_true rfl) KC_moved (RPC_of (g := τ.1) (c := τ.2)) (fun K _ _ _ => ok_f_a_J2_grow_2 hf (fun _ h => by rw [h]))
theorem hd_f_a_J2_grow_2 : yJ2_grow_2.cls ≠ "java/lang/invoke/MethodHandle" ∧ yJ2_grow_2.cls ≠ "java/lang/invoke/VarHandle" ∧ (parseMethodDescriptor yJ2_grow_2.desc).map (fun d => d.parameters.length) = some 1 := by decide +kernel
theorem call_f_a_J2_grow_2_J2_69 {D : CD} {P : CP} {K : xK} {M : xM} {Q : State → Prop} {τ τ1 : CS} {x0 : Nat} {x1 : Int32} {pc : Nat} {loc : List (Nat × Value)} {st : List Value} {r : Nat} (hf : f_a_J2_grow_2 x0 x1 τ = some (r, τ1)) (hr : gK τ.1 x0 = 18) (ho : M.2.2.1 = RJ2) (hfr : 4 ≤ M.2.2.2.1) (hlo : 203 ≤ M.2.2.2.2.1) (hcat : (st.map fun v => v.category).sum ≤ 8) (d : decode M.1 pc = .ok (.invokevirtual 69, 3)) (k : xV (wC D P) K M Q τ1 (pc + 3) loc (.ref r :: st)) : xV (wC D P) K M Q τ pc loc (.int x1 :: .ref x0 :: st) :=
  yc_callV (g := τ.1) (c := τ.2) (g1 := τ1.1) (c1 := τ1.2) (As := [.int x1]) (rest := st) (met_f_a_J2_grow_2 K.2.1 hf) (lw_V q915 q917 qs21 q178 q918) ⟨rfl, hd_f_a_J2_grow_2⟩ ho hfr hlo rfl hr (by decide) (by decide) rfl rfl hcat d k
abbrev mJ2_grow : xM := (cJ2_grow, 1, RJ2, 4, 240, (some (.array (.object "java/lang/Object"))), "grow")
def f_a_J2_grow (x0 : Nat) (τ : CS) : Option (Nat × CS) :=
  if gT τ.1 x0 = 18 then
  xbd (f_a_J2_grow_2 x0 ((cI τ.2 1802 x0) + 1) τ) fun r2 τ2 =>
  some ((r2, τ2))
  else none
theorem ok_f_a_J2_grow {D : CD} {P : CP} {K : xK} {Z : Option Value × CS} {x0 : Nat} {τ : CS} {o_ : (Nat × CS)} (hf : f_a_J2_grow x0 τ = some o_) (kr : ∀ r_ : (Nat × CS), o_ = r_ → Z = (some (.ref r_.1), r_.2)) : xV (wC D P) K mJ2_grow (xQ (wC D P) K Z) τ 0 [(0, .ref x0)] [] := by
  unfold f_a_J2_grow at hf
  refine xr_aload_n (pc := 0) 0 dJ2_grow_0 rfl rfl ?_
  refine xr_aload_n (pc := 1) 0 dJ2_grow_1 rfl rfl ?_
  obtain ⟨ht1, hf⟩ := xo_if hf
  refine yc_getI (pc := 2) 18 2 1802 (gKo ht1 (by decide)) (by decide) (by decide) (by decide) rfl rfl q245 (ys_eq rfl) rfl dJ2_grow_2 ?_
  refine xr_iconst (pc := 5) dJ2_grow_5 xci_1 ?_
  refine xr_iadd (pc := 6) dJ2_grow_6 ?_
  obtain ⟨r2, τ2, hτ2, hf⟩ := xo_bd hf
  refine call_f_a_J2_grow_2_J2_69 (pc := 7) hτ2 (gKo ht1 (by decide)) rfl (Nat.le_of_ble_eq_true rfl) (Nat.le_of_ble_eq_true rfl) (Nat.le_of_ble_eq_true rfl) dJ2_grow_7 ?_
  rw [kr _ (Option.some.inj hf).symm]
  exact xr_aret (pc := 10) dJ2_grow_10 rfl (Or.inr ⟨_, rfl⟩)
theorem met_f_a_J2_grow (l : Launch) {D : CD} {P : CP} {x0 : Nat} {τ : CS} {o_ : (Nat × CS)} (hf : f_a_J2_grow x0 τ = some o_) : xMet (wC D P) l yJ2_grow (ws_ yJ2_grow cJ2_grow 1 (some (.array (.object "java/lang/Object")))) 4 240 (grc τ.1) (grs τ.1) [.ref x0] τ (some (.ref o_.1), o_.2) := 
  xMet_of (by decide) (Nat.le_of_ble_eq_true rfl) KC_moved (RPC_of (g := τ.1) (c := τ.2)) (fun K _ _ _ => ok_f_a_J2_grow hf (fun _ h => by rw [h]))
theorem hd_f_a_J2_grow : yJ2_grow.cls ≠ "java/lang/invoke/MethodHandle" ∧ yJ2_grow.cls ≠ "java/lang/invoke/VarHandle" ∧ (parseMethodDescriptor yJ2_grow.desc).map (fun d => d.parameters.length) = some 0 := by decide +kernel
theorem call_f_a_J2_grow_J2_129 {D : CD} {P : CP} {K : xK} {M : xM} {Q : State → Prop} {τ τ1 : CS} {x0 : Nat} {pc : Nat} {loc : List (Nat × Value)} {st : List Value} {r : Nat} (hf : f_a_J2_grow x0 τ = some (r, τ1)) (hr : gK τ.1 x0 = 18) (ho : M.2.2.1 = RJ2) (hfr : 5 ≤ M.2.2.2.1) (hlo : 260 ≤ M.2.2.2.2.1) (hcat : (st.map fun v => v.category).sum ≤ 8) (d : decode M.1 pc = .ok (.invokevirtual 129, 3)) (k : xV (wC D P) K M Q τ1 (pc + 3) loc (.ref r :: st)) : xV (wC D P) K M Q τ pc loc (.ref x0 :: st) :=
  yc_callV (g := τ.1) (c := τ.2) (g1 := τ1.1) (c1 := τ1.2) (As := []) (rest := st) (met_f_a_J2_grow K.2.1 hf) (lw_V q911 q913 qs20 q178 q914) ⟨rfl, hd_f_a_J2_grow⟩ ho hfr hlo rfl hr (by decide) (by decide) rfl rfl hcat d k
abbrev mJ2_add_2 : xM := (cJ2_add_2, 4, RJ2, 5, 300, none, "add")
def Jc_J2_add_2_11 (x0 : Nat) (x1 : Nat) (x2 : Nat) (x3 : Int32) (τ : CS) : Option CS :=
  if gT τ.1 x2 = 109 then
  if asg 109 (gK τ.1 x1) = true then
  if xin x3 (gN τ.1 x2) = true then
  if gT τ.1 x0 = 18 then
  some ((τ.1, uI (uP τ.2 x2 x3.toNatClampNeg (some x1)) 1802 x0 (x3 + 1)))
  else none
  else none
  else none
  else none
theorem ok_Jc_J2_add_2_11 {D : CD} {P : CP} {K : xK} {Z : Option Value × CS} {x0 : Nat} {x1 : Nat} {x2 : Nat} {x3 : Int32} {τ : CS} {o_ : CS} (hf : Jc_J2_add_2_11 x0 x1 x2 x3 τ = some o_) (kr : ∀ r_ : CS, o_ = r_ → Z = (none, r_)) : xV (wC D P) K mJ2_add_2 (xQ (wC D P) K Z) τ 11 [(0, .ref x0), (1, .ref x1), (2, .ref x2), (3, .int x3)] [] := by
  unfold Jc_J2_add_2_11 at hf
  refine xr_aload_n (pc := 11) 2 dJ2_add_2_11 rfl rfl ?_
  refine xr_iload_n (pc := 12) 3 dJ2_add_2_12 rfl rfl ?_
  refine xr_aload_n (pc := 13) 1 dJ2_add_2_13 rfl rfl ?_
  obtain ⟨ht4, hf⟩ := xo_if hf
  obtain ⟨ha_, hf⟩ := xo_if hf
  obtain ⟨hi_, hf⟩ := xo_if hf
  refine yc_aast (pc := 14) 109 _ ht4 (by decide) (by decide) rfl rfl rfl ha_ hi_ dJ2_add_2_14 ?_
  refine xr_aload_n (pc := 15) 0 dJ2_add_2_15 rfl rfl ?_
  refine xr_iload_n (pc := 16) 3 dJ2_add_2_16 rfl rfl ?_
  refine xr_iconst (pc := 17) dJ2_add_2_17 xci_1 ?_
  refine xr_iadd (pc := 18) dJ2_add_2_18 ?_
  obtain ⟨ht5, hf⟩ := xo_if hf
  refine yc_putI (pc := 19) 18 2 1802 ht5 (by decide) (by decide) (by decide) rfl rfl rfl (ty := .int) (by decide +kernel) rfl rfl q245 (ys_eq rfl) rfl dJ2_add_2_19 ?_
  rw [kr _ (Option.some.inj hf).symm]
  exact xr_vret (pc := 22) dJ2_add_2_22 rfl
def f_a_J2_add_2 (x0 : Nat) (x1 : Nat) (x2 : Nat) (x3 : Int32) (τ : CS) : Option CS :=
  if gT τ.1 x2 = 109 then
  if x3 = (Int32.ofNat (gN τ.1 x2)) then
  if gT τ.1 x0 = 18 then
  xbd (f_a_J2_grow x0 τ) fun r3 τ3 =>
  Jc_J2_add_2_11 x0 x1 r3 x3 τ3
  else none
  else
  Jc_J2_add_2_11 x0 x1 x2 x3 τ
  else none
theorem ok_f_a_J2_add_2 {D : CD} {P : CP} {K : xK} {Z : Option Value × CS} {x0 : Nat} {x1 : Nat} {x2 : Nat} {x3 : Int32} {τ : CS} {o_ : CS} (hf : f_a_J2_add_2 x0 x1 x2 x3 τ = some o_) (kr : ∀ r_ : CS, o_ = r_ → Z = (none, r_)) : xV (wC D P) K mJ2_add_2 (xQ (wC D P) K Z) τ 0 [(0, .ref x0), (1, .ref x1), (2, .ref x2), (3, .int x3)] [] := by
  unfold f_a_J2_add_2 at hf
  refine xr_iload_n (pc := 0) 3 dJ2_add_2_0 rfl rfl ?_
  refine xr_aload_n (pc := 1) 2 dJ2_add_2_1 rfl rfl ?_
  obtain ⟨ht1, hf⟩ := xo_if hf
  refine yc_alen (pc := 2) 109 (gKo ht1 (by decide)) (by decide) (by decide) dJ2_add_2_2 ?_
  refine xr_icmp_ne (pc := 3) 11 dJ2_add_2_3 (by decide) (fun c_ => ?_) (fun c_ => ?_)
  · have hf := xo_pos c_ hf
    refine xr_aload_n (pc := 6) 0 dJ2_add_2_6 rfl rfl ?_
    obtain ⟨ht2, hf⟩ := xo_if hf
    obtain ⟨r3, τ3, hτ3, hf⟩ := xo_bd hf
    refine call_f_a_J2_grow_J2_129 (pc := 7) hτ3 (gKo ht2 (by decide)) rfl (Nat.le_of_ble_eq_true rfl) (Nat.le_of_ble_eq_true rfl) (Nat.le_of_ble_eq_true rfl) dJ2_add_2_7 ?_
    refine xr_astore_n (pc := 10) (loc' := [(2, .ref r3), (0, .ref x0), (1, .ref x1), (3, .int x3)]) dJ2_add_2_10 rfl (by decide) rfl ?_
    refine xV_sub [1, 2, 0, 3] rfl ?_
    exact ok_Jc_J2_add_2_11 hf kr
  · have hf := xo_neg c_ hf
    exact ok_Jc_J2_add_2_11 hf kr
theorem met_f_a_J2_add_2 (l : Launch) {D : CD} {P : CP} {x0 : Nat} {x1 : Nat} {x2 : Nat} {x3 : Int32} {τ : CS} {o_ : CS} (hf : f_a_J2_add_2 x0 x1 x2 x3 τ = some o_) : xMet (wC D P) l yJ2_add_2 (ws_ yJ2_add_2 cJ2_add_2 4 none) 5 300 (grc τ.1) (grs τ.1) [.ref x0, .ref x1, .ref x2, .int x3] τ (none, o_) := 
  xMet_of (by decide) (Nat.le_of_ble_eq_true rfl) KC_moved (RPC_of (g := τ.1) (c := τ.2)) (fun K _ _ _ => ok_f_a_J2_add_2 hf (fun _ h => by rw [h]))
theorem hd_f_a_J2_add_2 : yJ2_add_2.cls ≠ "java/lang/invoke/MethodHandle" ∧ yJ2_add_2.cls ≠ "java/lang/invoke/VarHandle" ∧ (parseMethodDescriptor yJ2_add_2.desc).map (fun d => d.parameters.length) = some 3 := by decide +kernel
theorem call_f_a_J2_add_2_J2_131 {D : CD} {P : CP} {K : xK} {M : xM} {Q : State → Prop} {τ τ1 : CS} {x0 : Nat} {x1 : Nat} {x2 : Nat} {x3 : Int32} {pc : Nat} {loc : List (Nat × Value)} {st : List Value} (hf : f_a_J2_add_2 x0 x1 x2 x3 τ = some τ1) (hr : gK τ.1 x0 = 18) (ho : M.2.2.1 = RJ2) (hfr : 6 ≤ M.2.2.2.1) (hlo : 323 ≤ M.2.2.2.2.1) (hcat : (st.map fun v => v.category).sum ≤ 8) (d : decode M.1 pc = .ok (.invokevirtual 131, 3)) (k : xV (wC D P) K M Q τ1 (pc + 3) loc st) : xV (wC D P) K M Q τ pc loc (.int x3 :: .ref x2 :: .ref x1 :: .ref x0 :: st) :=
  yc_callV (g := τ.1) (c := τ.2) (g1 := τ1.1) (c1 := τ1.2) (As := [.ref x1, .ref x2, .int x3]) (rest := st) (met_f_a_J2_add_2 K.2.1 hf) (lw_V q907 q909 qs19 q178 q910) ⟨rfl, hd_f_a_J2_add_2⟩ ho hfr hlo rfl hr (by decide) (by decide) rfl rfl hcat d k
abbrev mJ2_add : xM := (cJ2_add, 2, RJ2, 6, 360, (some .boolean), "add")
def f_a_J2_add (x0 : Nat) (x1 : Nat) (τ : CS) : Option (Int32 × CS) :=
  if gT τ.1 x0 = 18 then
  (cR (uI τ.2 1800 x0 ((cI τ.2 1800 x0) + 1)) 1801 x0).bind fun b2 =>
  (f_a_J2_add_2 x0 x1 b2 (cI (uI τ.2 1800 x0 ((cI τ.2 1800 x0) + 1)) 1802 x0) (τ.1, uI τ.2 1800 x0 ((cI τ.2 1800 x0) + 1))).bind fun τ3 =>
  some ((1, τ3))
  else none
theorem ok_f_a_J2_add {D : CD} {P : CP} {K : xK} {Z : Option Value × CS} {x0 : Nat} {x1 : Nat} {τ : CS} {o_ : (Int32 × CS)} (hf : f_a_J2_add x0 x1 τ = some o_) (kr : ∀ r_ : (Int32 × CS), o_ = r_ → Z = (some (.int r_.1), r_.2)) : xV (wC D P) K mJ2_add (xQ (wC D P) K Z) τ 0 [(0, .ref x0), (1, .ref x1)] [] := by
  unfold f_a_J2_add at hf
  refine xr_aload_n (pc := 0) 0 dJ2_add_0 rfl rfl ?_
  refine xr_dup (pc := 1) dJ2_add_1 rfl ?_
  obtain ⟨ht1, hf⟩ := xo_if hf
  refine yc_getI (pc := 2) 18 0 1800 (gKo ht1 (by decide)) (by decide) (by decide) (by decide) rfl rfl q247 (ys_same q248) rfl dJ2_add_2 ?_
  refine xr_iconst (pc := 5) dJ2_add_5 xci_1 ?_
  refine xr_iadd (pc := 6) dJ2_add_6 ?_
  refine yc_putI (pc := 7) 18 0 1800 ht1 (by decide) (by decide) (by decide) rfl rfl rfl (ty := .int) (by decide +kernel) rfl rfl q247 (ys_same q248) rfl dJ2_add_7 ?_
  refine xr_aload_n (pc := 10) 0 dJ2_add_10 rfl rfl ?_
  refine xr_aload_n (pc := 11) 1 dJ2_add_11 rfl rfl ?_
  refine xr_aload_n (pc := 12) 0 dJ2_add_12 rfl rfl ?_
  obtain ⟨b2, hb2, hf⟩ := xo_bind hf
  refine yc_getRs (pc := 13) 18 1 1801 (gKo ht1 (by decide)) (by decide) (by decide) (by decide) rfl rfl hb2 q244 (ys_eq rfl) rfl dJ2_add_13 ?_
  refine xr_aload_n (pc := 16) 0 dJ2_add_16 rfl rfl ?_
  refine yc_getI (pc := 17) 18 2 1802 (gKo ht1 (by decide)) (by decide) (by decide) (by decide) rfl rfl q245 (ys_eq rfl) rfl dJ2_add_17 ?_
  obtain ⟨τ3, hτ3, hf⟩ := xo_bind hf
  refine call_f_a_J2_add_2_J2_131 (pc := 20) hτ3 (gKo ht1 (by decide)) rfl (Nat.le_of_ble_eq_true rfl) (Nat.le_of_ble_eq_true rfl) (Nat.le_of_ble_eq_true rfl) dJ2_add_20 ?_
  refine xr_iconst (pc := 23) dJ2_add_23 xci_1 ?_
  rw [kr _ (Option.some.inj hf).symm]
  exact xr_zret (pc := 24) dJ2_add_24 rfl xz_1
theorem met_f_a_J2_add (l : Launch) {D : CD} {P : CP} {x0 : Nat} {x1 : Nat} {τ : CS} {o_ : (Int32 × CS)} (hf : f_a_J2_add x0 x1 τ = some o_) : xMet (wC D P) l yJ2_add (ws_ yJ2_add cJ2_add 2 (some .boolean)) 6 360 (grc τ.1) (grs τ.1) [.ref x0, .ref x1] τ (some (.int o_.1), o_.2) := 
  xMet_of (by decide) (Nat.le_of_ble_eq_true rfl) KC_moved (RPC_of (g := τ.1) (c := τ.2)) (fun K _ _ _ => ok_f_a_J2_add hf (fun _ h => by rw [h]))
abbrev mJ13_copyOf_3 : xM := (cJ13_copyOf_3, 3, RJ13, 1, 60, (some (.array .byte)), "copyOf")
def f_a_J13_copyOf_3 (x0 : Nat) (x1 : Int32) (τ : CS) : Option (Nat × CS) :=
  if gK τ.1 x0 = 103 then
  if x1 = (Int32.ofNat (gN τ.1 x0)) then
  none
  else
  xbd (aArr 103 x1 τ) fun r2 τ2 =>
  if gK τ2.1 x0 = 103 then
  xbd (f_c_J12_min τ2.1 (Int32.ofNat (gN τ2.1 x0)) x1 τ2.2) fun r4 τ4 =>
  if gT τ2.1 x0 = 103 then
  if xcp (0 : Int32) (0 : Int32) r4 (gN τ2.1 x0) (gN τ2.1 r2) = true then
  if xcpB τ4 x0 (0 : Int32).toNatClampNeg r4.toNatClampNeg = true then
  some ((r2, (τ2.1, cpA τ4 x0 r2 (0 : Int32).toNatClampNeg (0 : Int32).toNatClampNeg r4.toNatClampNeg)))
  else none
  else none
  else none
  else none
  else none
theorem ok_f_a_J13_copyOf_3 {D : CD} {P : CP} {K : xK} {Z : Option Value × CS} {x0 : Nat} {x1 : Int32} {τ : CS} {o_ : (Nat × CS)} (hf : f_a_J13_copyOf_3 x0 x1 τ = some o_) (kr : ∀ r_ : (Nat × CS), o_ = r_ → Z = (some (.ref r_.1), r_.2)) : xV (wC D P) K mJ13_copyOf_3 (xQ (wC D P) K Z) τ 0 [(0, .ref x0), (1, .int x1)] [] := by
  unfold f_a_J13_copyOf_3 at hf
  refine xr_iload_n (pc := 0) 1 dJ13_copyOf_3_0 rfl rfl ?_
  refine xr_aload_n (pc := 1) 0 dJ13_copyOf_3_1 rfl rfl ?_
  obtain ⟨ht1, hf⟩ := xo_if hf
  refine yc_alen (pc := 2) 103 ht1 (by decide) (by decide) dJ13_copyOf_3_2 ?_
  refine xr_icmp_ne (pc := 3) 14 dJ13_copyOf_3_3 (by decide) (fun c_ => ?_) (fun c_ => ?_)
  · have hf := xo_pos c_ hf
    refine xr_aload_n (pc := 6) 0 dJ13_copyOf_3_6 rfl rfl ?_
    cases hf
  · have hf := xo_neg c_ hf
    refine xr_iload_n (pc := 14) 1 dJ13_copyOf_3_14 rfl rfl ?_
    obtain ⟨r2, τ2, hτ2, hf⟩ := xo_bd hf
    refine yc_aArr (pc := 15) 103 (by decide) (by decide) rfl (Or.inl rfl) (by decide +kernel) (by decide) q387 hτ2 dJ13_copyOf_3_15 ?_
    refine xr_astore_n (pc := 17) (loc' := [(2, .ref r2), (0, .ref x0), (1, .int x1)]) dJ13_copyOf_3_17 rfl (by decide) rfl ?_
    refine xr_aload_n (pc := 18) 1 dJ13_copyOf_3_18 rfl rfl ?_
    refine xr_iconst (pc := 19) dJ13_copyOf_3_19 xci_0 ?_
    refine xr_aload_n (pc := 20) 0 dJ13_copyOf_3_20 rfl rfl ?_
    refine xr_iconst (pc := 21) dJ13_copyOf_3_21 xci_0 ?_
    refine xr_aload_n (pc := 22) 1 dJ13_copyOf_3_22 rfl rfl ?_
    obtain ⟨ht3, hf⟩ := xo_if hf
    refine yc_alen (pc := 23) 103 ht3 (by decide) (by decide) dJ13_copyOf_3_23 ?_
    refine xr_iload_n (pc := 24) 2 dJ13_copyOf_3_24 rfl rfl ?_
    obtain ⟨r4, τ4, hτ4, hf⟩ := xo_bd hf
    refine call_f_c_J12_min_J13_304 (pc := 25) hτ4 rfl (Nat.le_of_ble_eq_true rfl) (Nat.le_of_ble_eq_true rfl) (Nat.le_of_ble_eq_true rfl) dJ13_copyOf_3_25 ?_
    obtain ⟨ht5, hf⟩ := xo_if hf
    obtain ⟨hx_, hf⟩ := xo_if hf
    obtain ⟨hb_, hf⟩ := xo_if hf
    refine yc_acpyB (pc := 28) ht5 (aArr_T hτ2) hx_ hb_ q968 q970 q969 q196 rfl (Nat.le_of_ble_eq_true rfl) (Nat.le_of_ble_eq_true rfl) (Nat.le_of_ble_eq_true rfl) dJ13_copyOf_3_28 ?_
    refine xr_aload_n (pc := 31) 0 dJ13_copyOf_3_31 rfl rfl ?_
    rw [kr _ (Option.some.inj hf).symm]
    exact xr_aret (pc := 32) dJ13_copyOf_3_32 rfl (Or.inr ⟨_, rfl⟩)
theorem met_f_a_J13_copyOf_3 (l : Launch) {D : CD} {P : CP} {x0 : Nat} {x1 : Int32} {τ : CS} {o_ : (Nat × CS)} (hf : f_a_J13_copyOf_3 x0 x1 τ = some o_) : xMet (wC D P) l yJ13_copyOf_3 (ws_ yJ13_copyOf_3 cJ13_copyOf_3 3 (some (.array .byte))) 1 60 (grc τ.1) (grs τ.1) [.ref x0, .int x1] τ (some (.ref o_.1), o_.2) := 
  xMet_of (by decide) (Nat.le_of_ble_eq_true rfl) KC_moved (RPC_of (g := τ.1) (c := τ.2)) (fun K _ _ _ => ok_f_a_J13_copyOf_3 hf (fun _ h => by rw [h]))
abbrev mJ14_init : xM := (cJ14_init, 2, RJ14, 2, 120, none, "<init>")
def f_a_J14_init (x0 : Nat) (x1 : Int32) (τ : CS) : Option CS :=
  xbd (aArr 103 x1 τ) fun r1 τ1 =>
  if gT τ1.1 x0 = 20 then
  some ((τ1.1, uI (uR τ1.2 2000 x0 (some r1)) 2001 x0 0))
  else none
theorem ok_f_a_J14_init {D : CD} {P : CP} {K : xK} {Z : Option Value × CS} {x0 : Nat} {x1 : Int32} {τ : CS} {o_ : CS} (hf : f_a_J14_init x0 x1 τ = some o_) (kr : ∀ r_ : CS, o_ = r_ → Z = (none, r_)) : xV (wC D P) K mJ14_init (xQ (wC D P) K Z) τ 0 [(0, .ref x0), (1, .int x1)] [] := by
  unfold f_a_J14_init at hf
  refine xr_aload_n (pc := 0) 0 dJ14_init_0 rfl rfl ?_
  refine xr_objInit (pc := 1) q1002 rfl (Nat.le_of_ble_eq_true rfl) (Nat.le_of_ble_eq_true rfl) (Nat.le_of_ble_eq_true rfl) dJ14_init_1 ?_
  refine yc_gets8 (pc := 4) q1003 rfl rfl dJ14_init_4 ?_
  refine xr_if_eq (pc := 7) 25 dJ14_init_7 (by decide) (fun c_ => ?_) (fun c_ => ?_)
  · exact absurd c_ (by decide)
  · refine xr_aload_n (pc := 10) 0 dJ14_init_10 rfl rfl ?_
    refine xr_iload_n (pc := 11) 1 dJ14_init_11 rfl rfl ?_
    obtain ⟨r1, τ1, hτ1, hf⟩ := xo_bd hf
    refine yc_aArr (pc := 12) 103 (by decide) (by decide) rfl (Or.inl rfl) (by decide +kernel) (by decide) q387 hτ1 dJ14_init_12 ?_
    obtain ⟨ht2, hf⟩ := xo_if hf
    refine yc_putRs (pc := 14) 20 0 2000 ht2 (by decide) (by decide) (by decide) rfl rfl rfl (ty := (.array .byte)) (by decide +kernel) rfl q1005 (ys_eq rfl) rfl dJ14_init_14 ?_
    refine xr_aload_n (pc := 17) 0 dJ14_init_17 rfl rfl ?_
    refine xr_iconst (pc := 18) dJ14_init_18 xci_0 ?_
    refine yc_putI (pc := 19) 20 1 2001 ht2 (by decide) (by decide) (by decide) rfl rfl rfl (ty := .byte) (by decide +kernel) (by decide +kernel) (by decide +kernel) q1006 (ys_eq rfl) rfl dJ14_init_19 ?_
    refine xr_goto (pc := 22) 38 dJ14_init_22 (by decide) ?_
    rw [kr _ (Option.some.inj hf).symm]
    exact xr_vret (pc := 38) dJ14_init_38 rfl
theorem met_f_a_J14_init (l : Launch) {D : CD} {P : CP} {x0 : Nat} {x1 : Int32} {τ : CS} {o_ : CS} (hf : f_a_J14_init x0 x1 τ = some o_) : xMet (wC D P) l yJ14_init (ws_ yJ14_init cJ14_init 2 none) 2 120 (grc τ.1) (grs τ.1) [.ref x0, .int x1] τ (none, o_) := 
  xMet_of (by decide) (Nat.le_of_ble_eq_true rfl) KC_moved (RPC_of (g := τ.1) (c := τ.2)) (fun K _ _ _ => ok_f_a_J14_init hf (fun _ h => by rw [h]))
theorem hd_f_a_J14_init : yJ14_init.cls ≠ "java/lang/invoke/MethodHandle" ∧ yJ14_init.cls ≠ "java/lang/invoke/VarHandle" ∧ (parseMethodDescriptor yJ14_init.desc).map (fun d => d.parameters.length) = some 1 := by decide +kernel
theorem call_f_a_J14_init_J15_1 {D : CD} {P : CP} {K : xK} {M : xM} {Q : State → Prop} {τ τ1 : CS} {x0 : Nat} {x1 : Int32} {pc : Nat} {loc : List (Nat × Value)} {st : List Value} (hf : f_a_J14_init x0 x1 τ = some τ1) (ho : M.2.2.1 = RJ15) (hfr : 3 ≤ M.2.2.2.1) (hlo : 141 ≤ M.2.2.2.2.1) (hcat : (st.map fun v => v.category).sum ≤ 8) (d : decode M.1 pc = .ok (.invokespecial 1, 3)) (k : xV (wC D P) K M Q τ1 (pc + 3) loc st) : xV (wC D P) K M Q τ pc loc (.int x1 :: .ref x0 :: st) :=
  yc_callI (g := τ.1) (c := τ.2) (g1 := τ1.1) (c1 := τ1.2) (As := [.int x1]) (rest := st) (met_f_a_J14_init K.2.1 hf) (lw_meth q1001) q999 q1000 q199 rfl hd_f_a_J14_init ho hfr hlo rfl rfl hcat d k
abbrev mJ15_init : xM := (cJ15_init, 1, RJ15, 3, 180, none, "<init>")
def f_a_J15_init (x0 : Nat) (τ : CS) : Option CS :=
  (f_a_J14_init x0 16 τ).bind fun τ1 =>
  some (τ1)
theorem ok_f_a_J15_init {D : CD} {P : CP} {K : xK} {Z : Option Value × CS} {x0 : Nat} {τ : CS} {o_ : CS} (hf : f_a_J15_init x0 τ = some o_) (kr : ∀ r_ : CS, o_ = r_ → Z = (none, r_)) : xV (wC D P) K mJ15_init (xQ (wC D P) K Z) τ 0 [(0, .ref x0)] [] := by
  unfold f_a_J15_init at hf
  refine xr_aload_n (pc := 0) 0 dJ15_init_0 rfl rfl ?_
  refine xr_bipush (pc := 1) dJ15_init_1 xcb_16 ?_
  obtain ⟨τ1, hτ1, hf⟩ := xo_bind hf
  refine call_f_a_J14_init_J15_1 (pc := 3) hτ1 rfl (Nat.le_of_ble_eq_true rfl) (Nat.le_of_ble_eq_true rfl) (Nat.le_of_ble_eq_true rfl) dJ15_init_3 ?_
  rw [kr _ (Option.some.inj hf).symm]
  exact xr_vret (pc := 6) dJ15_init_6 rfl
theorem met_f_a_J15_init (l : Launch) {D : CD} {P : CP} {x0 : Nat} {τ : CS} {o_ : CS} (hf : f_a_J15_init x0 τ = some o_) : xMet (wC D P) l yJ15_init (ws_ yJ15_init cJ15_init 1 none) 3 180 (grc τ.1) (grs τ.1) [.ref x0] τ (none, o_) := 
  xMet_of (by decide) (Nat.le_of_ble_eq_true rfl) KC_moved (RPC_of (g := τ.1) (c := τ.2)) (fun K _ _ _ => ok_f_a_J15_init hf (fun _ h => by rw [h]))
theorem hd_f_c_J14_newCapacity : yJ14_newCapacity.cls ≠ "java/lang/invoke/MethodHandle" ∧ yJ14_newCapacity.cls ≠ "java/lang/invoke/VarHandle" ∧ (parseMethodDescriptor yJ14_newCapacity.desc).map (fun d => d.parameters.length) = some 1 := by decide +kernel
theorem call_f_c_J14_newCapacity_J14_104 {D : CD} {P : CP} {K : xK} {M : xM} {Q : State → Prop} {g : CG} {c : CC} {x0 : Nat} {x1 : Int32} {pc : Nat} {loc : List (Nat × Value)} {st : List Value} {r : Int32} {c1 : CC} (hf : f_c_J14_newCapacity g x0 x1 c = some (r, c1)) (hr : gK g x0 = 20) (ho : M.2.2.1 = RJ14) (hfr : 3 ≤ M.2.2.2.1) (hlo : 145 ≤ M.2.2.2.2.1) (hcat : (st.map fun v => v.category).sum ≤ 8) (d : decode M.1 pc = .ok (.invokevirtual 104, 3)) (k : xV (wC D P) K M Q (g, c1) (pc + 3) loc (.int r :: st)) : xV (wC D P) K M Q (g, c) pc loc (.int x1 :: .ref x0 :: st) :=
  yc_callP (y0 := yJ14_isLatin1) (As := [.int x1]) (rest := st) (met_f_c_J14_newCapacity K.2.1 hf) (lw_meth q1124) q1121 q2750 q1123 q199 q1140 q1122 rfl hd_f_c_J14_newCapacity ho hfr hlo rfl hr (by decide) (by decide) rfl hcat d k
theorem hd_f_a_J13_copyOf_3 : yJ13_copyOf_3.cls ≠ "java/lang/invoke/MethodHandle" ∧ yJ13_copyOf_3.cls ≠ "java/lang/invoke/VarHandle" ∧ (parseMethodDescriptor yJ13_copyOf_3.desc).map (fun d => d.parameters.length) = some 2 := by decide +kernel
theorem call_f_a_J13_copyOf_3_J14_108 {D : CD} {P : CP} {K : xK} {M : xM} {Q : State → Prop} {τ τ1 : CS} {x0 : Nat} {x1 : Int32} {pc : Nat} {loc : List (Nat × Value)} {st : List Value} {r : Nat} (hf : f_a_J13_copyOf_3 x0 x1 τ = some (r, τ1)) (ho : M.2.2.1 = RJ14) (hfr : 2 ≤ M.2.2.2.1) (hlo : 82 ≤ M.2.2.2.2.1) (hcat : (st.map fun v => v.category).sum ≤ 8) (d : decode M.1 pc = .ok (.invokestatic 108, 3)) (k : xV (wC D P) K M Q τ1 (pc + 3) loc (.ref r :: st)) : xV (wC D P) K M Q τ pc loc (.int x1 :: .ref x0 :: st) :=
  yc_callS (g := τ.1) (c := τ.2) (g1 := τ1.1) (c1 := τ1.2) (As := [.ref x0, .int x1]) (rest := st) (met_f_a_J13_copyOf_3 K.2.1 hf) (lw_S q1127 q1128 q195 q1129) hd_f_a_J13_copyOf_3 ho hfr hlo rfl rfl hcat d k
abbrev mJ14_ensureCapacityInternal : xM := (cJ14_ensureCapacityInternal, 3, RJ14, 3, 180, none, "ensureCapacityInternal")
def f_a_J14_ensureCapacityInternal (x0 : Nat) (x1 : Int32) (τ : CS) : Option CS :=
  if gT τ.1 x0 = 20 then
  (cR τ.2 2000 x0).bind fun b2 =>
  if gK τ.1 b2 = 103 then
  if (x1 - ((Int32.ofNat (gN τ.1 b2) : Int32) >>> ((cI τ.2 2001 x0) &&& 31))) ≤ 0 then
  some (τ)
  else
  (cR τ.2 2000 x0).bind fun b4 =>
  xbd (f_c_J14_newCapacity τ.1 x0 x1 τ.2) fun r5 τ5 =>
  xbd (f_a_J13_copyOf_3 b4 ((r5 : Int32) <<< ((cI τ5 2001 x0) &&& 31)) (τ.1, τ5)) fun r6 τ6 =>
  if gT τ6.1 x0 = 20 then
  some ((τ6.1, uR τ6.2 2000 x0 (some r6)))
  else none
  else none
  else none
theorem ok_f_a_J14_ensureCapacityInternal {D : CD} {P : CP} {K : xK} {Z : Option Value × CS} {x0 : Nat} {x1 : Int32} {τ : CS} {o_ : CS} (hf : f_a_J14_ensureCapacityInternal x0 x1 τ = some o_) (kr : ∀ r_ : CS, o_ = r_ → Z = (none, r_)) : xV (wC D P) K mJ14_ensureCapacityInternal (xQ (wC D P) K Z) τ 0 [(0, .ref x0), (1, .int x1)] [] := by
  unfold f_a_J14_ensureCapacityInternal at hf
  refine xr_aload_n (pc := 0) 0 dJ14_ensureCapacityInternal_0 rfl rfl ?_
  obtain ⟨ht1, hf⟩ := xo_if hf
  obtain ⟨b2, hb2, hf⟩ := xo_bind hf
  refine yc_getRs (pc := 1) 20 0 2000 (gKo ht1 (by decide)) (by decide) (by decide) (by decide) rfl rfl hb2 q1005 (ys_eq rfl) rfl dJ14_ensureCapacityInternal_1 ?_
  obtain ⟨ht3, hf⟩ := xo_if hf
  refine yc_alen (pc := 4) 103 ht3 (by decide) (by decide) dJ14_ensureCapacityInternal_4 ?_
  refine xr_aload_n (pc := 5) 0 dJ14_ensureCapacityInternal_5 rfl rfl ?_
  refine yc_getI (pc := 6) 20 1 2001 (gKo ht1 (by decide)) (by decide) (by decide) (by decide) rfl rfl q1006 (ys_eq rfl) rfl dJ14_ensureCapacityInternal_6 ?_
  refine xr_ishr (pc := 9) dJ14_ensureCapacityInternal_9 ?_
  refine xr_istore_n (pc := 10) (loc' := [(2, .int ((Int32.ofNat (gN τ.1 b2) : Int32) >>> ((cI τ.2 2001 x0) &&& 31))), (0, .ref x0), (1, .int x1)]) dJ14_ensureCapacityInternal_10 rfl (by decide) rfl ?_
  refine xr_iload_n (pc := 11) 2 dJ14_ensureCapacityInternal_11 rfl rfl ?_
  refine xr_iload_n (pc := 12) 0 dJ14_ensureCapacityInternal_12 rfl rfl ?_
  refine xr_isub (pc := 13) dJ14_ensureCapacityInternal_13 ?_
  refine xr_if_le (pc := 14) 38 dJ14_ensureCapacityInternal_14 (by decide) (fun c_ => ?_) (fun c_ => ?_)
  · have hf := xo_pos c_ hf
    rw [kr _ (Option.some.inj hf).symm]
    exact xr_vret (pc := 38) dJ14_ensureCapacityInternal_38 rfl
  · have hf := xo_neg c_ hf
    refine xr_aload_n (pc := 17) 1 dJ14_ensureCapacityInternal_17 rfl rfl ?_
    refine xr_aload_n (pc := 18) 1 dJ14_ensureCapacityInternal_18 rfl rfl ?_
    obtain ⟨b4, hb4, hf⟩ := xo_bind hf
    refine yc_getRs (pc := 19) 20 0 2000 (gKo ht1 (by decide)) (by decide) (by decide) (by decide) rfl rfl hb4 q1005 (ys_eq rfl) rfl dJ14_ensureCapacityInternal_19 ?_
    refine xr_aload_n (pc := 22) 1 dJ14_ensureCapacityInternal_22 rfl rfl ?_
    refine xr_iload_n (pc := 23) 2 dJ14_ensureCapacityInternal_23 rfl rfl ?_
    obtain ⟨r5, τ5, hτ5, hf⟩ := xo_bd hf
    refine call_f_c_J14_newCapacity_J14_104 (pc := 24) hτ5 (gKo ht1 (by decide)) rfl (Nat.le_of_ble_eq_true rfl) (Nat.le_of_ble_eq_true rfl) (Nat.le_of_ble_eq_true rfl) dJ14_ensureCapacityInternal_24 ?_
    refine xr_aload_n (pc := 27) 1 dJ14_ensureCapacityInternal_27 rfl rfl ?_
    refine yc_getI (pc := 28) 20 1 2001 (gKo ht1 (by decide)) (by decide) (by decide) (by decide) rfl rfl q1006 (ys_eq rfl) rfl dJ14_ensureCapacityInternal_28 ?_
    refine xr_ishl (pc := 31) dJ14_ensureCapacityInternal_31 ?_
    obtain ⟨r6, τ6, hτ6, hf⟩ := xo_bd hf
    refine call_f_a_J13_copyOf_3_J14_108 (pc := 32) hτ6 rfl (Nat.le_of_ble_eq_true rfl) (Nat.le_of_ble_eq_true rfl) (Nat.le_of_ble_eq_true rfl) dJ14_ensureCapacityInternal_32 ?_
    obtain ⟨ht7, hf⟩ := xo_if hf
    refine yc_putRs (pc := 35) 20 0 2000 ht7 (by decide) (by decide) (by decide) rfl rfl rfl (ty := (.array .byte)) (by decide +kernel) rfl q1005 (ys_eq rfl) rfl dJ14_ensureCapacityInternal_35 ?_
    rw [kr _ (Option.some.inj hf).symm]
    exact xr_vret (pc := 38) dJ14_ensureCapacityInternal_38 rfl
theorem met_f_a_J14_ensureCapacityInternal (l : Launch) {D : CD} {P : CP} {x0 : Nat} {x1 : Int32} {τ : CS} {o_ : CS} (hf : f_a_J14_ensureCapacityInternal x0 x1 τ = some o_) : xMet (wC D P) l yJ14_ensureCapacityInternal (ws_ yJ14_ensureCapacityInternal cJ14_ensureCapacityInternal 3 none) 3 180 (grc τ.1) (grs τ.1) [.ref x0, .int x1] τ (none, o_) := 
  xMet_of (by decide) (Nat.le_of_ble_eq_true rfl) KC_moved (RPC_of (g := τ.1) (c := τ.2)) (fun K _ _ _ => ok_f_a_J14_ensureCapacityInternal hf (fun _ h => by rw [h]))
theorem hd_f_a_J14_ensureCapacityInternal : yJ14_ensureCapacityInternal.cls ≠ "java/lang/invoke/MethodHandle" ∧ yJ14_ensureCapacityInternal.cls ≠ "java/lang/invoke/VarHandle" ∧ (parseMethodDescriptor yJ14_ensureCapacityInternal.desc).map (fun d => d.parameters.length) = some 1 := by decide +kernel
theorem call_f_a_J14_ensureCapacityInternal_J14_100 {D : CD} {P : CP} {K : xK} {M : xM} {Q : State → Prop} {τ τ1 : CS} {x0 : Nat} {x1 : Int32} {pc : Nat} {loc : List (Nat × Value)} {st : List Value} (hf : f_a_J14_ensureCapacityInternal x0 x1 τ = some τ1) (hr : gK τ.1 x0 = 20) (ho : M.2.2.1 = RJ14) (hfr : 4 ≤ M.2.2.2.1) (hlo : 202 ≤ M.2.2.2.2.1) (hcat : (st.map fun v => v.category).sum ≤ 8) (d : decode M.1 pc = .ok (.invokevirtual 100, 3)) (k : xV (wC D P) K M Q τ1 (pc + 3) loc st) : xV (wC D P) K M Q τ pc loc (.int x1 :: .ref x0 :: st) :=
  yc_callP (y0 := yJ14_isLatin1) (g := τ.1) (c := τ.2) (g1 := τ1.1) (c1 := τ1.2) (As := [.int x1]) (rest := st) (met_f_a_J14_ensureCapacityInternal K.2.1 hf) (lw_meth q1120) q1117 q2749 q1119 q199 q1140 q1118 rfl hd_f_a_J14_ensureCapacityInternal ho hfr hlo rfl hr (by decide) (by decide) rfl hcat d k
theorem hd_f_c_J14_isLatin1 : yJ14_isLatin1.cls ≠ "java/lang/invoke/MethodHandle" ∧ yJ14_isLatin1.cls ≠ "java/lang/invoke/VarHandle" ∧ (parseMethodDescriptor yJ14_isLatin1.desc).map (fun d => d.parameters.length) = some 0 := by decide +kernel
theorem call_f_c_J14_isLatin1_J14_83 {D : CD} {P : CP} {K : xK} {M : xM} {Q : State → Prop} {g : CG} {c : CC} {x0 : Nat} {pc : Nat} {loc : List (Nat × Value)} {st : List Value} {r : Int32} {c1 : CC} (hf : f_c_J14_isLatin1 g x0 c = some (r, c1)) (hr : gK g x0 = 20) (ho : M.2.2.1 = RJ14) (hfr : 1 ≤ M.2.2.2.1) (hlo : 20 ≤ M.2.2.2.2.1) (hcat : (st.map fun v => v.category).sum ≤ 8) (d : decode M.1 pc = .ok (.invokevirtual 83, 3)) (k : xV (wC D P) K M Q (g, c1) (pc + 3) loc (.int r :: st)) : xV (wC D P) K M Q (g, c) pc loc (.ref x0 :: st) :=
  yc_callU (As := []) (rest := st) (z := yJ14_isLatin1) (met_f_c_J14_isLatin1 K.2.1 hf) (lw_2 q1137 q1139 (lw_2 q1140 q1138 (lw_1 q199 (lw_meth q1141)))) rfl hd_f_c_J14_isLatin1 ho hfr hlo rfl hr (by decide) (by decide) rfl rfl hcat d k
theorem hd_f_c_J9_canEncode : yJ9_canEncode.cls ≠ "java/lang/invoke/MethodHandle" ∧ yJ9_canEncode.cls ≠ "java/lang/invoke/VarHandle" ∧ (parseMethodDescriptor yJ9_canEncode.desc).map (fun d => d.parameters.length) = some 1 := by decide +kernel
theorem call_f_c_J9_canEncode_J14_191 {D : CD} {P : CP} {K : xK} {M : xM} {Q : State → Prop} {g : CG} {c : CC} {x0 : Int32} {pc : Nat} {loc : List (Nat × Value)} {st : List Value} {r : Int32} {c1 : CC} (hf : f_c_J9_canEncode g x0 c = some (r, c1)) (ho : M.2.2.1 = RJ14) (hfr : 1 ≤ M.2.2.2.1) (hlo : 20 ≤ M.2.2.2.2.1) (hcat : (st.map fun v => v.category).sum ≤ 8) (d : decode M.1 pc = .ok (.invokestatic 191, 3)) (k : xV (wC D P) K M Q (g, c1) (pc + 3) loc (.int r :: st)) : xV (wC D P) K M Q (g, c) pc loc (.int x0 :: st) :=
  yc_callS (As := [.int x0]) (rest := st) (met_f_c_J9_canEncode K.2.1 hf) (lw_S q1142 q1143 q190 q1144) hd_f_c_J9_canEncode ho hfr hlo rfl rfl hcat d k
abbrev mJ14_append : xM := (cJ14_append, 2, RJ14, 6, 360, (some (.object "java/lang/AbstractStringBuilder")), "append")
def Jc_J14_append_56 (x0 : Nat) (x1 : Int32) (τ : CS) : Option (Nat × CS) :=
  if gT τ.1 x0 = 20 then
  (cR τ.2 2000 x0).bind fun b8 =>
  none
  else none
theorem ok_Jc_J14_append_56 {D : CD} {P : CP} {K : xK} {Z : Option Value × CS} {x0 : Nat} {x1 : Int32} {τ : CS} {o_ : (Nat × CS)} (hf : Jc_J14_append_56 x0 x1 τ = some o_) (kr : ∀ r_ : (Nat × CS), o_ = r_ → Z = (some (.ref r_.1), r_.2)) : xV (wC D P) K mJ14_append (xQ (wC D P) K Z) τ 56 [(0, .ref x0), (1, .int x1)] [] := by
  unfold Jc_J14_append_56 at hf
  refine xr_aload_n (pc := 56) 0 dJ14_append_56 rfl rfl ?_
  obtain ⟨ht7, hf⟩ := xo_if hf
  obtain ⟨b8, hb8, hf⟩ := xo_bind hf
  refine yc_getRs (pc := 57) 20 0 2000 (gKo ht7 (by decide)) (by decide) (by decide) (by decide) rfl rfl hb8 q1005 (ys_eq rfl) rfl dJ14_append_57 ?_
  refine xr_aload_n (pc := 60) 0 dJ14_append_60 rfl rfl ?_
  refine xr_dup (pc := 61) dJ14_append_61 rfl ?_
  refine yc_getI (pc := 62) 20 3 2003 (gKo ht7 (by decide)) (by decide) (by decide) (by decide) rfl rfl q1007 (ys_eq rfl) rfl dJ14_append_62 ?_
  refine xr_dup_x1 (pc := 65) dJ14_append_65 rfl rfl ?_
  refine xr_iconst (pc := 66) dJ14_append_66 xci_1 ?_
  refine xr_iadd (pc := 67) dJ14_append_67 ?_
  refine yc_putI (pc := 68) 20 3 2003 ht7 (by decide) (by decide) (by decide) rfl rfl rfl (ty := .int) (by decide +kernel) rfl rfl q1007 (ys_eq rfl) rfl dJ14_append_68 ?_
  refine xr_iload_n (pc := 71) 1 dJ14_append_71 rfl rfl ?_
  cases hf
def Jc_J14_append_45 (x0 : Nat) (x1 : Int32) (τ : CS) : Option (Nat × CS) :=
  if gT τ.1 x0 = 20 then
  xbd (f_c_J14_isLatin1 τ.1 x0 τ.2) fun r6 τ6 =>
  if r6 = 0 then
  Jc_J14_append_56 x0 x1 (τ.1, τ6)
  else
  none
  else none
theorem ok_Jc_J14_append_45 {D : CD} {P : CP} {K : xK} {Z : Option Value × CS} {x0 : Nat} {x1 : Int32} {τ : CS} {o_ : (Nat × CS)} (hf : Jc_J14_append_45 x0 x1 τ = some o_) (kr : ∀ r_ : (Nat × CS), o_ = r_ → Z = (some (.ref r_.1), r_.2)) : xV (wC D P) K mJ14_append (xQ (wC D P) K Z) τ 45 [(0, .ref x0), (1, .int x1)] [] := by
  unfold Jc_J14_append_45 at hf
  refine xr_aload_n (pc := 45) 0 dJ14_append_45 rfl rfl ?_
  obtain ⟨ht5, hf⟩ := xo_if hf
  obtain ⟨r6, τ6, hτ6, hf⟩ := xo_bd hf
  refine call_f_c_J14_isLatin1_J14_83 (pc := 46) hτ6 (gKo ht5 (by decide)) rfl (Nat.le_of_ble_eq_true rfl) (Nat.le_of_ble_eq_true rfl) (Nat.le_of_ble_eq_true rfl) dJ14_append_46 ?_
  refine xr_if_eq (pc := 49) 56 dJ14_append_49 (by decide) (fun c_ => ?_) (fun c_ => ?_)
  · have hf := xo_pos c_ hf
    exact ok_Jc_J14_append_56 hf kr
  · have hf := xo_neg c_ hf
    refine xr_aload_n (pc := 52) 0 dJ14_append_52 rfl rfl ?_
    cases hf
def f_a_J14_append (x0 : Nat) (x1 : Int32) (τ : CS) : Option (Nat × CS) :=
  if gT τ.1 x0 = 20 then
  (f_a_J14_ensureCapacityInternal x0 ((cI τ.2 2003 x0) + 1) τ).bind fun τ2 =>
  if gT τ2.1 x0 = 20 then
  xbd (f_c_J14_isLatin1 τ2.1 x0 τ2.2) fun r4 τ4 =>
  if r4 = 0 then
  Jc_J14_append_45 x0 x1 (τ2.1, τ4)
  else
  xbd (f_c_J9_canEncode τ2.1 x1 τ4) fun r9 τ9 =>
  if r9 = 0 then
  Jc_J14_append_45 x0 x1 (τ2.1, τ9)
  else
  (cR τ9 2000 x0).bind fun b10 =>
  if gT τ2.1 b10 = 103 then
  if xin (cI τ9 2003 x0) (gN τ2.1 b10) = true then
  some ((x0, (τ2.1, uA (uI τ9 2003 x0 ((cI τ9 2003 x0) + 1)) b10 (cI τ9 2003 x0).toNatClampNeg x1.toInt8.toInt32.toInt8.toInt32)))
  else none
  else none
  else none
  else none
theorem ok_f_a_J14_append {D : CD} {P : CP} {K : xK} {Z : Option Value × CS} {x0 : Nat} {x1 : Int32} {τ : CS} {o_ : (Nat × CS)} (hf : f_a_J14_append x0 x1 τ = some o_) (kr : ∀ r_ : (Nat × CS), o_ = r_ → Z = (some (.ref r_.1), r_.2)) : xV (wC D P) K mJ14_append (xQ (wC D P) K Z) τ 0 [(0, .ref x0), (1, .int x1)] [] := by
  unfold f_a_J14_append at hf
  refine xr_aload_n (pc := 0) 0 dJ14_append_0 rfl rfl ?_
  refine xr_aload_n (pc := 1) 0 dJ14_append_1 rfl rfl ?_
  obtain ⟨ht1, hf⟩ := xo_if hf
  refine yc_getI (pc := 2) 20 3 2003 (gKo ht1 (by decide)) (by decide) (by decide) (by decide) rfl rfl q1007 (ys_eq rfl) rfl dJ14_append_2 ?_
  refine xr_iconst (pc := 5) dJ14_append_5 xci_1 ?_
  refine xr_iadd (pc := 6) dJ14_append_6 ?_
  obtain ⟨τ2, hτ2, hf⟩ := xo_bind hf
  refine call_f_a_J14_ensureCapacityInternal_J14_100 (pc := 7) hτ2 (gKo ht1 (by decide)) rfl (Nat.le_of_ble_eq_true rfl) (Nat.le_of_ble_eq_true rfl) (Nat.le_of_ble_eq_true rfl) dJ14_append_7 ?_
  refine xr_aload_n (pc := 10) 0 dJ14_append_10 rfl rfl ?_
  obtain ⟨ht3, hf⟩ := xo_if hf
  obtain ⟨r4, τ4, hτ4, hf⟩ := xo_bd hf
  refine call_f_c_J14_isLatin1_J14_83 (pc := 11) hτ4 (gKo ht3 (by decide)) rfl (Nat.le_of_ble_eq_true rfl) (Nat.le_of_ble_eq_true rfl) (Nat.le_of_ble_eq_true rfl) dJ14_append_11 ?_
  refine xr_if_eq (pc := 14) 45 dJ14_append_14 (by decide) (fun c_ => ?_) (fun c_ => ?_)
  · have hf := xo_pos c_ hf
    exact ok_Jc_J14_append_45 hf kr
  · have hf := xo_neg c_ hf
    refine xr_iload_n (pc := 17) 1 dJ14_append_17 rfl rfl ?_
    obtain ⟨r9, τ9, hτ9, hf⟩ := xo_bd hf
    refine call_f_c_J9_canEncode_J14_191 (pc := 18) hτ9 rfl (Nat.le_of_ble_eq_true rfl) (Nat.le_of_ble_eq_true rfl) (Nat.le_of_ble_eq_true rfl) dJ14_append_18 ?_
    refine xr_if_eq (pc := 21) 45 dJ14_append_21 (by decide) (fun c_ => ?_) (fun c_ => ?_)
    · have hf := xo_pos c_ hf
      exact ok_Jc_J14_append_45 hf kr
    · have hf := xo_neg c_ hf
      refine xr_aload_n (pc := 24) 0 dJ14_append_24 rfl rfl ?_
      obtain ⟨b10, hb10, hf⟩ := xo_bind hf
      refine yc_getRs (pc := 25) 20 0 2000 (gKo ht3 (by decide)) (by decide) (by decide) (by decide) rfl rfl hb10 q1005 (ys_eq rfl) rfl dJ14_append_25 ?_
      refine xr_aload_n (pc := 28) 0 dJ14_append_28 rfl rfl ?_
      refine xr_dup (pc := 29) dJ14_append_29 rfl ?_
      refine yc_getI (pc := 30) 20 3 2003 (gKo ht3 (by decide)) (by decide) (by decide) (by decide) rfl rfl q1007 (ys_eq rfl) rfl dJ14_append_30 ?_
      refine xr_dup_x1 (pc := 33) dJ14_append_33 rfl rfl ?_
      refine xr_iconst (pc := 34) dJ14_append_34 xci_1 ?_
      refine xr_iadd (pc := 35) dJ14_append_35 ?_
      refine yc_putI (pc := 36) 20 3 2003 ht3 (by decide) (by decide) (by decide) rfl rfl rfl (ty := .int) (by decide +kernel) rfl rfl q1007 (ys_eq rfl) rfl dJ14_append_36 ?_
      refine xr_iload_n (pc := 39) 1 dJ14_append_39 rfl rfl ?_
      refine xr_i2b (pc := 40) dJ14_append_40 ?_
      obtain ⟨ht11, hf⟩ := xo_if hf
      obtain ⟨hi_, hf⟩ := xo_if hf
      refine yc_bast (pc := 41) ht11 hi_ dJ14_append_41 ?_
      refine xr_goto (pc := 42) 75 dJ14_append_42 (by decide) ?_
      refine xr_aload_n (pc := 75) 0 dJ14_append_75 rfl rfl ?_
      rw [kr _ (Option.some.inj hf).symm]
      exact xr_aret (pc := 76) dJ14_append_76 rfl (Or.inl ⟨_, rfl⟩)
theorem met_f_a_J14_append (l : Launch) {D : CD} {P : CP} {x0 : Nat} {x1 : Int32} {τ : CS} {o_ : (Nat × CS)} (hf : f_a_J14_append x0 x1 τ = some o_) : xMet (wC D P) l yJ14_append (ws_ yJ14_append cJ14_append 2 (some (.object "java/lang/AbstractStringBuilder"))) 6 360 (grc τ.1) (grs τ.1) [.ref x0, .int x1] τ (some (.ref o_.1), o_.2) := 
  xMet_of (by decide) (Nat.le_of_ble_eq_true rfl) KC_moved (RPC_of (g := τ.1) (c := τ.2)) (fun K _ _ _ => ok_f_a_J14_append hf (fun _ h => by rw [h]))
theorem hd_f_a_J14_append : yJ14_append.cls ≠ "java/lang/invoke/MethodHandle" ∧ yJ14_append.cls ≠ "java/lang/invoke/VarHandle" ∧ (parseMethodDescriptor yJ14_append.desc).map (fun d => d.parameters.length) = some 1 := by decide +kernel
theorem call_f_a_J14_append_J15_50 {D : CD} {P : CP} {K : xK} {M : xM} {Q : State → Prop} {τ τ1 : CS} {x0 : Nat} {x1 : Int32} {pc : Nat} {loc : List (Nat × Value)} {st : List Value} {r : Nat} (hf : f_a_J14_append x0 x1 τ = some (r, τ1)) (hr : gK τ.1 x0 = 20) (ho : M.2.2.1 = RJ15) (hfr : 7 ≤ M.2.2.2.1) (hlo : 381 ≤ M.2.2.2.2.1) (hcat : (st.map fun v => v.category).sum ≤ 8) (d : decode M.1 pc = .ok (.invokespecial 50, 3)) (k : xV (wC D P) K M Q τ1 (pc + 3) loc (.ref r :: st)) : xV (wC D P) K M Q τ pc loc (.int x1 :: .ref x0 :: st) :=
  yc_callSU (g := τ.1) (c := τ.2) (g1 := τ1.1) (c1 := τ1.2) (n := 1) (As := [.int x1]) (rest := st) (met_f_a_J14_append K.2.1 hf) (lw_2 q1114 q2748 (lw_2 q1016 q1115 (lw_1 q199 (lw_meth q1116)))) ⟨by decide +kernel, by decide +kernel⟩ ho hfr hlo rfl hr (by decide) (by decide) rfl hcat d k
abbrev mJ15_append : xM := (cJ15_append, 2, RJ15, 7, 420, (some (.object "java/lang/StringBuilder")), "append")
def f_a_J15_append (x0 : Nat) (x1 : Int32) (τ : CS) : Option (Nat × CS) :=
  if gT τ.1 x0 = 20 then
  xbd (f_a_J14_append x0 x1 τ) fun r2 τ2 =>
  some ((x0, τ2))
  else none
theorem ok_f_a_J15_append {D : CD} {P : CP} {K : xK} {Z : Option Value × CS} {x0 : Nat} {x1 : Int32} {τ : CS} {o_ : (Nat × CS)} (hf : f_a_J15_append x0 x1 τ = some o_) (kr : ∀ r_ : (Nat × CS), o_ = r_ → Z = (some (.ref r_.1), r_.2)) : xV (wC D P) K mJ15_append (xQ (wC D P) K Z) τ 0 [(0, .ref x0), (1, .int x1)] [] := by
  unfold f_a_J15_append at hf
  refine xr_aload_n (pc := 0) 0 dJ15_append_0 rfl rfl ?_
  refine xr_iload_n (pc := 1) 1 dJ15_append_1 rfl rfl ?_
  obtain ⟨ht1, hf⟩ := xo_if hf
  obtain ⟨r2, τ2, hτ2, hf⟩ := xo_bd hf
  refine call_f_a_J14_append_J15_50 (pc := 2) hτ2 (gKo ht1 (by decide)) rfl (Nat.le_of_ble_eq_true rfl) (Nat.le_of_ble_eq_true rfl) (Nat.le_of_ble_eq_true rfl) dJ15_append_2 ?_
  refine xr_pop (pc := 5) dJ15_append_5 rfl ?_
  refine xr_aload_n (pc := 6) 0 dJ15_append_6 rfl rfl ?_
  rw [kr _ (Option.some.inj hf).symm]
  exact xr_aret (pc := 7) dJ15_append_7 rfl (Or.inl ⟨_, rfl⟩)
theorem met_f_a_J15_append (l : Launch) {D : CD} {P : CP} {x0 : Nat} {x1 : Int32} {τ : CS} {o_ : (Nat × CS)} (hf : f_a_J15_append x0 x1 τ = some o_) : xMet (wC D P) l yJ15_append (ws_ yJ15_append cJ15_append 2 (some (.object "java/lang/StringBuilder"))) 7 420 (grc τ.1) (grs τ.1) [.ref x0, .int x1] τ (some (.ref o_.1), o_.2) := 
  xMet_of (by decide) (Nat.le_of_ble_eq_true rfl) KC_moved (RPC_of (g := τ.1) (c := τ.2)) (fun K _ _ _ => ok_f_a_J15_append hf (fun _ h => by rw [h]))
theorem call_f_a_X8_init_X9_1 {D : CD} {P : CP} {K : xK} {M : xM} {Q : State → Prop} {τ τ1 : CS} {x0 : Nat} {pc : Nat} {loc : List (Nat × Value)} {st : List Value} (hf : f_a_X8_init x0 τ = some τ1) (ho : M.2.2.1 = RX9) (hfr : 2 ≤ M.2.2.2.1) (hlo : 80 ≤ M.2.2.2.2.1) (hcat : (st.map fun v => v.category).sum ≤ 8) (d : decode M.1 pc = .ok (.invokespecial 1, 3)) (k : xV (wC D P) K M Q τ1 (pc + 3) loc st) : xV (wC D P) K M Q τ pc loc (.ref x0 :: st) :=
  yc_callIN (g := τ.1) (c := τ.2) (g1 := τ1.1) (c1 := τ1.2) (As := []) (rest := st) (met_f_a_X8_init K.2.1 hf) (lw_meth q990) q988 q989 q197 rfl hd_f_a_X8_init ho hfr hlo rfl rfl hcat d k
theorem call_f_a_J2_init_X9_9 {D : CD} {P : CP} {K : xK} {M : xM} {Q : State → Prop} {τ τ1 : CS} {x0 : Nat} {x1 : Int32} {pc : Nat} {loc : List (Nat × Value)} {st : List Value} (hf : f_a_J2_init x0 x1 τ = some τ1) (ho : M.2.2.1 = RX9) (hfr : 4 ≤ M.2.2.2.1) (hlo : 201 ≤ M.2.2.2.2.1) (hcat : (st.map fun v => v.category).sum ≤ 8) (d : decode M.1 pc = .ok (.invokespecial 9, 3)) (k : xV (wC D P) K M Q τ1 (pc + 3) loc st) : xV (wC D P) K M Q τ pc loc (.int x1 :: .ref x0 :: st) :=
  yc_callI (g := τ.1) (c := τ.2) (g1 := τ1.1) (c1 := τ1.2) (As := [.int x1]) (rest := st) (met_f_a_J2_init K.2.1 hf) (lw_meth q232) q993 q231 q178 rfl hd_f_a_J2_init ho hfr hlo rfl rfl hcat d k
theorem hd_f_a_J15_init : yJ15_init.cls ≠ "java/lang/invoke/MethodHandle" ∧ yJ15_init.cls ≠ "java/lang/invoke/VarHandle" ∧ (parseMethodDescriptor yJ15_init.desc).map (fun d => d.parameters.length) = some 0 := by decide +kernel
theorem call_f_a_J15_init_X9_20 {D : CD} {P : CP} {K : xK} {M : xM} {Q : State → Prop} {τ τ1 : CS} {x0 : Nat} {pc : Nat} {loc : List (Nat × Value)} {st : List Value} (hf : f_a_J15_init x0 τ = some τ1) (ho : M.2.2.1 = RX9) (hfr : 4 ≤ M.2.2.2.1) (hlo : 200 ≤ M.2.2.2.2.1) (hcat : (st.map fun v => v.category).sum ≤ 8) (d : decode M.1 pc = .ok (.invokespecial 20, 3)) (k : xV (wC D P) K M Q τ1 (pc + 3) loc st) : xV (wC D P) K M Q τ pc loc (.ref x0 :: st) :=
  yc_callI (g := τ.1) (c := τ.2) (g1 := τ1.1) (c1 := τ1.2) (As := []) (rest := st) (met_f_a_J15_init K.2.1 hf) (lw_meth q998) q996 q997 q200 rfl hd_f_a_J15_init ho hfr hlo rfl rfl hcat d k
abbrev mX9_init : xM := (cX9_init, 1, RX9, 4, 240, none, "<init>")
def f_a_X9_init (x0 : Nat) (τ : CS) : Option CS :=
  (f_a_X8_init x0 τ).bind fun τ1 =>
  xbd (aNew 18 τ1) fun r2 τ2 =>
  (f_a_J2_init r2 2 τ2).bind fun τ3 =>
  if gT τ3.1 x0 = 8 then
  xbd (aNew 20 (vR τ3.1 800 x0 (some r2), τ3.2)) fun r5 τ5 =>
  (f_a_J15_init r5 τ5).bind fun τ6 =>
  if gT τ6.1 x0 = 8 then
  some ((vR τ6.1 801 x0 (some r5), τ6.2))
  else none
  else none
theorem ok_f_a_X9_init {D : CD} {P : CP} {K : xK} {Z : Option Value × CS} {x0 : Nat} {τ : CS} {o_ : CS} (hf : f_a_X9_init x0 τ = some o_) (kr : ∀ r_ : CS, o_ = r_ → Z = (none, r_)) : xV (wC D P) K mX9_init (xQ (wC D P) K Z) τ 0 [(0, .ref x0)] [] := by
  unfold f_a_X9_init at hf
  refine xr_aload_n (pc := 0) 0 dX9_init_0 rfl rfl ?_
  obtain ⟨τ1, hτ1, hf⟩ := xo_bind hf
  refine call_f_a_X8_init_X9_1 (pc := 1) hτ1 rfl (Nat.le_of_ble_eq_true rfl) (Nat.le_of_ble_eq_true rfl) (Nat.le_of_ble_eq_true rfl) dX9_init_1 ?_
  refine xr_aload_n (pc := 4) 0 dX9_init_4 rfl rfl ?_
  obtain ⟨r2, τ2, hτ2, hf⟩ := xo_bd hf
  refine yc_aNew (pc := 5) 18 (by decide) (by decide) q992 q229 q178 hτ2 rfl dX9_init_5 ?_
  refine xr_dup (pc := 8) dX9_init_8 rfl ?_
  refine xr_iconst (pc := 9) dX9_init_9 xci_2 ?_
  obtain ⟨τ3, hτ3, hf⟩ := xo_bind hf
  refine call_f_a_J2_init_X9_9 (pc := 10) hτ3 rfl (Nat.le_of_ble_eq_true rfl) (Nat.le_of_ble_eq_true rfl) (Nat.le_of_ble_eq_true rfl) dX9_init_10 ?_
  obtain ⟨ht4, hf⟩ := xo_if hf
  refine yc_putFRs (pc := 13) 8 0 800 ht4 (by decide) (by decide) (by decide) rfl rfl rfl (ty := (.object "java/util/List")) (by decide +kernel) rfl q1017 rfl rfl rfl dX9_init_13 ?_
  refine xr_aload_n (pc := 16) 0 dX9_init_16 rfl rfl ?_
  obtain ⟨r5, τ5, hτ5, hf⟩ := xo_bd hf
  refine yc_aNew (pc := 17) 20 (by decide) (by decide) q994 q995 q200 hτ5 rfl dX9_init_17 ?_
  refine xr_dup (pc := 20) dX9_init_20 rfl ?_
  obtain ⟨τ6, hτ6, hf⟩ := xo_bind hf
  refine call_f_a_J15_init_X9_20 (pc := 21) hτ6 rfl (Nat.le_of_ble_eq_true rfl) (Nat.le_of_ble_eq_true rfl) (Nat.le_of_ble_eq_true rfl) dX9_init_21 ?_
  obtain ⟨ht7, hf⟩ := xo_if hf
  refine yc_putFRs (pc := 24) 8 1 801 ht7 (by decide) (by decide) (by decide) rfl rfl rfl (ty := (.object "java/lang/StringBuilder")) (by decide +kernel) rfl q1018 rfl rfl rfl dX9_init_24 ?_
  rw [kr _ (Option.some.inj hf).symm]
  exact xr_vret (pc := 27) dX9_init_27 rfl
theorem met_f_a_X9_init (l : Launch) {D : CD} {P : CP} {x0 : Nat} {τ : CS} {o_ : CS} (hf : f_a_X9_init x0 τ = some o_) : xMet (wC D P) l yX9_init (ws_ yX9_init cX9_init 1 none) 4 240 (grc τ.1) (grs τ.1) [.ref x0] τ (none, o_) := 
  xMet_of (by decide) (Nat.le_of_ble_eq_true rfl) KC_moved (RPC_of (g := τ.1) (c := τ.2)) (fun K _ _ _ => ok_f_a_X9_init hf (fun _ h => by rw [h]))
theorem hd_f_a_J15_append : yJ15_append.cls ≠ "java/lang/invoke/MethodHandle" ∧ yJ15_append.cls ≠ "java/lang/invoke/VarHandle" ∧ (parseMethodDescriptor yJ15_append.desc).map (fun d => d.parameters.length) = some 1 := by decide +kernel
theorem call_f_a_J15_append_X9_25 {D : CD} {P : CP} {K : xK} {M : xM} {Q : State → Prop} {τ τ1 : CS} {x0 : Nat} {x1 : Int32} {pc : Nat} {loc : List (Nat × Value)} {st : List Value} {r : Nat} (hf : f_a_J15_append x0 x1 τ = some (r, τ1)) (hr : gK τ.1 x0 = 20) (ho : M.2.2.1 = RX9) (hfr : 8 ≤ M.2.2.2.1) (hlo : 441 ≤ M.2.2.2.2.1) (hcat : (st.map fun v => v.category).sum ≤ 8) (d : decode M.1 pc = .ok (.invokevirtual 25, 3)) (k : xV (wC D P) K M Q τ1 (pc + 3) loc (.ref r :: st)) : xV (wC D P) K M Q τ pc loc (.int x1 :: .ref x0 :: st) :=
  yc_callV (g := τ.1) (c := τ.2) (g1 := τ1.1) (c1 := τ1.2) (As := [.int x1]) (rest := st) (met_f_a_J15_append K.2.1 hf) (lw_V q1110 q1111 q1112 q200 q1113) ⟨rfl, hd_f_a_J15_append⟩ ho hfr hlo rfl hr (by decide) (by decide) rfl rfl hcat d k
theorem hd_f_a_J2_add : yJ2_add.cls ≠ "java/lang/invoke/MethodHandle" ∧ yJ2_add.cls ≠ "java/lang/invoke/VarHandle" ∧ (parseMethodDescriptor yJ2_add.desc).map (fun d => d.parameters.length) = some 1 := by decide +kernel
theorem call_f_a_J2_add_X9_29 {D : CD} {P : CP} {K : xK} {M : xM} {Q : State → Prop} {τ τ1 : CS} {x0 : Nat} {x1 : Nat} {pc : Nat} {loc : List (Nat × Value)} {st : List Value} {r : Int32} (hf : f_a_J2_add x0 x1 τ = some (r, τ1)) (hr : gK τ.1 x0 = 18) (ho : M.2.2.1 = RX9) (hfr : 7 ≤ M.2.2.2.1) (hlo : 381 ≤ M.2.2.2.2.1) (hcat : (st.map fun v => v.category).sum ≤ 8) (d : decode M.1 pc = .ok (.invokeinterface 29 2, 5)) (k : xV (wC D P) K M Q τ1 (pc + 5) loc (.int r :: st)) : xV (wC D P) K M Q τ pc loc (.ref x1 :: .ref x0 :: st) :=
  yc_callF (g := τ.1) (c := τ.2) (g1 := τ1.1) (c1 := τ1.2) (n := 1) (As := [.ref x1]) (rest := st) (z := yList_add) (met_f_a_J2_add K.2.1 hf) (lw_2 q1166 q902 (lw_2 q904 q178 (lw_meth q906))) (fun s h => h.2.2.2.2.2.1.2.2) (by decide +kernel) ho hfr hlo rfl hr rfl hcat d k
abbrev mX9_add : xM := (cX9_add, 3, RX9, 8, 480, none, "add")
def f_a_X9_add (x0 : Nat) (x1 : Int32) (x2 : Nat) (τ : CS) : Option CS :=
  if gT τ.1 x0 = 8 then
  (gR τ.1 801 x0).bind fun b2 =>
  if gT τ.1 b2 = 20 then
  xbd (f_a_J15_append b2 x1 τ) fun r4 τ4 =>
  if gT τ4.1 x0 = 8 then
  (gR τ4.1 800 x0).bind fun b6 =>
  if gT τ4.1 b6 = 18 then
  xbd (f_a_J2_add b6 x2 τ4) fun r8 τ8 =>
  some (τ8)
  else none
  else none
  else none
  else none
theorem ok_f_a_X9_add {D : CD} {P : CP} {K : xK} {Z : Option Value × CS} {x0 : Nat} {x1 : Int32} {x2 : Nat} {τ : CS} {o_ : CS} (hf : f_a_X9_add x0 x1 x2 τ = some o_) (kr : ∀ r_ : CS, o_ = r_ → Z = (none, r_)) : xV (wC D P) K mX9_add (xQ (wC D P) K Z) τ 0 [(0, .ref x0), (1, .int x1), (2, .ref x2)] [] := by
  unfold f_a_X9_add at hf
  refine xr_aload_n (pc := 0) 0 dX9_add_0 rfl rfl ?_
  obtain ⟨ht1, hf⟩ := xo_if hf
  obtain ⟨b2, hb2, hf⟩ := xo_bind hf
  refine yc_getFs (pc := 1) 8 1 801 (gKo ht1 (by decide)) (by decide) (by decide) (by decide) rfl rfl hb2 q1018 (ys_eq rfl) rfl dX9_add_1 ?_
  refine xr_iload_n (pc := 4) 1 dX9_add_4 rfl rfl ?_
  obtain ⟨ht3, hf⟩ := xo_if hf
  obtain ⟨r4, τ4, hτ4, hf⟩ := xo_bd hf
  refine call_f_a_J15_append_X9_25 (pc := 5) hτ4 (gKo ht3 (by decide)) rfl (Nat.le_of_ble_eq_true rfl) (Nat.le_of_ble_eq_true rfl) (Nat.le_of_ble_eq_true rfl) dX9_add_5 ?_
  refine xr_pop (pc := 8) dX9_add_8 rfl ?_
  refine xr_aload_n (pc := 9) 0 dX9_add_9 rfl rfl ?_
  obtain ⟨ht5, hf⟩ := xo_if hf
  obtain ⟨b6, hb6, hf⟩ := xo_bind hf
  refine yc_getFs (pc := 10) 8 0 800 (gKo ht5 (by decide)) (by decide) (by decide) (by decide) rfl rfl hb6 q1017 (ys_eq rfl) rfl dX9_add_10 ?_
  refine xr_aload_n (pc := 13) 2 dX9_add_13 rfl rfl ?_
  obtain ⟨ht7, hf⟩ := xo_if hf
  obtain ⟨r8, τ8, hτ8, hf⟩ := xo_bd hf
  refine call_f_a_J2_add_X9_29 (pc := 14) hτ8 (gKo ht7 (by decide)) rfl (Nat.le_of_ble_eq_true rfl) (Nat.le_of_ble_eq_true rfl) (Nat.le_of_ble_eq_true rfl) dX9_add_14 ?_
  refine xr_pop (pc := 19) dX9_add_19 rfl ?_
  rw [kr _ (Option.some.inj hf).symm]
  exact xr_vret (pc := 20) dX9_add_20 rfl
theorem met_f_a_X9_add (l : Launch) {D : CD} {P : CP} {x0 : Nat} {x1 : Int32} {x2 : Nat} {τ : CS} {o_ : CS} (hf : f_a_X9_add x0 x1 x2 τ = some o_) : xMet (wC D P) l yX9_add (ws_ yX9_add cX9_add 3 none) 8 480 (grc τ.1) (grs τ.1) [.ref x0, .int x1, .ref x2] τ (none, o_) := 
  xMet_of (by decide) (Nat.le_of_ble_eq_true rfl) KC_moved (RPC_of (g := τ.1) (c := τ.2)) (fun K _ _ _ => ok_f_a_X9_add hf (fun _ h => by rw [h]))
abbrev mX19_init : xM := (cX19_init, 4, RX19, 1, 60, none, "<init>")
def f_a_X19_init (x0 : Nat) (x1 : Int32) (x2 : Option Nat) (x3 : Option Nat) (τ : CS) : Option CS :=
  if gT τ.1 x0 = 17 then
  some ((vR (vR τ.1 1701 x0 x2) 1702 x0 x3, (uI (uL τ.2 1703 x0 (-1)) 1700 x0 x1)))
  else none
theorem ok_f_a_X19_init {D : CD} {P : CP} {K : xK} {Z : Option Value × CS} {x0 : Nat} {x1 : Int32} {x2 : Option Nat} {x3 : Option Nat} {τ : CS} {o_ : CS} (hf : f_a_X19_init x0 x1 x2 x3 τ = some o_) (kr : ∀ r_ : CS, o_ = r_ → Z = (none, r_)) : xV (wC D P) K mX19_init (xQ (wC D P) K Z) τ 0 [(0, .ref x0), (1, .int x1), (2, va_rf x2), (3, va_rf x3)] [] := by
  unfold f_a_X19_init at hf
  refine xr_aload_n (pc := 0) 0 dX19_init_0 rfl rfl ?_
  refine xr_objInit (pc := 1) q1674 rfl (Nat.le_of_ble_eq_true rfl) (Nat.le_of_ble_eq_true rfl) (Nat.le_of_ble_eq_true rfl) dX19_init_1 ?_
  refine xr_aload_n (pc := 4) 0 dX19_init_4 rfl rfl ?_
  refine xr_ldc2 (pc := 5) q1675 dX19_init_5 ?_
  obtain ⟨ht1, hf⟩ := xo_if hf
  refine yc_putL (pc := 8) 17 3 1703 ht1 (by decide) (by decide) (by decide) rfl rfl rfl (by decide +kernel) q1679 (ys_eq rfl) rfl dX19_init_8 ?_
  refine xr_aload_n (pc := 11) 0 dX19_init_11 rfl rfl ?_
  refine xr_iload_n (pc := 12) 1 dX19_init_12 rfl rfl ?_
  refine yc_putFI (pc := 13) 17 0 1700 ht1 (by decide) (by decide) (by decide) rfl rfl rfl (ty := .int) (by decide +kernel) rfl rfl q1676 rfl rfl rfl dX19_init_13 ?_
  refine xr_aload_n (pc := 16) 0 dX19_init_16 rfl rfl ?_
  refine xr_aloadq_n (pc := 17) 2 dX19_init_17 rfl rfl ?_
  refine yc_putFR (pc := 18) 17 1 1701 ht1 (by decide) (by decide) (by decide) rfl rfl rfl (ty := (.object "BentRiver$Test")) (by decide +kernel) rfl q1677 rfl rfl rfl dX19_init_18 ?_
  refine xr_aload_n (pc := 21) 0 dX19_init_21 rfl rfl ?_
  refine xr_aloadq_n (pc := 22) 3 dX19_init_22 rfl rfl ?_
  refine yc_putFR (pc := 23) 17 2 1702 ht1 (by decide) (by decide) (by decide) rfl rfl rfl (ty := (.object "BentRiver$Value")) (by decide +kernel) rfl q1678 rfl rfl rfl dX19_init_23 ?_
  rw [kr _ (Option.some.inj hf).symm]
  exact xr_vret (pc := 26) dX19_init_26 rfl
theorem met_f_a_X19_init (l : Launch) {D : CD} {P : CP} {x0 : Nat} {x1 : Int32} {x2 : Option Nat} {x3 : Option Nat} {τ : CS} {o_ : CS} (hf : f_a_X19_init x0 x1 x2 x3 τ = some o_) : xMet (wC D P) l yX19_init (ws_ yX19_init cX19_init 4 none) 1 60 (grc τ.1) (grs τ.1) [.ref x0, .int x1, va_rf x2, va_rf x3] τ (none, o_) := by
  cases x2 <;> cases x3 <;> exact xMet_of (by decide) (Nat.le_of_ble_eq_true rfl) KC_moved (RPC_of (g := τ.1) (c := τ.2)) (fun K _ _ _ => ok_f_a_X19_init hf (fun _ h => by rw [h]))
theorem hd_f_a_J6_valueOf : yJ6_valueOf.cls ≠ "java/lang/invoke/MethodHandle" ∧ yJ6_valueOf.cls ≠ "java/lang/invoke/VarHandle" ∧ (parseMethodDescriptor yJ6_valueOf.desc).map (fun d => d.parameters.length) = some 1 := by decide +kernel
theorem call_f_a_J6_valueOf_X2_64 {D : CD} {P : CP} {K : xK} {M : xM} {Q : State → Prop} {τ τ1 : CS} {x0 : Nat} {pc : Nat} {loc : List (Nat × Value)} {st : List Value} {r : Nat} (hf : f_a_J6_valueOf x0 τ = some (r, τ1)) (ho : M.2.2.1 = RX2) (hfr : 8 ≤ M.2.2.2.1) (hlo : 440 ≤ M.2.2.2.2.1) (hcat : (st.map fun v => v.category).sum ≤ 8) (d : decode M.1 pc = .ok (.invokestatic 64, 3)) (k : xV (wC D P) K M Q τ1 (pc + 3) loc (.ref r :: st)) : xV (wC D P) K M Q τ pc loc (.ref x0 :: st) :=
  yc_callS (g := τ.1) (c := τ.2) (g1 := τ1.1) (c1 := τ1.2) (As := [.ref x0]) (rest := st) (met_f_a_J6_valueOf K.2.1 hf) (lw_S q624 q625 q187 q626) hd_f_a_J6_valueOf ho hfr hlo rfl rfl hcat d k
abbrev mX2_word_2 : xM := (cX2_word_2, 3, RX2, 8, 480, (some (.object "java/lang/String")), "word")
def Bc_X2_word_2_32 (x0 : Nat) (τ : CS) : Option ((CS) ⊕ ((CS))) :=
  if gT τ.1 x0 = 3 then
  xbd (f_c_X2_byteAt τ.1 x0 (cI τ.2 302 x0) τ.2) fun r9 τ9 =>
  xbd (f_c_X0_isLetter τ.1 r9 τ9) fun r10 τ10 =>
  if r10 = 0 then
  some (.inr (τ.1, τ10))
  else
  some (.inl (τ.1, uI τ10 302 x0 ((cI τ10 302 x0) + 1)))
  else none
theorem ok_Bc_X2_word_2_32 {D : CD} {P : CP} {K : xK} (hno : xNoT K) {Z : (Option Value ⊕ Nat) × CS} {x0 : Nat} {τ : CS} {o_ : ((CS) ⊕ ((CS)))} (hf : Bc_X2_word_2_32 x0 τ = some o_) (kc : ∀ s_ : CS, o_ = .inl s_ → xV (wC D P) K mX2_word_2 (xQX (wC D P) K Z) s_ 32 [(0, .ref x0)] []) (ke0 : ∀ e_ : CS, o_ = .inr e_ → xV (wC D P) K mX2_word_2 (xQX (wC D P) K Z) e_ 59 [(0, .ref x0)] []) : xV (wC D P) K mX2_word_2 (xQX (wC D P) K Z) τ 32 [(0, .ref x0)] [] := by
  unfold Bc_X2_word_2_32 at hf
  refine xr_aload_n (pc := 32) 0 dX2_word_2_32 rfl rfl ?_
  refine xr_aload_n (pc := 33) 0 dX2_word_2_33 rfl rfl ?_
  obtain ⟨ht8, hf⟩ := xo_if hf
  refine yc_getI (pc := 34) 3 2 302 (gKo ht8 (by decide)) (by decide) (by decide) (by decide) rfl rfl q390 (ys_eq rfl) rfl dX2_word_2_34 ?_
  obtain ⟨r9, τ9, hτ9, hf⟩ := xo_bd hf
  refine call_f_c_X2_byteAt_X2_39 (pc := 37) hτ9 (gKo ht8 (by decide)) rfl (Nat.le_of_ble_eq_true rfl) (Nat.le_of_ble_eq_true rfl) (Nat.le_of_ble_eq_true rfl) dX2_word_2_37 ?_
  obtain ⟨r10, τ10, hτ10, hf⟩ := xo_bd hf
  refine call_f_c_X0_isLetter_X2_51 (pc := 40) hτ10 rfl (Nat.le_of_ble_eq_true rfl) (Nat.le_of_ble_eq_true rfl) (Nat.le_of_ble_eq_true rfl) dX2_word_2_40 ?_
  refine xr_if_eq (pc := 43) 59 dX2_word_2_43 (by decide) (fun c_ => ?_) (fun c_ => ?_)
  · have hf := xo_pos c_ hf
    exact ke0 _ (Option.some.inj hf).symm
  · have hf := xo_neg c_ hf
    refine xr_aload_n (pc := 46) 0 dX2_word_2_46 rfl rfl ?_
    refine xr_dup (pc := 47) dX2_word_2_47 rfl ?_
    refine yc_getI (pc := 48) 3 2 302 (gKo ht8 (by decide)) (by decide) (by decide) (by decide) rfl rfl q390 (ys_eq rfl) rfl dX2_word_2_48 ?_
    refine xr_iconst (pc := 51) dX2_word_2_51 xci_1 ?_
    refine xr_iadd (pc := 52) dX2_word_2_52 ?_
    refine yc_putI (pc := 53) 3 2 302 ht8 (by decide) (by decide) (by decide) rfl rfl rfl (ty := .int) (by decide +kernel) rfl rfl q390 (ys_eq rfl) rfl dX2_word_2_53 ?_
    refine xr_goto (pc := 56) 32 dX2_word_2_56 (by decide) ?_
    exact kc _ (Option.some.inj hf).symm
def Bc_X2_word_2_76 (x0 : Nat) (x1 : Nat) (x2 : Int32) (τ : CS) : Option ((Int32 × CS) ⊕ ((CS))) :=
  if gT τ.1 x0 = 3 then
  if (cI τ.2 302 x0) ≤ x2 then
  some (.inr τ)
  else
  (gR τ.1 307 x0).bind fun b16 =>
  if gT τ.1 b16 = 1 then
  (gR τ.1 101 b16).bind fun b18 =>
  if gT τ.1 b18 = 103 then
  if xin x2 (gN τ.1 b18) = true then
  if gT τ.1 x1 = 102 then
  if xin (x2 - (cI τ.2 303 x0)) (gN τ.1 x1) = true then
  some (.inl (x2 + 1, (τ.1, uA τ.2 x1 (x2 - (cI τ.2 303 x0)).toNatClampNeg ((((cA τ.2 b18 x2.toNatClampNeg).toUInt32 % 65536).toInt32).toUInt32.toUInt16.toUInt32.toInt32))))
  else none
  else none
  else none
  else none
  else none
  else none
theorem ok_Bc_X2_word_2_76 {D : CD} {P : CP} {K : xK} (hno : xNoT K) {Z : (Option Value ⊕ Nat) × CS} {x0 : Nat} {x1 : Nat} {x2 : Int32} {τ : CS} {o_ : ((Int32 × CS) ⊕ ((CS)))} (hf : Bc_X2_word_2_76 x0 x1 x2 τ = some o_) (kc : ∀ s_ : Int32 × CS, o_ = .inl s_ → xV (wC D P) K mX2_word_2 (xQX (wC D P) K Z) s_.2 76 [(0, .ref x0), (1, .ref x1), (2, .int s_.1)] []) (ke0 : ∀ e_ : CS, o_ = .inr e_ → xV (wC D P) K mX2_word_2 (xQX (wC D P) K Z) e_ 108 [(1, .ref x1)] []) : xV (wC D P) K mX2_word_2 (xQX (wC D P) K Z) τ 76 [(0, .ref x0), (1, .ref x1), (2, .int x2)] [] := by
  unfold Bc_X2_word_2_76 at hf
  refine xr_iload_n (pc := 76) 2 dX2_word_2_76 rfl rfl ?_
  refine xr_aload_n (pc := 77) 0 dX2_word_2_77 rfl rfl ?_
  obtain ⟨ht15, hf⟩ := xo_if hf
  refine yc_getI (pc := 78) 3 2 302 (gKo ht15 (by decide)) (by decide) (by decide) (by decide) rfl rfl q390 (ys_eq rfl) rfl dX2_word_2_78 ?_
  refine xr_icmp_ge (pc := 81) 108 dX2_word_2_81 (by decide) (fun c_ => ?_) (fun c_ => ?_)
  · have hf := xo_pos c_ hf
    refine xV_sub [1] rfl ?_
    exact ke0 _ (Option.some.inj hf).symm
  · have hf := xo_neg c_ hf
    refine xr_aload_n (pc := 84) 1 dX2_word_2_84 rfl rfl ?_
    refine xr_iload_n (pc := 85) 2 dX2_word_2_85 rfl rfl ?_
    refine xr_aload_n (pc := 86) 0 dX2_word_2_86 rfl rfl ?_
    refine yc_getI (pc := 87) 3 3 303 (gKo ht15 (by decide)) (by decide) (by decide) (by decide) rfl rfl q391 (ys_eq rfl) rfl dX2_word_2_87 ?_
    refine xr_isub (pc := 90) dX2_word_2_90 ?_
    refine xr_aload_n (pc := 91) 0 dX2_word_2_91 rfl rfl ?_
    obtain ⟨b16, hb16, hf⟩ := xo_bind hf
    refine yc_getFs (pc := 92) 3 7 307 (gKo ht15 (by decide)) (by decide) (by decide) (by decide) rfl rfl hb16 q395 (ys_eq rfl) rfl dX2_word_2_92 ?_
    obtain ⟨ht17, hf⟩ := xo_if hf
    obtain ⟨b18, hb18, hf⟩ := xo_bind hf
    refine yc_getFsN (pc := 95) 1 1 101 (gKo ht17 (by decide)) (by decide) (by decide) (by decide) rfl rfl hb18 q485 (ys_eq rfl) rfl dX2_word_2_95 ?_
    refine xr_iload_n (pc := 98) 2 dX2_word_2_98 rfl rfl ?_
    obtain ⟨ht19, hf⟩ := xo_if hf
    obtain ⟨hi_, hf⟩ := xo_if hf
    refine yc_bald (pc := 99) (gKo ht19 (by decide)) hi_ dX2_word_2_99 ?_
    refine xr_i2c (pc := 100) dX2_word_2_100 ?_
    obtain ⟨ht20, hf⟩ := xo_if hf
    obtain ⟨hi_, hf⟩ := xo_if hf
    refine yc_cast (pc := 101) ht20 hi_ dX2_word_2_101 ?_
    refine xr_iinc (pc := 102) (loc' := [(2, .int (x2 + 1)), (0, .ref x0), (1, .ref x1)]) 2 dX2_word_2_102 rfl xci_1 (by decide) rfl ?_
    refine xr_goto (pc := 105) 76 dX2_word_2_105 (by decide) ?_
    refine xV_sub [1, 2, 0] rfl ?_
    exact kc _ (Option.some.inj hf).symm
def f_x_X2_word_2 (x0 : Nat) (τ : CS) : Option ((Nat ⊕ Nat) × CS) :=
  if gT τ.1 x0 = 3 then
  xbd (f_c_X2_here τ.1 x0 τ.2) fun r2 τ2 =>
  xbd (f_c_X0_isLetter τ.1 r2 τ2) fun r3 τ3 =>
  if r3 = 0 then
  xbd (f_c_X2_wrong τ.1 x0 1 (cI τ3 302 x0) τ3) fun r4 τ4 =>
  if gT τ.1 r4 = 4 then
  some ((.inr r4, (τ.1, τ4)))
  else none
  else
  xbx (f_x_X2_parted x0 (τ.1, τ3)) (fun r6 τ6 =>
  if gT τ6.1 x0 = 3 then
  (itr (fun s_ : CS => Bc_X2_word_2_32 x0 s_) 4096 (τ6.1, uI τ6.2 303 x0 (cI τ6.2 302 x0))).bind fun b11 =>
  if gT b11.1 x0 = 3 then
  xbd (aArr 102 ((cI b11.2 302 x0) - (cI b11.2 303 x0)) b11) fun r13 τ13 =>
  if gT τ13.1 x0 = 3 then
  (itr (fun s_ : Int32 × CS => Bc_X2_word_2_76 x0 r13 s_.1 s_.2) 4096 (cI τ13.2 303 x0, τ13)).bind fun b21 =>
  xbd (f_a_J6_valueOf r13 b21) fun r22 τ22 =>
  some ((.inl r22, τ22))
  else none
  else none
  else none) (fun q23 τ23 => some ((.inr q23, τ23)))
  else none
theorem ok_f_x_X2_word_2 {D : CD} {P : CP} {K : xK} (hno : xNoT K) {Z : (Option Value ⊕ Nat) × CS} {x0 : Nat} {τ : CS} {o_ : ((Nat ⊕ Nat) × CS)} (hf : f_x_X2_word_2 x0 τ = some o_) (kr : ∀ r_ : ((Nat ⊕ Nat) × CS), o_ = r_ → Z = (xzR r_.1, r_.2)) : xV (wC D P) K mX2_word_2 (xQX (wC D P) K Z) τ 0 [(0, .ref x0)] [] := by
  unfold f_x_X2_word_2 at hf
  refine xr_aload_n (pc := 0) 0 dX2_word_2_0 rfl rfl ?_
  obtain ⟨ht1, hf⟩ := xo_if hf
  obtain ⟨r2, τ2, hτ2, hf⟩ := xo_bd hf
  refine call_f_c_X2_here_X2_43 (pc := 1) hτ2 (gKo ht1 (by decide)) rfl (Nat.le_of_ble_eq_true rfl) (Nat.le_of_ble_eq_true rfl) (Nat.le_of_ble_eq_true rfl) dX2_word_2_1 ?_
  obtain ⟨r3, τ3, hτ3, hf⟩ := xo_bd hf
  refine call_f_c_X0_isLetter_X2_51 (pc := 4) hτ3 rfl (Nat.le_of_ble_eq_true rfl) (Nat.le_of_ble_eq_true rfl) (Nat.le_of_ble_eq_true rfl) dX2_word_2_4 ?_
  refine xr_if_ne (pc := 7) 20 dX2_word_2_7 (by decide) (fun c_ => ?_) (fun c_ => ?_)
  · have hf := xo_pos c_ hf
    refine xr_aload_n (pc := 10) 0 dX2_word_2_10 rfl rfl ?_
    refine xr_iconst (pc := 11) dX2_word_2_11 xci_1 ?_
    refine xr_aload_n (pc := 12) 0 dX2_word_2_12 rfl rfl ?_
    refine yc_getI (pc := 13) 3 2 302 (gKo ht1 (by decide)) (by decide) (by decide) (by decide) rfl rfl q390 (ys_eq rfl) rfl dX2_word_2_13 ?_
    obtain ⟨r4, τ4, hτ4, hf⟩ := xo_bd hf
    refine call_f_c_X2_wrong_X2_47 (pc := 16) hτ4 (gKo ht1 (by decide)) rfl (Nat.le_of_ble_eq_true rfl) (Nat.le_of_ble_eq_true rfl) (Nat.le_of_ble_eq_true rfl) dX2_word_2_16 ?_
    obtain ⟨ht5, hf⟩ := xo_if hf
    rw [kr _ (Option.some.inj hf).symm]
    exact yc_athrow (pc := 19) (gKo ht5 (by decide)) (by decide) (by decide) rfl dX2_word_2_19 (xT_out hno)
  · have hf := xo_neg c_ hf
    refine xr_aload_n (pc := 20) 0 dX2_word_2_20 rfl rfl ?_
    rcases xo_bx hf with ⟨r6, τ6, hτ6, hf⟩ | ⟨q23, τ23, hτ23, hf⟩
    · refine call_f_x_X2_parted_X2_58_r (pc := 21) hτ6 (gKo ht1 (by decide)) rfl (Nat.le_of_ble_eq_true rfl) (Nat.le_of_ble_eq_true rfl) (Nat.le_of_ble_eq_true rfl) dX2_word_2_21 ?_
      refine xr_aload_n (pc := 24) 0 dX2_word_2_24 rfl rfl ?_
      refine xr_aload_n (pc := 25) 0 dX2_word_2_25 rfl rfl ?_
      obtain ⟨ht7, hf⟩ := xo_if hf
      refine yc_getI (pc := 26) 3 2 302 (gKo ht7 (by decide)) (by decide) (by decide) (by decide) rfl rfl q390 (ys_eq rfl) rfl dX2_word_2_26 ?_
      refine yc_putI (pc := 29) 3 3 303 ht7 (by decide) (by decide) (by decide) rfl rfl rfl (ty := .int) (by decide +kernel) rfl rfl q391 (ys_eq rfl) rfl dX2_word_2_29 ?_
      obtain ⟨b11, hb11, hf⟩ := xo_bind hf
      refine itr_rule (P := fun s_ : CS => xV (wC D P) K mX2_word_2 (xQX (wC D P) K Z) s_ 32 [(0, .ref x0)] []) (fun s_ o_ hB_ hc_ he_ => ok_Bc_X2_word_2_32 hno hB_ hc_ (fun e_ h_ => ?_)) 4096 _ hb11
      · have e9_ := he_ _ h_
        rw [e9_]
        refine xr_aload_n (pc := 59) 0 dX2_word_2_59 rfl rfl ?_
        obtain ⟨ht12, hf⟩ := xo_if hf
        refine yc_getI (pc := 60) 3 2 302 (gKo ht12 (by decide)) (by decide) (by decide) (by decide) rfl rfl q390 (ys_eq rfl) rfl dX2_word_2_60 ?_
        refine xr_aload_n (pc := 63) 0 dX2_word_2_63 rfl rfl ?_
        refine yc_getI (pc := 64) 3 3 303 (gKo ht12 (by decide)) (by decide) (by decide) (by decide) rfl rfl q391 (ys_eq rfl) rfl dX2_word_2_64 ?_
        refine xr_isub (pc := 67) dX2_word_2_67 ?_
        obtain ⟨r13, τ13, hτ13, hf⟩ := xo_bd hf
        refine yc_aArr (pc := 68) 102 (by decide) (by decide) rfl (Or.inl rfl) (by decide +kernel) (by decide) q701 hτ13 dX2_word_2_68 ?_
        refine xr_astore_n (pc := 70) (loc' := [(1, .ref r13), (0, .ref x0)]) dX2_word_2_70 rfl (by decide) rfl ?_
        refine xr_aload_n (pc := 71) 1 dX2_word_2_71 rfl rfl ?_
        obtain ⟨ht14, hf⟩ := xo_if hf
        refine yc_getI (pc := 72) 3 3 303 (gKo ht14 (by decide)) (by decide) (by decide) (by decide) rfl rfl q391 (ys_eq rfl) rfl dX2_word_2_72 ?_
        refine xr_istore_n (pc := 75) (loc' := [(2, .int (cI τ13.2 303 x0)), (1, .ref r13), (0, .ref x0)]) dX2_word_2_75 rfl (by decide) rfl ?_
        refine xV_sub [2, 1, 0] rfl ?_
        obtain ⟨b21, hb21, hf⟩ := xo_bind hf
        refine itr_rule (P := fun s_ : Int32 × CS => xV (wC D P) K mX2_word_2 (xQX (wC D P) K Z) s_.2 76 [(0, .ref x0), (1, .ref r13), (2, .int s_.1)] []) (fun s_ o_ hB_ hc_ he_ => ok_Bc_X2_word_2_76 hno hB_ hc_ (fun e_ h_ => ?_)) 4096 _ hb21
        · have e9_ := he_ _ h_
          rw [e9_]
          refine xr_aload_n (pc := 108) 0 dX2_word_2_108 rfl rfl ?_
          obtain ⟨r22, τ22, hτ22, hf⟩ := xo_bd hf
          refine call_f_a_J6_valueOf_X2_64 (pc := 109) hτ22 rfl (Nat.le_of_ble_eq_true rfl) (Nat.le_of_ble_eq_true rfl) (Nat.le_of_ble_eq_true rfl) dX2_word_2_109 ?_
          rw [kr _ (Option.some.inj hf).symm]
          exact xV_ret (xr_aret (pc := 112) dX2_word_2_112 rfl (Or.inl ⟨_, rfl⟩))
    · refine call_f_x_X2_parted_X2_58_t (pc := 21) hτ23 (gKo ht1 (by decide)) rfl (Nat.le_of_ble_eq_true rfl) (Nat.le_of_ble_eq_true rfl) (Nat.le_of_ble_eq_true rfl) dX2_word_2_21 ?_
      rw [kr _ (Option.some.inj hf).symm]
      exact xT_out hno
theorem met_f_x_X2_word_2 (l : Launch) {D : CD} {P : CP} {x0 : Nat} {τ : CS} {o_ : ((Nat ⊕ Nat) × CS)} (hf : f_x_X2_word_2 x0 τ = some o_) : xMetX (wC D P) l yX2_word_2 (ws_ yX2_word_2 cX2_word_2 3 (some (.object "java/lang/String"))) 8 480 (grc τ.1) (grs τ.1) [.ref x0] τ (xzR o_.1, o_.2) := 
  xMetX_of (by decide) (Nat.le_of_ble_eq_true rfl) KC_moved (RPC_of (g := τ.1) (c := τ.2)) (fun K _ _ _ hno => ok_f_x_X2_word_2 hno hf (fun _ h => by rw [h]))
theorem hd_f_x_X2_word_2 : yX2_word_2.cls ≠ "java/lang/invoke/MethodHandle" ∧ yX2_word_2.cls ≠ "java/lang/invoke/VarHandle" ∧ (parseMethodDescriptor yX2_word_2.desc).map (fun d => d.parameters.length) = some 0 := by decide +kernel
theorem call_f_x_X2_word_2_X2_70_r {D : CD} {P : CP} {K : xK} {M : xM} {Q : State → Prop} {τ τ1 : CS} {x0 : Nat} {pc : Nat} {loc : List (Nat × Value)} {st : List Value} {r : Nat} (hf : f_x_X2_word_2 x0 τ = some (.inl r, τ1)) (hr : gK τ.1 x0 = 3) (ho : M.2.2.1 = RX2) (hfr : 9 ≤ M.2.2.2.1) (hlo : 502 ≤ M.2.2.2.2.1) (hcat : (st.map fun v => v.category).sum ≤ 8) (d : decode M.1 pc = .ok (.invokevirtual 70, 3)) (k : xV (wC D P) K M Q τ1 (pc + 3) loc (.ref r :: st)) : xV (wC D P) K M Q τ pc loc (.ref x0 :: st) :=
  yc_callVX (g := τ.1) (c := τ.2) (Z := (.inl (some (.ref r)), τ1)) (As := []) (rest := st) (met_f_x_X2_word_2 K.2.1 hf) (lw_V q598 q600 qs5 q179 q601) ⟨rfl, hd_f_x_X2_word_2⟩ ho hfr hlo rfl hr (by decide) (by decide) rfl rfl hcat d (yx_ret (v := some (.ref r)) k) yx_noT
theorem call_f_x_X2_word_2_X2_70_t {D : CD} {P : CP} {K : xK} {M : xM} {Q : State → Prop} {τ τ1 : CS} {x0 : Nat} {pc : Nat} {loc : List (Nat × Value)} {st : List Value} {q : Nat} (hf : f_x_X2_word_2 x0 τ = some (.inr q, τ1)) (hr : gK τ.1 x0 = 3) (ho : M.2.2.1 = RX2) (hfr : 9 ≤ M.2.2.2.1) (hlo : 502 ≤ M.2.2.2.2.1) (hcat : (st.map fun v => v.category).sum ≤ 8) (d : decode M.1 pc = .ok (.invokevirtual 70, 3)) (k : xT (wC D P) K M Q τ1 pc loc q) : xV (wC D P) K M Q τ pc loc (.ref x0 :: st) :=
  yc_callVX (g := τ.1) (c := τ.2) (Z := (.inr q, τ1)) (As := []) (rest := st) (met_f_x_X2_word_2 K.2.1 hf) (lw_V q598 q600 qs5 q179 q601) ⟨rfl, hd_f_x_X2_word_2⟩ ho hfr hlo rfl hr (by decide) (by decide) rfl rfl hcat d yx_noR (yx_thr k)
theorem call_f_c_J6_equals_X2_74 {D : CD} {P : CP} {K : xK} {M : xM} {Q : State → Prop} {g : CG} {c : CC} {x0 : Nat} {x1 : Nat} {pc : Nat} {loc : List (Nat × Value)} {st : List Value} {r : Int32} {c1 : CC} (hf : f_c_J6_equals g x0 x1 c = some (r, c1)) (hr : gK g x0 = 19) (ho : M.2.2.1 = RX2) (hfr : 2 ≤ M.2.2.2.1) (hlo : 82 ≤ M.2.2.2.2.1) (hcat : (st.map fun v => v.category).sum ≤ 8) (d : decode M.1 pc = .ok (.invokevirtual 74, 3)) (k : xV (wC D P) K M Q (g, c1) (pc + 3) loc (.int r :: st)) : xV (wC D P) K M Q (g, c) pc loc (.ref x1 :: .ref x0 :: st) :=
  yc_callV (As := [.ref x1]) (rest := st) (met_f_c_J6_equals K.2.1 hf) (lw_V q702 q703 q704 q187 q705) ⟨rfl, hd_f_c_J6_equals⟩ ho hfr hlo rfl hr (by decide) (by decide) rfl rfl hcat d k
abbrev mX2_word : xM := (cX2_word, 2, RX2, 9, 540, none, "word")
def f_x_X2_word (x0 : Nat) (x1 : Nat) (τ : CS) : Option ((Unit ⊕ Nat) × CS) :=
  if gT τ.1 x0 = 3 then
  xbx (f_x_X2_word_2 x0 τ) (fun r2 τ2 =>
  if gK τ2.1 r2 = 19 then
  xbd (f_c_J6_equals τ2.1 r2 x1 τ2.2) fun r4 τ4 =>
  if r4 = 0 then
  if gT τ2.1 x0 = 3 then
  xbd (f_c_X2_wrong τ2.1 x0 1 (cI τ4 303 x0) τ4) fun r6 τ6 =>
  if gT τ2.1 r6 = 4 then
  some ((.inr r6, (τ2.1, τ6)))
  else none
  else none
  else
  some ((.inl (), (τ2.1, τ4)))
  else none) (fun q8 τ8 => some ((.inr q8, τ8)))
  else none
theorem ok_f_x_X2_word {D : CD} {P : CP} {K : xK} (hno : xNoT K) {Z : (Option Value ⊕ Nat) × CS} {x0 : Nat} {x1 : Nat} {τ : CS} {o_ : ((Unit ⊕ Nat) × CS)} (hf : f_x_X2_word x0 x1 τ = some o_) (kr : ∀ r_ : ((Unit ⊕ Nat) × CS), o_ = r_ → Z = (xzV r_.1, r_.2)) : xV (wC D P) K mX2_word (xQX (wC D P) K Z) τ 0 [(0, .ref x0), (1, .ref x1)] [] := by
  unfold f_x_X2_word at hf
  refine xr_aload_n (pc := 0) 0 dX2_word_0 rfl rfl ?_
  obtain ⟨ht1, hf⟩ := xo_if hf
  rcases xo_bx hf with ⟨r2, τ2, hτ2, hf⟩ | ⟨q8, τ8, hτ8, hf⟩
  · refine call_f_x_X2_word_2_X2_70_r (pc := 1) hτ2 (gKo ht1 (by decide)) rfl (Nat.le_of_ble_eq_true rfl) (Nat.le_of_ble_eq_true rfl) (Nat.le_of_ble_eq_true rfl) dX2_word_1 ?_
    refine xr_aload_n (pc := 4) 1 dX2_word_4 rfl rfl ?_
    obtain ⟨ht3, hf⟩ := xo_if hf
    obtain ⟨r4, τ4, hτ4, hf⟩ := xo_bd hf
    refine call_f_c_J6_equals_X2_74 (pc := 5) hτ4 ht3 rfl (Nat.le_of_ble_eq_true rfl) (Nat.le_of_ble_eq_true rfl) (Nat.le_of_ble_eq_true rfl) dX2_word_5 ?_
    refine xr_if_ne (pc := 8) 21 dX2_word_8 (by decide) (fun c_ => ?_) (fun c_ => ?_)
    · have hf := xo_pos c_ hf
      refine xr_aload_n (pc := 11) 0 dX2_word_11 rfl rfl ?_
      refine xr_iconst (pc := 12) dX2_word_12 xci_1 ?_
      refine xr_aload_n (pc := 13) 0 dX2_word_13 rfl rfl ?_
      obtain ⟨ht5, hf⟩ := xo_if hf
      refine yc_getI (pc := 14) 3 3 303 (gKo ht5 (by decide)) (by decide) (by decide) (by decide) rfl rfl q391 (ys_eq rfl) rfl dX2_word_14 ?_
      obtain ⟨r6, τ6, hτ6, hf⟩ := xo_bd hf
      refine call_f_c_X2_wrong_X2_47 (pc := 17) hτ6 (gKo ht5 (by decide)) rfl (Nat.le_of_ble_eq_true rfl) (Nat.le_of_ble_eq_true rfl) (Nat.le_of_ble_eq_true rfl) dX2_word_17 ?_
      obtain ⟨ht7, hf⟩ := xo_if hf
      rw [kr _ (Option.some.inj hf).symm]
      exact yc_athrow (pc := 20) (gKo ht7 (by decide)) (by decide) (by decide) rfl dX2_word_20 (xT_out hno)
    · have hf := xo_neg c_ hf
      rw [kr _ (Option.some.inj hf).symm]
      exact xV_ret (xr_vret (pc := 21) dX2_word_21 rfl)
  · refine call_f_x_X2_word_2_X2_70_t (pc := 1) hτ8 (gKo ht1 (by decide)) rfl (Nat.le_of_ble_eq_true rfl) (Nat.le_of_ble_eq_true rfl) (Nat.le_of_ble_eq_true rfl) dX2_word_1 ?_
    rw [kr _ (Option.some.inj hf).symm]
    exact xT_out hno
theorem met_f_x_X2_word (l : Launch) {D : CD} {P : CP} {x0 : Nat} {x1 : Nat} {τ : CS} {o_ : ((Unit ⊕ Nat) × CS)} (hf : f_x_X2_word x0 x1 τ = some o_) : xMetX (wC D P) l yX2_word (ws_ yX2_word cX2_word 2 none) 9 540 (grc τ.1) (grs τ.1) [.ref x0, .ref x1] τ (xzV o_.1, o_.2) := 
  xMetX_of (by decide) (Nat.le_of_ble_eq_true rfl) KC_moved (RPC_of (g := τ.1) (c := τ.2)) (fun K _ _ _ hno => ok_f_x_X2_word hno hf (fun _ h => by rw [h]))
abbrev mX2_passes : xM := (cX2_passes, 3, RX2, 9, 540, (some .boolean), "passes")
def f_x_X2_passes (x0 : Nat) (x1 : Nat) (τ : CS) : Option ((Int32 ⊕ Nat) × CS) :=
  if gT τ.1 x0 = 3 then
  xbd (f_c_X2_here τ.1 x0 τ.2) fun r2 τ2 =>
  xbd (f_c_X0_isLetter τ.1 r2 τ2) fun r3 τ3 =>
  if r3 = 0 then
  some ((.inl 0, (τ.1, τ3)))
  else
  xbx (f_x_X2_word_2 x0 (τ.1, τ3)) (fun r4 τ4 =>
  if gK τ4.1 r4 = 19 then
  xbd (f_c_J6_equals τ4.1 r4 x1 τ4.2) fun r6 τ6 =>
  if r6 = 0 then
  if gT τ4.1 x0 = 3 then
  some ((.inl 0, (τ4.1, uI τ6 302 x0 (cI τ.2 302 x0))))
  else none
  else
  some ((.inl 1, (τ4.1, τ6)))
  else none) (fun q8 τ8 => some ((.inr q8, τ8)))
  else none
theorem ok_f_x_X2_passes {D : CD} {P : CP} {K : xK} (hno : xNoT K) {Z : (Option Value ⊕ Nat) × CS} {x0 : Nat} {x1 : Nat} {τ : CS} {o_ : ((Int32 ⊕ Nat) × CS)} (hf : f_x_X2_passes x0 x1 τ = some o_) (kr : ∀ r_ : ((Int32 ⊕ Nat) × CS), o_ = r_ → Z = (xzI r_.1, r_.2)) : xV (wC D P) K mX2_passes (xQX (wC D P) K Z) τ 0 [(0, .ref x0), (1, .ref x1)] [] := by
  unfold f_x_X2_passes at hf
  refine xr_aload_n (pc := 0) 0 dX2_passes_0 rfl rfl ?_
  obtain ⟨ht1, hf⟩ := xo_if hf
  refine yc_getI (pc := 1) 3 2 302 (gKo ht1 (by decide)) (by decide) (by decide) (by decide) rfl rfl q390 (ys_eq rfl) rfl dX2_passes_1 ?_
  refine xr_istore_n (pc := 4) (loc' := [(2, .int (cI τ.2 302 x0)), (0, .ref x0), (1, .ref x1)]) dX2_passes_4 rfl (by decide) rfl ?_
  refine xr_aload_n (pc := 5) 1 dX2_passes_5 rfl rfl ?_
  obtain ⟨r2, τ2, hτ2, hf⟩ := xo_bd hf
  refine call_f_c_X2_here_X2_43 (pc := 6) hτ2 (gKo ht1 (by decide)) rfl (Nat.le_of_ble_eq_true rfl) (Nat.le_of_ble_eq_true rfl) (Nat.le_of_ble_eq_true rfl) dX2_passes_6 ?_
  obtain ⟨r3, τ3, hτ3, hf⟩ := xo_bd hf
  refine call_f_c_X0_isLetter_X2_51 (pc := 9) hτ3 rfl (Nat.le_of_ble_eq_true rfl) (Nat.le_of_ble_eq_true rfl) (Nat.le_of_ble_eq_true rfl) dX2_passes_9 ?_
  refine xr_if_ne (pc := 12) 17 dX2_passes_12 (by decide) (fun c_ => ?_) (fun c_ => ?_)
  · have hf := xo_pos c_ hf
    refine xr_iconst (pc := 15) dX2_passes_15 xci_0 ?_
    rw [kr _ (Option.some.inj hf).symm]
    exact xV_ret (xr_zret (pc := 16) dX2_passes_16 rfl xz_0)
  · have hf := xo_neg c_ hf
    refine xr_aload_n (pc := 17) 1 dX2_passes_17 rfl rfl ?_
    rcases xo_bx hf with ⟨r4, τ4, hτ4, hf⟩ | ⟨q8, τ8, hτ8, hf⟩
    · refine call_f_x_X2_word_2_X2_70_r (pc := 18) hτ4 (gKo ht1 (by decide)) rfl (Nat.le_of_ble_eq_true rfl) (Nat.le_of_ble_eq_true rfl) (Nat.le_of_ble_eq_true rfl) dX2_passes_18 ?_
      refine xr_aload_n (pc := 21) 2 dX2_passes_21 rfl rfl ?_
      obtain ⟨ht5, hf⟩ := xo_if hf
      obtain ⟨r6, τ6, hτ6, hf⟩ := xo_bd hf
      refine call_f_c_J6_equals_X2_74 (pc := 22) hτ6 ht5 rfl (Nat.le_of_ble_eq_true rfl) (Nat.le_of_ble_eq_true rfl) (Nat.le_of_ble_eq_true rfl) dX2_passes_22 ?_
      refine xr_if_eq (pc := 25) 30 dX2_passes_25 (by decide) (fun c_ => ?_) (fun c_ => ?_)
      · have hf := xo_pos c_ hf
        refine xr_aload_n (pc := 30) 1 dX2_passes_30 rfl rfl ?_
        refine xr_iload_n (pc := 31) 0 dX2_passes_31 rfl rfl ?_
        obtain ⟨ht7, hf⟩ := xo_if hf
        refine yc_putI (pc := 32) 3 2 302 ht7 (by decide) (by decide) (by decide) rfl rfl rfl (ty := .int) (by decide +kernel) rfl rfl q390 (ys_eq rfl) rfl dX2_passes_32 ?_
        refine xr_iconst (pc := 35) dX2_passes_35 xci_0 ?_
        rw [kr _ (Option.some.inj hf).symm]
        exact xV_ret (xr_zret (pc := 36) dX2_passes_36 rfl xz_0)
      · have hf := xo_neg c_ hf
        refine xr_iconst (pc := 28) dX2_passes_28 xci_1 ?_
        rw [kr _ (Option.some.inj hf).symm]
        exact xV_ret (xr_zret (pc := 29) dX2_passes_29 rfl xz_1)
    · refine call_f_x_X2_word_2_X2_70_t (pc := 18) hτ8 (gKo ht1 (by decide)) rfl (Nat.le_of_ble_eq_true rfl) (Nat.le_of_ble_eq_true rfl) (Nat.le_of_ble_eq_true rfl) dX2_passes_18 ?_
      rw [kr _ (Option.some.inj hf).symm]
      exact xT_out hno
theorem met_f_x_X2_passes (l : Launch) {D : CD} {P : CP} {x0 : Nat} {x1 : Nat} {τ : CS} {o_ : ((Int32 ⊕ Nat) × CS)} (hf : f_x_X2_passes x0 x1 τ = some o_) : xMetX (wC D P) l yX2_passes (ws_ yX2_passes cX2_passes 3 (some .boolean)) 9 540 (grc τ.1) (grs τ.1) [.ref x0, .ref x1] τ (xzI o_.1, o_.2) := 
  xMetX_of (by decide) (Nat.le_of_ble_eq_true rfl) KC_moved (RPC_of (g := τ.1) (c := τ.2)) (fun K _ _ _ hno => ok_f_x_X2_passes hno hf (fun _ h => by rw [h]))
theorem hd_f_c_X0_find : yX0_find.cls ≠ "java/lang/invoke/MethodHandle" ∧ yX0_find.cls ≠ "java/lang/invoke/VarHandle" ∧ (parseMethodDescriptor yX0_find.desc).map (fun d => d.parameters.length) = some 2 := by decide +kernel
theorem call_f_c_X0_find_X2_82 {D : CD} {P : CP} {K : xK} {M : xM} {Q : State → Prop} {g : CG} {c : CC} {x0 : Nat} {x1 : Nat} {pc : Nat} {loc : List (Nat × Value)} {st : List Value} {r : Int32} {c1 : CC} (hf : f_c_X0_find g x0 x1 c = some (r, c1)) (ho : M.2.2.1 = RX2) (hfr : 3 ≤ M.2.2.2.1) (hlo : 142 ≤ M.2.2.2.2.1) (hcat : (st.map fun v => v.category).sum ≤ 8) (d : decode M.1 pc = .ok (.invokestatic 82, 3)) (k : xV (wC D P) K M Q (g, c1) (pc + 3) loc (.int r :: st)) : xV (wC D P) K M Q (g, c) pc loc (.ref x1 :: .ref x0 :: st) :=
  yc_callSN (As := [.ref x0, .ref x1]) (rest := st) (met_f_c_X0_find K.2.1 hf) (lw_meth q821) q819 q820 q174 hd_f_c_X0_find ho hfr hlo rfl rfl hcat d k
theorem call_f_c_J6_length_X2_86 {D : CD} {P : CP} {K : xK} {M : xM} {Q : State → Prop} {g : CG} {c : CC} {x0 : Nat} {pc : Nat} {loc : List (Nat × Value)} {st : List Value} {r : Int32} {c1 : CC} (hf : f_c_J6_length g x0 c = some (r, c1)) (hr : gK g x0 = 19) (ho : M.2.2.1 = RX2) (hfr : 2 ≤ M.2.2.2.1) (hlo : 80 ≤ M.2.2.2.2.1) (hcat : (st.map fun v => v.category).sum ≤ 8) (d : decode M.1 pc = .ok (.invokevirtual 86, 3)) (k : xV (wC D P) K M Q (g, c1) (pc + 3) loc (.int r :: st)) : xV (wC D P) K M Q (g, c) pc loc (.ref x0 :: st) :=
  yc_callV (As := []) (rest := st) (met_f_c_J6_length K.2.1 hf) (lw_V q823 q824 q825 q187 q826) ⟨rfl, hd_f_c_J6_length⟩ ho hfr hlo rfl hr (by decide) (by decide) rfl rfl hcat d k
abbrev mX2_name : xM := (cX2_name, 2, RX2, 9, 540, (some (.object "java/lang/String")), "name")
def f_x_X2_name (x0 : Nat) (τ : CS) : Option ((Nat ⊕ Nat) × CS) :=
  if gT τ.1 x0 = 3 then
  xbx (f_x_X2_word_2 x0 τ) (fun r2 τ2 =>
  xbd (f_c_X0_find τ2.1 r2 (gA τ2.1 0 0) τ2.2) fun r3 τ3 =>
  if r3 = (-1) then
  if gK τ2.1 r2 = 19 then
  xbd (f_c_J6_length τ2.1 r2 τ3) fun r5 τ5 =>
  if r5 ≤ 6 then
  some ((.inl r2, (τ2.1, τ5)))
  else
  if gT τ2.1 x0 = 3 then
  xbd (f_c_X2_wrong τ2.1 x0 1 ((cI τ5 303 x0) + 6) τ5) fun r7 τ7 =>
  if gT τ2.1 r7 = 4 then
  some ((.inr r7, (τ2.1, τ7)))
  else none
  else none
  else none
  else
  if gT τ2.1 x0 = 3 then
  xbd (f_c_X2_wrong τ2.1 x0 1 (cI τ3 303 x0) τ3) fun r10 τ10 =>
  if gT τ2.1 r10 = 4 then
  some ((.inr r10, (τ2.1, τ10)))
  else none
  else none) (fun q12 τ12 => some ((.inr q12, τ12)))
  else none
theorem ok_f_x_X2_name {D : CD} {P : CP} {K : xK} (hno : xNoT K) {Z : (Option Value ⊕ Nat) × CS} {x0 : Nat} {τ : CS} {o_ : ((Nat ⊕ Nat) × CS)} (hf : f_x_X2_name x0 τ = some o_) (kr : ∀ r_ : ((Nat ⊕ Nat) × CS), o_ = r_ → Z = (xzR r_.1, r_.2)) : xV (wC D P) K mX2_name (xQX (wC D P) K Z) τ 0 [(0, .ref x0)] [] := by
  unfold f_x_X2_name at hf
  refine xr_aload_n (pc := 0) 0 dX2_name_0 rfl rfl ?_
  obtain ⟨ht1, hf⟩ := xo_if hf
  rcases xo_bx hf with ⟨r2, τ2, hτ2, hf⟩ | ⟨q12, τ12, hτ12, hf⟩
  · refine call_f_x_X2_word_2_X2_70_r (pc := 1) hτ2 (gKo ht1 (by decide)) rfl (Nat.le_of_ble_eq_true rfl) (Nat.le_of_ble_eq_true rfl) (Nat.le_of_ble_eq_true rfl) dX2_name_1 ?_
    refine xr_astore_n (pc := 4) (loc' := [(1, .ref r2), (0, .ref x0)]) dX2_name_4 rfl (by decide) rfl ?_
    refine xr_aload_n (pc := 5) 0 dX2_name_5 rfl rfl ?_
    refine yc_getsN (pc := 6) 0 (by decide) (by decide) q817 rfl rfl dX2_name_6 ?_
    obtain ⟨r3, τ3, hτ3, hf⟩ := xo_bd hf
    refine call_f_c_X0_find_X2_82 (pc := 9) hτ3 rfl (Nat.le_of_ble_eq_true rfl) (Nat.le_of_ble_eq_true rfl) (Nat.le_of_ble_eq_true rfl) dX2_name_9 ?_
    refine xr_iconst (pc := 12) dX2_name_12 xci_m1 ?_
    refine xr_icmp_eq (pc := 13) 26 dX2_name_13 (by decide) (fun c_ => ?_) (fun c_ => ?_)
    · have hf := xo_pos c_ hf
      refine xr_aload_n (pc := 26) 0 dX2_name_26 rfl rfl ?_
      obtain ⟨ht4, hf⟩ := xo_if hf
      obtain ⟨r5, τ5, hτ5, hf⟩ := xo_bd hf
      refine call_f_c_J6_length_X2_86 (pc := 27) hτ5 ht4 rfl (Nat.le_of_ble_eq_true rfl) (Nat.le_of_ble_eq_true rfl) (Nat.le_of_ble_eq_true rfl) dX2_name_27 ?_
      refine xr_bipush (pc := 30) dX2_name_30 xcb_6 ?_
      refine xr_icmp_le (pc := 32) 48 dX2_name_32 (by decide) (fun c_ => ?_) (fun c_ => ?_)
      · have hf := xo_pos c_ hf
        refine xr_aload_n (pc := 48) 0 dX2_name_48 rfl rfl ?_
        rw [kr _ (Option.some.inj hf).symm]
        exact xV_ret (xr_aret (pc := 49) dX2_name_49 rfl (Or.inl ⟨_, rfl⟩))
      · have hf := xo_neg c_ hf
        refine xr_aload_n (pc := 35) 1 dX2_name_35 rfl rfl ?_
        refine xr_iconst (pc := 36) dX2_name_36 xci_1 ?_
        refine xr_aload_n (pc := 37) 1 dX2_name_37 rfl rfl ?_
        obtain ⟨ht6, hf⟩ := xo_if hf
        refine yc_getI (pc := 38) 3 3 303 (gKo ht6 (by decide)) (by decide) (by decide) (by decide) rfl rfl q391 (ys_eq rfl) rfl dX2_name_38 ?_
        refine xr_bipush (pc := 41) dX2_name_41 xcb_6 ?_
        refine xr_iadd (pc := 43) dX2_name_43 ?_
        obtain ⟨r7, τ7, hτ7, hf⟩ := xo_bd hf
        refine call_f_c_X2_wrong_X2_47 (pc := 44) hτ7 (gKo ht6 (by decide)) rfl (Nat.le_of_ble_eq_true rfl) (Nat.le_of_ble_eq_true rfl) (Nat.le_of_ble_eq_true rfl) dX2_name_44 ?_
        obtain ⟨ht8, hf⟩ := xo_if hf
        rw [kr _ (Option.some.inj hf).symm]
        exact yc_athrow (pc := 47) (gKo ht8 (by decide)) (by decide) (by decide) rfl dX2_name_47 (xT_out hno)
    · have hf := xo_neg c_ hf
      refine xr_aload_n (pc := 16) 1 dX2_name_16 rfl rfl ?_
      refine xr_iconst (pc := 17) dX2_name_17 xci_1 ?_
      refine xr_aload_n (pc := 18) 1 dX2_name_18 rfl rfl ?_
      obtain ⟨ht9, hf⟩ := xo_if hf
      refine yc_getI (pc := 19) 3 3 303 (gKo ht9 (by decide)) (by decide) (by decide) (by decide) rfl rfl q391 (ys_eq rfl) rfl dX2_name_19 ?_
      obtain ⟨r10, τ10, hτ10, hf⟩ := xo_bd hf
      refine call_f_c_X2_wrong_X2_47 (pc := 22) hτ10 (gKo ht9 (by decide)) rfl (Nat.le_of_ble_eq_true rfl) (Nat.le_of_ble_eq_true rfl) (Nat.le_of_ble_eq_true rfl) dX2_name_22 ?_
      obtain ⟨ht11, hf⟩ := xo_if hf
      rw [kr _ (Option.some.inj hf).symm]
      exact yc_athrow (pc := 25) (gKo ht11 (by decide)) (by decide) (by decide) rfl dX2_name_25 (xT_out hno)
  · refine call_f_x_X2_word_2_X2_70_t (pc := 1) hτ12 (gKo ht1 (by decide)) rfl (Nat.le_of_ble_eq_true rfl) (Nat.le_of_ble_eq_true rfl) (Nat.le_of_ble_eq_true rfl) dX2_name_1 ?_
    rw [kr _ (Option.some.inj hf).symm]
    exact xT_out hno
theorem met_f_x_X2_name (l : Launch) {D : CD} {P : CP} {x0 : Nat} {τ : CS} {o_ : ((Nat ⊕ Nat) × CS)} (hf : f_x_X2_name x0 τ = some o_) : xMetX (wC D P) l yX2_name (ws_ yX2_name cX2_name 2 (some (.object "java/lang/String"))) 9 540 (grc τ.1) (grs τ.1) [.ref x0] τ (xzR o_.1, o_.2) := 
  xMetX_of (by decide) (Nat.le_of_ble_eq_true rfl) KC_moved (RPC_of (g := τ.1) (c := τ.2)) (fun K _ _ _ hno => ok_f_x_X2_name hno hf (fun _ h => by rw [h]))
theorem hd_f_x_X2_word : yX2_word.cls ≠ "java/lang/invoke/MethodHandle" ∧ yX2_word.cls ≠ "java/lang/invoke/VarHandle" ∧ (parseMethodDescriptor yX2_word.desc).map (fun d => d.parameters.length) = some 1 := by decide +kernel
theorem call_f_x_X2_word_X2_93_r {D : CD} {P : CP} {K : xK} {M : xM} {Q : State → Prop} {τ τ1 : CS} {x0 : Nat} {x1 : Nat} {pc : Nat} {loc : List (Nat × Value)} {st : List Value} (hf : f_x_X2_word x0 x1 τ = some (.inl (), τ1)) (hr : gK τ.1 x0 = 3) (ho : M.2.2.1 = RX2) (hfr : 10 ≤ M.2.2.2.1) (hlo : 561 ≤ M.2.2.2.2.1) (hcat : (st.map fun v => v.category).sum ≤ 8) (d : decode M.1 pc = .ok (.invokevirtual 93, 3)) (k : xV (wC D P) K M Q τ1 (pc + 3) loc st) : xV (wC D P) K M Q τ pc loc (.ref x1 :: .ref x0 :: st) :=
  yc_callVX (g := τ.1) (c := τ.2) (Z := (.inl none, τ1)) (As := [.ref x1]) (rest := st) (met_f_x_X2_word K.2.1 hf) (lw_V q594 q596 qs4 q179 q597) ⟨rfl, hd_f_x_X2_word⟩ ho hfr hlo rfl hr (by decide) (by decide) rfl rfl hcat d (yx_ret (v := none) k) yx_noT
theorem call_f_x_X2_word_X2_93_t {D : CD} {P : CP} {K : xK} {M : xM} {Q : State → Prop} {τ τ1 : CS} {x0 : Nat} {x1 : Nat} {pc : Nat} {loc : List (Nat × Value)} {st : List Value} {q : Nat} (hf : f_x_X2_word x0 x1 τ = some (.inr q, τ1)) (hr : gK τ.1 x0 = 3) (ho : M.2.2.1 = RX2) (hfr : 10 ≤ M.2.2.2.1) (hlo : 561 ≤ M.2.2.2.2.1) (hcat : (st.map fun v => v.category).sum ≤ 8) (d : decode M.1 pc = .ok (.invokevirtual 93, 3)) (k : xT (wC D P) K M Q τ1 pc loc q) : xV (wC D P) K M Q τ pc loc (.ref x1 :: .ref x0 :: st) :=
  yc_callVX (g := τ.1) (c := τ.2) (Z := (.inr q, τ1)) (As := [.ref x1]) (rest := st) (met_f_x_X2_word K.2.1 hf) (lw_V q594 q596 qs4 q179 q597) ⟨rfl, hd_f_x_X2_word⟩ ho hfr hlo rfl hr (by decide) (by decide) rfl rfl hcat d yx_noR (yx_thr k)
abbrev mX2_number_2 : xM := (cX2_number_2, 4, RX2, 10, 600, (some .int), "number")
def f_x_X2_number_2 (x0 : Nat) (x1 : Nat) (x2 : Int32) (x3 : Int32) (τ : CS) : Option ((Int32 ⊕ Nat) × CS) :=
  if gT τ.1 x0 = 3 then
  xbx (f_x_X2_word x0 x1 τ) (fun r2 τ2 =>
  if gT τ2.1 x0 = 3 then
  xbx (f_x_X2_number x0 x2 x3 τ2) (fun r4 τ4 =>
  some ((.inl r4, τ4))) (fun q5 τ5 => some ((.inr q5, τ5)))
  else none) (fun q6 τ6 => some ((.inr q6, τ6)))
  else none
theorem ok_f_x_X2_number_2 {D : CD} {P : CP} {K : xK} (hno : xNoT K) {Z : (Option Value ⊕ Nat) × CS} {x0 : Nat} {x1 : Nat} {x2 : Int32} {x3 : Int32} {τ : CS} {o_ : ((Int32 ⊕ Nat) × CS)} (hf : f_x_X2_number_2 x0 x1 x2 x3 τ = some o_) (kr : ∀ r_ : ((Int32 ⊕ Nat) × CS), o_ = r_ → Z = (xzI r_.1, r_.2)) : xV (wC D P) K mX2_number_2 (xQX (wC D P) K Z) τ 0 [(0, .ref x0), (1, .ref x1), (2, .int x2), (3, .int x3)] [] := by
  unfold f_x_X2_number_2 at hf
  refine xr_aload_n (pc := 0) 0 dX2_number_2_0 rfl rfl ?_
  refine xr_aload_n (pc := 1) 1 dX2_number_2_1 rfl rfl ?_
  obtain ⟨ht1, hf⟩ := xo_if hf
  rcases xo_bx hf with ⟨r2, τ2, hτ2, hf⟩ | ⟨q6, τ6, hτ6, hf⟩
  · refine call_f_x_X2_word_X2_93_r (pc := 2) hτ2 (gKo ht1 (by decide)) rfl (Nat.le_of_ble_eq_true rfl) (Nat.le_of_ble_eq_true rfl) (Nat.le_of_ble_eq_true rfl) dX2_number_2_2 ?_
    refine xr_aload_n (pc := 5) 0 dX2_number_2_5 rfl rfl ?_
    refine xr_iload_n (pc := 6) 2 dX2_number_2_6 rfl rfl ?_
    refine xr_iload_n (pc := 7) 3 dX2_number_2_7 rfl rfl ?_
    obtain ⟨ht3, hf⟩ := xo_if hf
    rcases xo_bx hf with ⟨r4, τ4, hτ4, hf⟩ | ⟨q5, τ5, hτ5, hf⟩
    · refine call_f_x_X2_number_X2_96_r (pc := 8) hτ4 (gKo ht3 (by decide)) rfl (Nat.le_of_ble_eq_true rfl) (Nat.le_of_ble_eq_true rfl) (Nat.le_of_ble_eq_true rfl) dX2_number_2_8 ?_
      rw [kr _ (Option.some.inj hf).symm]
      exact xV_ret (xr_iret (pc := 11) dX2_number_2_11 rfl)
    · refine call_f_x_X2_number_X2_96_t (pc := 8) hτ5 (gKo ht3 (by decide)) rfl (Nat.le_of_ble_eq_true rfl) (Nat.le_of_ble_eq_true rfl) (Nat.le_of_ble_eq_true rfl) dX2_number_2_8 ?_
      rw [kr _ (Option.some.inj hf).symm]
      exact xT_out hno
  · refine call_f_x_X2_word_X2_93_t (pc := 2) hτ6 (gKo ht1 (by decide)) rfl (Nat.le_of_ble_eq_true rfl) (Nat.le_of_ble_eq_true rfl) (Nat.le_of_ble_eq_true rfl) dX2_number_2_2 ?_
    rw [kr _ (Option.some.inj hf).symm]
    exact xT_out hno
theorem met_f_x_X2_number_2 (l : Launch) {D : CD} {P : CP} {x0 : Nat} {x1 : Nat} {x2 : Int32} {x3 : Int32} {τ : CS} {o_ : ((Int32 ⊕ Nat) × CS)} (hf : f_x_X2_number_2 x0 x1 x2 x3 τ = some o_) : xMetX (wC D P) l yX2_number_2 (ws_ yX2_number_2 cX2_number_2 4 (some .int)) 10 600 (grc τ.1) (grs τ.1) [.ref x0, .ref x1, .int x2, .int x3] τ (xzI o_.1, o_.2) := 
  xMetX_of (by decide) (Nat.le_of_ble_eq_true rfl) KC_moved (RPC_of (g := τ.1) (c := τ.2)) (fun K _ _ _ hno => ok_f_x_X2_number_2 hno hf (fun _ h => by rw [h]))
