set_option maxRecDepth 100000
def isV (t : Nat) : Bool := t == 8 || t == 9 || t == 10 || t == 11 || t == 12
def isT (t : Nat) : Bool := t == 13 || t == 14 || t == 15 || t == 16
def DAT (D : CD) (P : CP) (d : Nat) (f : Nat → Nat → CG → CC → Option (Int64 × CC)) : Prop := ∀ (l : Launch) (a m : Nat) (g : CG) (c : CC) (r : Int64) (c1 : CC), f a m g c = some (r, c1) → (gK g a = 10 ∧ xMet (wC D P) l yX11_at (ws_ yX11_at cX11_at 2 (some .long)) (12 + d) (60 * (12 + d)) (grc g) (grs g) [.ref a, .ref m] (g, c) (some (.long r), (g, c1))) ∨ (gK g a = 11 ∧ xMet (wC D P) l yX12_at (ws_ yX12_at cX12_at 2 (some .long)) (12 + d) (60 * (12 + d)) (grc g) (grs g) [.ref a, .ref m] (g, c) (some (.long r), (g, c1))) ∨ (gK g a = 9 ∧ xMet (wC D P) l yX10_at (ws_ yX10_at cX10_at 6 (some .long)) (12 + d) (60 * (12 + d)) (grc g) (grs g) [.ref a, .ref m] (g, c) (some (.long r), (g, c1))) ∨ (gK g a = 8 ∧ xMet (wC D P) l yX9_at (ws_ yX9_at cX9_at 5 (some .long)) (12 + d) (60 * (12 + d)) (grc g) (grs g) [.ref a, .ref m] (g, c) (some (.long r), (g, c1))) ∨ (gK g a = 12 ∧ xMet (wC D P) l yX13_at (ws_ yX13_at cX13_at 2 (some .long)) (12 + d) (60 * (12 + d)) (grc g) (grs g) [.ref a, .ref m] (g, c) (some (.long r), (g, c1)))
def DHO (D : CD) (P : CP) (d : Nat) (f : Nat → Nat → CG → CC → Option (Int32 × CC)) : Prop := ∀ (l : Launch) (a m : Nat) (g : CG) (c : CC) (r : Int32) (c1 : CC), f a m g c = some (r, c1) → (gK g a = 15 ∧ xMet (wC D P) l yX17_holds (ws_ yX17_holds cX17_holds 2 (some .boolean)) (12 + d) (60 * (12 + d)) (grc g) (grs g) [.ref a, .ref m] (g, c) (some (.int r), (g, c1))) ∨ (gK g a = 16 ∧ xMet (wC D P) l yX18_holds (ws_ yX18_holds cX18_holds 6 (some .boolean)) (12 + d) (60 * (12 + d)) (grc g) (grs g) [.ref a, .ref m] (g, c) (some (.int r), (g, c1))) ∨ (gK g a = 14 ∧ xMet (wC D P) l yX16_holds (ws_ yX16_holds cX16_holds 2 (some .boolean)) (12 + d) (60 * (12 + d)) (grc g) (grs g) [.ref a, .ref m] (g, c) (some (.int r), (g, c1))) ∨ (gK g a = 13 ∧ xMet (wC D P) l yX15_holds (ws_ yX15_holds cX15_holds 3 (some .boolean)) (12 + d) (60 * (12 + d)) (grc g) (grs g) [.ref a, .ref m] (g, c) (some (.int r), (g, c1)))
abbrev mX0_is : xM := (cX0_is, 3, RX0, 0, 0, (some .boolean), "is")
def Jc_X0_is_14 (g : CG) (τ : CC) : Option (Int32 × CC) :=
  some ((0, τ))
theorem ok_Jc_X0_is_14 {D : CD} {P : CP} {K : xK} {g : CG} {Z : Option Value × CS} {τ : CC} {o_ : (Int32 × CC)} (hf : Jc_X0_is_14 g τ = some o_) (kr : ∀ r_ : (Int32 × CC), o_ = r_ → Z = (some (.int r_.1), (g, r_.2))) : xV (wC D P) K mX0_is (xQ (wC D P) K Z) (g, τ) 14 [] [] := by
  unfold Jc_X0_is_14 at hf
  refine xr_iconst (pc := 14) dX0_is_14 xci_0 ?_
  rw [kr _ (Option.some.inj hf).symm]
  exact xr_zret (pc := 15) dX0_is_15 rfl xz_0
def f_c_X0_is (g : CG) (x0 : Int32) (x1 : Int32) (x2 : Int32) (τ : CC) : Option (Int32 × CC) :=
  if x0 < x1 then
  Jc_X0_is_14 g τ
  else
  if x2 < x0 then
  Jc_X0_is_14 g τ
  else
  some ((1, τ))
theorem ok_f_c_X0_is {D : CD} {P : CP} {K : xK} {g : CG} {Z : Option Value × CS} {x0 : Int32} {x1 : Int32} {x2 : Int32} {τ : CC} {o_ : (Int32 × CC)} (hf : f_c_X0_is g x0 x1 x2 τ = some o_) (kr : ∀ r_ : (Int32 × CC), o_ = r_ → Z = (some (.int r_.1), (g, r_.2))) : xV (wC D P) K mX0_is (xQ (wC D P) K Z) (g, τ) 0 [(0, .int x0), (1, .int x1), (2, .int x2)] [] := by
  unfold f_c_X0_is at hf
  refine xr_iload_n (pc := 0) 0 dX0_is_0 rfl rfl ?_
  refine xr_iload_n (pc := 1) 1 dX0_is_1 rfl rfl ?_
  refine xr_icmp_lt (pc := 2) 14 dX0_is_2 (by decide) (fun c_ => ?_) (fun c_ => ?_)
  · have hf := xo_pos c_ hf
    refine xV_sub [] rfl ?_
    exact ok_Jc_X0_is_14 hf kr
  · have hf := xo_neg c_ hf
    refine xr_iload_n (pc := 5) 0 dX0_is_5 rfl rfl ?_
    refine xr_iload_n (pc := 6) 2 dX0_is_6 rfl rfl ?_
    refine xr_icmp_gt (pc := 7) 14 dX0_is_7 (by decide) (fun c_ => ?_) (fun c_ => ?_)
    · have hf := xo_pos c_ hf
      refine xV_sub [] rfl ?_
      exact ok_Jc_X0_is_14 hf kr
    · have hf := xo_neg c_ hf
      refine xr_iconst (pc := 10) dX0_is_10 xci_1 ?_
      refine xr_goto (pc := 11) 15 dX0_is_11 (by decide) ?_
      rw [kr _ (Option.some.inj hf).symm]
      exact xr_zret (pc := 15) dX0_is_15 rfl xz_1
theorem met_f_c_X0_is (l : Launch) {D : CD} {P : CP} {g : CG} {x0 : Int32} {x1 : Int32} {x2 : Int32} {τ : CC} {o_ : (Int32 × CC)} (hf : f_c_X0_is g x0 x1 x2 τ = some o_) : xMet (wC D P) l yX0_is (ws_ yX0_is cX0_is 3 (some .boolean)) 0 0 (grc g) (grs g) [.int x0, .int x1, .int x2] (g, τ) (some (.int o_.1), (g, o_.2)) := 
  xMet_of (by decide) (Nat.le_of_ble_eq_true rfl) KC_moved RPC_of (fun K _ _ _ => ok_f_c_X0_is hf (fun _ h => by rw [h]))
abbrev mX0_has : xM := (cX0_has, 2, RX0, 0, 0, (some .boolean), "has")
def f_c_X0_has (g : CG) (x0 : Int32) (x1 : Int32) (τ : CC) : Option (Int32 × CC) :=
  if (((x0 : Int32) >>> (x1 &&& 31)) &&& 1) = 1 then
  some ((1, τ))
  else
  some ((0, τ))
theorem ok_f_c_X0_has {D : CD} {P : CP} {K : xK} {g : CG} {Z : Option Value × CS} {x0 : Int32} {x1 : Int32} {τ : CC} {o_ : (Int32 × CC)} (hf : f_c_X0_has g x0 x1 τ = some o_) (kr : ∀ r_ : (Int32 × CC), o_ = r_ → Z = (some (.int r_.1), (g, r_.2))) : xV (wC D P) K mX0_has (xQ (wC D P) K Z) (g, τ) 0 [(0, .int x0), (1, .int x1)] [] := by
  unfold f_c_X0_has at hf
  refine xr_iload_n (pc := 0) 0 dX0_has_0 rfl rfl ?_
  refine xr_iload_n (pc := 1) 1 dX0_has_1 rfl rfl ?_
  refine xr_ishr (pc := 2) dX0_has_2 ?_
  refine xr_iconst (pc := 3) dX0_has_3 xci_1 ?_
  refine xr_iand (pc := 4) dX0_has_4 ?_
  refine xr_iconst (pc := 5) dX0_has_5 xci_1 ?_
  refine xr_icmp_ne (pc := 6) 13 dX0_has_6 (by decide) (fun c_ => ?_) (fun c_ => ?_)
  · have hf := xo_pos c_ hf
    refine xr_iconst (pc := 9) dX0_has_9 xci_1 ?_
    refine xr_goto (pc := 10) 14 dX0_has_10 (by decide) ?_
    rw [kr _ (Option.some.inj hf).symm]
    exact xr_zret (pc := 14) dX0_has_14 rfl xz_1
  · have hf := xo_neg c_ hf
    refine xr_iconst (pc := 13) dX0_has_13 xci_0 ?_
    rw [kr _ (Option.some.inj hf).symm]
    exact xr_zret (pc := 14) dX0_has_14 rfl xz_0
theorem met_f_c_X0_has (l : Launch) {D : CD} {P : CP} {g : CG} {x0 : Int32} {x1 : Int32} {τ : CC} {o_ : (Int32 × CC)} (hf : f_c_X0_has g x0 x1 τ = some o_) : xMet (wC D P) l yX0_has (ws_ yX0_has cX0_has 2 (some .boolean)) 0 0 (grc g) (grs g) [.int x0, .int x1] (g, τ) (some (.int o_.1), (g, o_.2)) := 
  xMet_of (by decide) (Nat.le_of_ble_eq_true rfl) KC_moved RPC_of (fun K _ _ _ => ok_f_c_X0_has hf (fun _ h => by rw [h]))
abbrev mJ12_min_2 : xM := (cJ12_min_2, 4, RJ12, 0, 0, (some .long), "min")
def f_c_J12_min_2 (g : CG) (x0 : Int64) (x2 : Int64) (τ : CC) : Option (Int64 × CC) :=
  if (0 : Int32) < (lg_cmp x0 x2) then
  some ((x2, τ))
  else
  some ((x0, τ))
theorem ok_f_c_J12_min_2 {D : CD} {P : CP} {K : xK} {g : CG} {Z : Option Value × CS} {x0 : Int64} {x2 : Int64} {τ : CC} {o_ : (Int64 × CC)} (hf : f_c_J12_min_2 g x0 x2 τ = some o_) (kr : ∀ r_ : (Int64 × CC), o_ = r_ → Z = (some (.long r_.1), (g, r_.2))) : xV (wC D P) K mJ12_min_2 (xQ (wC D P) K Z) (g, τ) 0 [(0, .long x0), (2, .long x2)] [] := by
  unfold f_c_J12_min_2 at hf
  refine xr_lload_n (pc := 0) 0 dJ12_min_2_0 rfl rfl ?_
  refine xr_lload_n (pc := 1) 1 dJ12_min_2_1 rfl rfl ?_
  refine xr_lcmp (pc := 2) dJ12_min_2_2 ?_
  refine xr_if_gt (pc := 3) 10 dJ12_min_2_3 (by decide) (fun c_ => ?_) (fun c_ => ?_)
  · have hf := xo_pos c_ hf
    refine xr_lload_n (pc := 10) 1 dJ12_min_2_10 rfl rfl ?_
    rw [kr _ (Option.some.inj hf).symm]
    exact xr_lret (pc := 11) dJ12_min_2_11 rfl
  · have hf := xo_neg c_ hf
    refine xr_lload_n (pc := 6) 0 dJ12_min_2_6 rfl rfl ?_
    refine xr_goto (pc := 7) 11 dJ12_min_2_7 (by decide) ?_
    rw [kr _ (Option.some.inj hf).symm]
    exact xr_lret (pc := 11) dJ12_min_2_11 rfl
theorem met_f_c_J12_min_2 (l : Launch) {D : CD} {P : CP} {g : CG} {x0 : Int64} {x2 : Int64} {τ : CC} {o_ : (Int64 × CC)} (hf : f_c_J12_min_2 g x0 x2 τ = some o_) : xMet (wC D P) l yJ12_min_2 (ws_ yJ12_min_2 cJ12_min_2 4 (some .long)) 0 0 (grc g) (grs g) [.long x0, .long x2] (g, τ) (some (.long o_.1), (g, o_.2)) := 
  xMet_ofF (by decide +kernel) (Nat.le_of_ble_eq_true rfl) KC_moved RPC_of (fun K _ _ _ => ok_f_c_J12_min_2 hf (fun _ h => by rw [h]))
abbrev mJ12_max_2 : xM := (cJ12_max_2, 4, RJ12, 0, 0, (some .long), "max")
def f_c_J12_max_2 (g : CG) (x0 : Int64) (x2 : Int64) (τ : CC) : Option (Int64 × CC) :=
  if (lg_cmp x0 x2) < 0 then
  some ((x2, τ))
  else
  some ((x0, τ))
theorem ok_f_c_J12_max_2 {D : CD} {P : CP} {K : xK} {g : CG} {Z : Option Value × CS} {x0 : Int64} {x2 : Int64} {τ : CC} {o_ : (Int64 × CC)} (hf : f_c_J12_max_2 g x0 x2 τ = some o_) (kr : ∀ r_ : (Int64 × CC), o_ = r_ → Z = (some (.long r_.1), (g, r_.2))) : xV (wC D P) K mJ12_max_2 (xQ (wC D P) K Z) (g, τ) 0 [(0, .long x0), (2, .long x2)] [] := by
  unfold f_c_J12_max_2 at hf
  refine xr_lload_n (pc := 0) 0 dJ12_max_2_0 rfl rfl ?_
  refine xr_lload_n (pc := 1) 1 dJ12_max_2_1 rfl rfl ?_
  refine xr_lcmp (pc := 2) dJ12_max_2_2 ?_
  refine xr_if_lt (pc := 3) 10 dJ12_max_2_3 (by decide) (fun c_ => ?_) (fun c_ => ?_)
  · have hf := xo_pos c_ hf
    refine xr_lload_n (pc := 10) 1 dJ12_max_2_10 rfl rfl ?_
    rw [kr _ (Option.some.inj hf).symm]
    exact xr_lret (pc := 11) dJ12_max_2_11 rfl
  · have hf := xo_neg c_ hf
    refine xr_lload_n (pc := 6) 0 dJ12_max_2_6 rfl rfl ?_
    refine xr_goto (pc := 7) 11 dJ12_max_2_7 (by decide) ?_
    rw [kr _ (Option.some.inj hf).symm]
    exact xr_lret (pc := 11) dJ12_max_2_11 rfl
theorem met_f_c_J12_max_2 (l : Launch) {D : CD} {P : CP} {g : CG} {x0 : Int64} {x2 : Int64} {τ : CC} {o_ : (Int64 × CC)} (hf : f_c_J12_max_2 g x0 x2 τ = some o_) : xMet (wC D P) l yJ12_max_2 (ws_ yJ12_max_2 cJ12_max_2 4 (some .long)) 0 0 (grc g) (grs g) [.long x0, .long x2] (g, τ) (some (.long o_.1), (g, o_.2)) := 
  xMet_ofF (by decide +kernel) (Nat.le_of_ble_eq_true rfl) KC_moved RPC_of (fun K _ _ _ => ok_f_c_J12_max_2 hf (fun _ h => by rw [h]))
theorem hd_f_c_J12_min_2 : yJ12_min_2.cls ≠ "java/lang/invoke/MethodHandle" ∧ yJ12_min_2.cls ≠ "java/lang/invoke/VarHandle" ∧ (parseMethodDescriptor yJ12_min_2.desc).map (fun d => d.parameters.length) = some 2 := by decide +kernel
theorem call_f_c_J12_min_2_X0_7 {D : CD} {P : CP} {K : xK} {M : xM} {Q : State → Prop} {g : CG} {c : CC} {x0 : Int64} {x2 : Int64} {pc : Nat} {loc : List (Nat × Value)} {st : List Value} {r : Int64} {c1 : CC} (hf : f_c_J12_min_2 g x0 x2 c = some (r, c1)) (ho : M.2.2.1 = RX0) (hfr : 1 ≤ M.2.2.2.1) (hlo : 23 ≤ M.2.2.2.2.1) (hcat : (st.map fun v => v.category).sum ≤ 8) (d : decode M.1 pc = .ok (.invokestatic 7, 3)) (k : xV (wC D P) K M Q (g, c1) (pc + 3) loc (.long r :: st)) : xV (wC D P) K M Q (g, c) pc loc (.long x2 :: .long x0 :: st) :=
  yc_callS (As := [.long x0, .long x2]) (rest := st) (met_f_c_J12_min_2 K.2.1 hf) (lw_S q1334 q1335 q194 q1336) hd_f_c_J12_min_2 ho hfr hlo rfl rfl hcat d k
theorem hd_f_c_J12_max_2 : yJ12_max_2.cls ≠ "java/lang/invoke/MethodHandle" ∧ yJ12_max_2.cls ≠ "java/lang/invoke/VarHandle" ∧ (parseMethodDescriptor yJ12_max_2.desc).map (fun d => d.parameters.length) = some 2 := by decide +kernel
theorem call_f_c_J12_max_2_X0_13 {D : CD} {P : CP} {K : xK} {M : xM} {Q : State → Prop} {g : CG} {c : CC} {x0 : Int64} {x2 : Int64} {pc : Nat} {loc : List (Nat × Value)} {st : List Value} {r : Int64} {c1 : CC} (hf : f_c_J12_max_2 g x0 x2 c = some (r, c1)) (ho : M.2.2.1 = RX0) (hfr : 1 ≤ M.2.2.2.1) (hlo : 23 ≤ M.2.2.2.2.1) (hcat : (st.map fun v => v.category).sum ≤ 8) (d : decode M.1 pc = .ok (.invokestatic 13, 3)) (k : xV (wC D P) K M Q (g, c1) (pc + 3) loc (.long r :: st)) : xV (wC D P) K M Q (g, c) pc loc (.long x2 :: .long x0 :: st) :=
  yc_callS (As := [.long x0, .long x2]) (rest := st) (met_f_c_J12_max_2 K.2.1 hf) (lw_S q1337 q1338 q194 q1339) hd_f_c_J12_max_2 ho hfr hlo rfl rfl hcat d k
abbrev mX0_held : xM := (cX0_held, 2, RX0, 1, 60, (some .long), "held")
def f_c_X0_held (g : CG) (x0 : Int64) (τ : CC) : Option (Int64 × CC) :=
  xbd (f_c_J12_min_2 g 1000000 x0 τ) fun r1 τ1 =>
  xbd (f_c_J12_max_2 g (-1000000) r1 τ1) fun r2 τ2 =>
  some ((r2, τ2))
theorem ok_f_c_X0_held {D : CD} {P : CP} {K : xK} {g : CG} {Z : Option Value × CS} {x0 : Int64} {τ : CC} {o_ : (Int64 × CC)} (hf : f_c_X0_held g x0 τ = some o_) (kr : ∀ r_ : (Int64 × CC), o_ = r_ → Z = (some (.long r_.1), (g, r_.2))) : xV (wC D P) K mX0_held (xQ (wC D P) K Z) (g, τ) 0 [(0, .long x0)] [] := by
  unfold f_c_X0_held at hf
  refine xr_ldc2 (pc := 0) q1332 dX0_held_0 ?_
  refine xr_ldc2 (pc := 3) q1333 dX0_held_3 ?_
  refine xr_lload_n (pc := 6) 0 dX0_held_6 rfl rfl ?_
  obtain ⟨r1, τ1, hτ1, hf⟩ := xo_bd hf
  refine call_f_c_J12_min_2_X0_7 (pc := 7) hτ1 rfl (Nat.le_of_ble_eq_true rfl) (Nat.le_of_ble_eq_true rfl) (Nat.le_of_ble_eq_true rfl) dX0_held_7 ?_
  obtain ⟨r2, τ2, hτ2, hf⟩ := xo_bd hf
  refine call_f_c_J12_max_2_X0_13 (pc := 10) hτ2 rfl (Nat.le_of_ble_eq_true rfl) (Nat.le_of_ble_eq_true rfl) (Nat.le_of_ble_eq_true rfl) dX0_held_10 ?_
  rw [kr _ (Option.some.inj hf).symm]
  exact xr_lret (pc := 13) dX0_held_13 rfl
theorem met_f_c_X0_held (l : Launch) {D : CD} {P : CP} {g : CG} {x0 : Int64} {τ : CC} {o_ : (Int64 × CC)} (hf : f_c_X0_held g x0 τ = some o_) : xMet (wC D P) l yX0_held (ws_ yX0_held cX0_held 2 (some .long)) 1 60 (grc g) (grs g) [.long x0] (g, τ) (some (.long o_.1), (g, o_.2)) := 
  xMet_of (by decide) (Nat.le_of_ble_eq_true rfl) KC_moved RPC_of (fun K _ _ _ => ok_f_c_X0_held hf (fun _ h => by rw [h]))
abbrev mX0_isLetter : xM := (cX0_isLetter, 1, RX0, 0, 0, (some .boolean), "isLetter")
def Jc_X0_isLetter_16 (g : CG) (τ : CC) : Option (Int32 × CC) :=
  some ((0, τ))
theorem ok_Jc_X0_isLetter_16 {D : CD} {P : CP} {K : xK} {g : CG} {Z : Option Value × CS} {τ : CC} {o_ : (Int32 × CC)} (hf : Jc_X0_isLetter_16 g τ = some o_) (kr : ∀ r_ : (Int32 × CC), o_ = r_ → Z = (some (.int r_.1), (g, r_.2))) : xV (wC D P) K mX0_isLetter (xQ (wC D P) K Z) (g, τ) 16 [] [] := by
  unfold Jc_X0_isLetter_16 at hf
  refine xr_iconst (pc := 16) dX0_isLetter_16 xci_0 ?_
  rw [kr _ (Option.some.inj hf).symm]
  exact xr_zret (pc := 17) dX0_isLetter_17 rfl xz_0
def f_c_X0_isLetter (g : CG) (x0 : Int32) (τ : CC) : Option (Int32 × CC) :=
  if x0 < 97 then
  Jc_X0_isLetter_16 g τ
  else
  if (122 : Int32) < x0 then
  Jc_X0_isLetter_16 g τ
  else
  some ((1, τ))
theorem ok_f_c_X0_isLetter {D : CD} {P : CP} {K : xK} {g : CG} {Z : Option Value × CS} {x0 : Int32} {τ : CC} {o_ : (Int32 × CC)} (hf : f_c_X0_isLetter g x0 τ = some o_) (kr : ∀ r_ : (Int32 × CC), o_ = r_ → Z = (some (.int r_.1), (g, r_.2))) : xV (wC D P) K mX0_isLetter (xQ (wC D P) K Z) (g, τ) 0 [(0, .int x0)] [] := by
  unfold f_c_X0_isLetter at hf
  refine xr_iload_n (pc := 0) 0 dX0_isLetter_0 rfl rfl ?_
  refine xr_bipush (pc := 1) dX0_isLetter_1 xcb_97 ?_
  refine xr_icmp_lt (pc := 3) 16 dX0_isLetter_3 (by decide) (fun c_ => ?_) (fun c_ => ?_)
  · have hf := xo_pos c_ hf
    refine xV_sub [] rfl ?_
    exact ok_Jc_X0_isLetter_16 hf kr
  · have hf := xo_neg c_ hf
    refine xr_iload_n (pc := 6) 0 dX0_isLetter_6 rfl rfl ?_
    refine xr_bipush (pc := 7) dX0_isLetter_7 xcb_122 ?_
    refine xr_icmp_gt (pc := 9) 16 dX0_isLetter_9 (by decide) (fun c_ => ?_) (fun c_ => ?_)
    · have hf := xo_pos c_ hf
      refine xV_sub [] rfl ?_
      exact ok_Jc_X0_isLetter_16 hf kr
    · have hf := xo_neg c_ hf
      refine xr_iconst (pc := 12) dX0_isLetter_12 xci_1 ?_
      refine xr_goto (pc := 13) 17 dX0_isLetter_13 (by decide) ?_
      rw [kr _ (Option.some.inj hf).symm]
      exact xr_zret (pc := 17) dX0_isLetter_17 rfl xz_1
theorem met_f_c_X0_isLetter (l : Launch) {D : CD} {P : CP} {g : CG} {x0 : Int32} {τ : CC} {o_ : (Int32 × CC)} (hf : f_c_X0_isLetter g x0 τ = some o_) : xMet (wC D P) l yX0_isLetter (ws_ yX0_isLetter cX0_isLetter 1 (some .boolean)) 0 0 (grc g) (grs g) [.int x0] (g, τ) (some (.int o_.1), (g, o_.2)) := 
  xMet_of (by decide) (Nat.le_of_ble_eq_true rfl) KC_moved RPC_of (fun K _ _ _ => ok_f_c_X0_isLetter hf (fun _ h => by rw [h]))
abbrev mX0_isDigit : xM := (cX0_isDigit, 1, RX0, 0, 0, (some .boolean), "isDigit")
def Jc_X0_isDigit_16 (g : CG) (τ : CC) : Option (Int32 × CC) :=
  some ((0, τ))
theorem ok_Jc_X0_isDigit_16 {D : CD} {P : CP} {K : xK} {g : CG} {Z : Option Value × CS} {τ : CC} {o_ : (Int32 × CC)} (hf : Jc_X0_isDigit_16 g τ = some o_) (kr : ∀ r_ : (Int32 × CC), o_ = r_ → Z = (some (.int r_.1), (g, r_.2))) : xV (wC D P) K mX0_isDigit (xQ (wC D P) K Z) (g, τ) 16 [] [] := by
  unfold Jc_X0_isDigit_16 at hf
  refine xr_iconst (pc := 16) dX0_isDigit_16 xci_0 ?_
  rw [kr _ (Option.some.inj hf).symm]
  exact xr_zret (pc := 17) dX0_isDigit_17 rfl xz_0
def f_c_X0_isDigit (g : CG) (x0 : Int32) (τ : CC) : Option (Int32 × CC) :=
  if x0 < 48 then
  Jc_X0_isDigit_16 g τ
  else
  if (57 : Int32) < x0 then
  Jc_X0_isDigit_16 g τ
  else
  some ((1, τ))
theorem ok_f_c_X0_isDigit {D : CD} {P : CP} {K : xK} {g : CG} {Z : Option Value × CS} {x0 : Int32} {τ : CC} {o_ : (Int32 × CC)} (hf : f_c_X0_isDigit g x0 τ = some o_) (kr : ∀ r_ : (Int32 × CC), o_ = r_ → Z = (some (.int r_.1), (g, r_.2))) : xV (wC D P) K mX0_isDigit (xQ (wC D P) K Z) (g, τ) 0 [(0, .int x0)] [] := by
  unfold f_c_X0_isDigit at hf
  refine xr_iload_n (pc := 0) 0 dX0_isDigit_0 rfl rfl ?_
  refine xr_bipush (pc := 1) dX0_isDigit_1 xcb_48 ?_
  refine xr_icmp_lt (pc := 3) 16 dX0_isDigit_3 (by decide) (fun c_ => ?_) (fun c_ => ?_)
  · have hf := xo_pos c_ hf
    refine xV_sub [] rfl ?_
    exact ok_Jc_X0_isDigit_16 hf kr
  · have hf := xo_neg c_ hf
    refine xr_iload_n (pc := 6) 0 dX0_isDigit_6 rfl rfl ?_
    refine xr_bipush (pc := 7) dX0_isDigit_7 xcb_57 ?_
    refine xr_icmp_gt (pc := 9) 16 dX0_isDigit_9 (by decide) (fun c_ => ?_) (fun c_ => ?_)
    · have hf := xo_pos c_ hf
      refine xV_sub [] rfl ?_
      exact ok_Jc_X0_isDigit_16 hf kr
    · have hf := xo_neg c_ hf
      refine xr_iconst (pc := 12) dX0_isDigit_12 xci_1 ?_
      refine xr_goto (pc := 13) 17 dX0_isDigit_13 (by decide) ?_
      rw [kr _ (Option.some.inj hf).symm]
      exact xr_zret (pc := 17) dX0_isDigit_17 rfl xz_1
theorem met_f_c_X0_isDigit (l : Launch) {D : CD} {P : CP} {g : CG} {x0 : Int32} {τ : CC} {o_ : (Int32 × CC)} (hf : f_c_X0_isDigit g x0 τ = some o_) : xMet (wC D P) l yX0_isDigit (ws_ yX0_isDigit cX0_isDigit 1 (some .boolean)) 0 0 (grc g) (grs g) [.int x0] (g, τ) (some (.int o_.1), (g, o_.2)) := 
  xMet_of (by decide) (Nat.le_of_ble_eq_true rfl) KC_moved RPC_of (fun K _ _ _ => ok_f_c_X0_isDigit hf (fun _ h => by rw [h]))
abbrev mX0_refuses : xM := (cX0_refuses, 2, RX0, 0, 0, (some .int), "refuses")
def f_c_X0_refuses (g : CG) (x0 : Nat) (x1 : Int32) (τ : CC) : Option (Int32 × CC) :=
  if gT g x0 = 1 then
  (gR g 108 x0).bind fun b2 =>
  if gT g b2 = 100 then
  if xin x1 (gN g b2) = true then
  if xin x1 (gN g b2) = true then
  some (((-1), uA τ b2 x1.toNatClampNeg ((cA τ b2 x1.toNatClampNeg) + 1)))
  else none
  else none
  else none
  else none
theorem ok_f_c_X0_refuses {D : CD} {P : CP} {K : xK} {g : CG} {Z : Option Value × CS} {x0 : Nat} {x1 : Int32} {τ : CC} {o_ : (Int32 × CC)} (hf : f_c_X0_refuses g x0 x1 τ = some o_) (kr : ∀ r_ : (Int32 × CC), o_ = r_ → Z = (some (.int r_.1), (g, r_.2))) : xV (wC D P) K mX0_refuses (xQ (wC D P) K Z) (g, τ) 0 [(0, .ref x0), (1, .int x1)] [] := by
  unfold f_c_X0_refuses at hf
  refine xr_aload_n (pc := 0) 0 dX0_refuses_0 rfl rfl ?_
  obtain ⟨ht1, hf⟩ := xo_if hf
  obtain ⟨b2, hb2, hf⟩ := xo_bind hf
  refine yc_getFs (pc := 1) 1 8 108 (gKo ht1 (by decide)) (by decide) (by decide) (by decide) rfl rfl hb2 q494 (ys_eq rfl) rfl dX0_refuses_1 ?_
  refine xr_iload_n (pc := 4) 1 dX0_refuses_4 rfl rfl ?_
  refine xr_dup2_11 (pc := 5) dX0_refuses_5 rfl rfl ?_
  obtain ⟨ht3, hf⟩ := xo_if hf
  obtain ⟨hi_, hf⟩ := xo_if hf
  refine yc_iald (pc := 6) (gKo ht3 (by decide)) hi_ dX0_refuses_6 ?_
  refine xr_iconst (pc := 7) dX0_refuses_7 xci_1 ?_
  refine xr_iadd (pc := 8) dX0_refuses_8 ?_
  obtain ⟨hi_, hf⟩ := xo_if hf
  refine yc_iast (pc := 9) ht3 hi_ dX0_refuses_9 ?_
  refine xr_iconst (pc := 10) dX0_refuses_10 xci_m1 ?_
  rw [kr _ (Option.some.inj hf).symm]
  exact xr_iret (pc := 11) dX0_refuses_11 rfl
theorem met_f_c_X0_refuses (l : Launch) {D : CD} {P : CP} {g : CG} {x0 : Nat} {x1 : Int32} {τ : CC} {o_ : (Int32 × CC)} (hf : f_c_X0_refuses g x0 x1 τ = some o_) : xMet (wC D P) l yX0_refuses (ws_ yX0_refuses cX0_refuses 2 (some .int)) 0 0 (grc g) (grs g) [.ref x0, .int x1] (g, τ) (some (.int o_.1), (g, o_.2)) := 
  xMet_of (by decide) (Nat.le_of_ble_eq_true rfl) KC_moved RPC_of (fun K _ _ _ => ok_f_c_X0_refuses hf (fun _ h => by rw [h]))
abbrev mX0_put : xM := (cX0_put, 3, RX0, 0, 0, none, "put")
def Bc_X0_put_3 (g : CG) (x0 : Nat) (x1 : Int32) (x2 : Int32) (τ : CC) : Option ((Int32 × CC) ⊕ ((CC))) :=
  if x2 < 0 then
  some (.inr τ)
  else
  if gT g x0 = 1 then
  (gR g 101 x0).bind fun b2 =>
  if gT g b2 = 103 then
  if xin (cI τ 102 x0) (gN g b2) = true then
  some (.inl (x2 + (-8), uA (uI τ 102 x0 ((cI τ 102 x0) + 1)) b2 (cI τ 102 x0).toNatClampNeg ((((x1 : Int32) >>> (x2 &&& 31)).toInt8.toInt32).toInt8.toInt32)))
  else none
  else none
  else none
theorem ok_Bc_X0_put_3 {D : CD} {P : CP} {K : xK} {g : CG} {Z : Option Value × CS} {x0 : Nat} {x1 : Int32} {x2 : Int32} {τ : CC} {o_ : ((Int32 × CC) ⊕ ((CC)))} (hf : Bc_X0_put_3 g x0 x1 x2 τ = some o_) (kc : ∀ s_ : Int32 × CC, o_ = .inl s_ → xV (wC D P) K mX0_put (xQ (wC D P) K Z) (g, s_.2) 3 [(0, .ref x0), (1, .int x1), (2, .int s_.1)] []) (ke0 : ∀ e_ : CC, o_ = .inr e_ → xV (wC D P) K mX0_put (xQ (wC D P) K Z) (g, e_) 33 [] []) : xV (wC D P) K mX0_put (xQ (wC D P) K Z) (g, τ) 3 [(0, .ref x0), (1, .int x1), (2, .int x2)] [] := by
  unfold Bc_X0_put_3 at hf
  refine xr_iload_n (pc := 3) 2 dX0_put_3 rfl rfl ?_
  refine xr_if_lt (pc := 4) 33 dX0_put_4 (by decide) (fun c_ => ?_) (fun c_ => ?_)
  · have hf := xo_pos c_ hf
    refine xV_sub [] rfl ?_
    exact ke0 _ (Option.some.inj hf).symm
  · have hf := xo_neg c_ hf
    refine xr_aload_n (pc := 7) 0 dX0_put_7 rfl rfl ?_
    obtain ⟨ht1, hf⟩ := xo_if hf
    obtain ⟨b2, hb2, hf⟩ := xo_bind hf
    refine yc_getFs (pc := 8) 1 1 101 (gKo ht1 (by decide)) (by decide) (by decide) (by decide) rfl rfl hb2 q486 (ys_eq rfl) rfl dX0_put_8 ?_
    refine xr_aload_n (pc := 11) 0 dX0_put_11 rfl rfl ?_
    refine xr_dup (pc := 12) dX0_put_12 rfl ?_
    refine yc_getI (pc := 13) 1 2 102 (gKo ht1 (by decide)) (by decide) (by decide) (by decide) rfl rfl q487 (ys_eq rfl) rfl dX0_put_13 ?_
    refine xr_dup_x1 (pc := 16) dX0_put_16 rfl rfl ?_
    refine xr_iconst (pc := 17) dX0_put_17 xci_1 ?_
    refine xr_iadd (pc := 18) dX0_put_18 ?_
    refine yc_putI (pc := 19) 1 2 102 ht1 (by decide) (by decide) (by decide) rfl rfl rfl (ty := .int) (by decide +kernel) rfl rfl q487 (ys_eq rfl) rfl dX0_put_19 ?_
    refine xr_iload_n (pc := 22) 1 dX0_put_22 rfl rfl ?_
    refine xr_iload_n (pc := 23) 2 dX0_put_23 rfl rfl ?_
    refine xr_ishr (pc := 24) dX0_put_24 ?_
    refine xr_i2b (pc := 25) dX0_put_25 ?_
    obtain ⟨ht3, hf⟩ := xo_if hf
    obtain ⟨hi_, hf⟩ := xo_if hf
    refine yc_bast (pc := 26) ht3 hi_ dX0_put_26 ?_
    refine xr_iinc (pc := 27) (loc' := [(2, .int (x2 + (-8))), (0, .ref x0), (1, .int x1)]) 2 dX0_put_27 rfl xci_m8 (by decide) rfl ?_
    refine xr_goto (pc := 30) 3 dX0_put_30 (by decide) ?_
    refine xV_sub [1, 2, 0] rfl ?_
    exact kc _ (Option.some.inj hf).symm
def f_c_X0_put (g : CG) (x0 : Nat) (x1 : Int32) (τ : CC) : Option CC :=
  (itr (fun s_ : Int32 × CC => Bc_X0_put_3 g x0 x1 s_.1 s_.2) 4096 (24, τ)).bind fun b4 =>
  some (b4)
theorem ok_f_c_X0_put {D : CD} {P : CP} {K : xK} {g : CG} {Z : Option Value × CS} {x0 : Nat} {x1 : Int32} {τ : CC} {o_ : CC} (hf : f_c_X0_put g x0 x1 τ = some o_) (kr : ∀ r_ : CC, o_ = r_ → Z = (none, (g, r_))) : xV (wC D P) K mX0_put (xQ (wC D P) K Z) (g, τ) 0 [(0, .ref x0), (1, .int x1)] [] := by
  unfold f_c_X0_put at hf
  refine xr_bipush (pc := 0) dX0_put_0 xcb_24 ?_
  refine xr_istore_n (pc := 2) (loc' := [(2, .int 24), (0, .ref x0), (1, .int x1)]) dX0_put_2 rfl (by decide) rfl ?_
  refine xV_sub [1, 2, 0] rfl ?_
  obtain ⟨b4, hb4, hf⟩ := xo_bind hf
  refine itr_rule (P := fun s_ : Int32 × CC => xV (wC D P) K mX0_put (xQ (wC D P) K Z) (g, s_.2) 3 [(0, .ref x0), (1, .int x1), (2, .int s_.1)] []) (fun s_ o_ hB_ hc_ he_ => ok_Bc_X0_put_3 hB_ hc_ (fun e_ h_ => ?_)) 4096 _ hb4
  · have e9_ := he_ _ h_
    rw [e9_]
    rw [kr _ (Option.some.inj hf).symm]
    exact xr_vret (pc := 33) dX0_put_33 rfl
theorem met_f_c_X0_put (l : Launch) {D : CD} {P : CP} {g : CG} {x0 : Nat} {x1 : Int32} {τ : CC} {o_ : CC} (hf : f_c_X0_put g x0 x1 τ = some o_) : xMet (wC D P) l yX0_put (ws_ yX0_put cX0_put 3 none) 0 0 (grc g) (grs g) [.ref x0, .int x1] (g, τ) (none, (g, o_)) := 
  xMet_of (by decide) (Nat.le_of_ble_eq_true rfl) KC_moved RPC_of (fun K _ _ _ => ok_f_c_X0_put hf (fun _ h => by rw [h]))
theorem hd_f_c_X0_put : yX0_put.cls ≠ "java/lang/invoke/MethodHandle" ∧ yX0_put.cls ≠ "java/lang/invoke/VarHandle" ∧ (parseMethodDescriptor yX0_put.desc).map (fun d => d.parameters.length) = some 1 := by decide +kernel
theorem call_f_c_X0_put_X0_122 {D : CD} {P : CP} {K : xK} {M : xM} {Q : State → Prop} {g : CG} {c : CC} {x0 : Nat} {x1 : Int32} {pc : Nat} {loc : List (Nat × Value)} {st : List Value} {c1 : CC} (hf : f_c_X0_put g x0 x1 c = some c1) (hr : gK g x0 = 1) (ho : M.2.2.1 = RX0) (hfr : 1 ≤ M.2.2.2.1) (hlo : 22 ≤ M.2.2.2.2.1) (hcat : (st.map fun v => v.category).sum ≤ 8) (d : decode M.1 pc = .ok (.invokevirtual 122, 3)) (k : xV (wC D P) K M Q (g, c1) (pc + 3) loc st) : xV (wC D P) K M Q (g, c) pc loc (.int x1 :: .ref x0 :: st) :=
  yc_callV (As := [.int x1]) (rest := st) (met_f_c_X0_put K.2.1 hf) (lw_V q570 q572 qs2 q174 q573) ⟨rfl, hd_f_c_X0_put⟩ ho hfr hlo rfl hr (by decide) (by decide) rfl rfl hcat d k
theorem hd_f_c_X0_refuses : yX0_refuses.cls ≠ "java/lang/invoke/MethodHandle" ∧ yX0_refuses.cls ≠ "java/lang/invoke/VarHandle" ∧ (parseMethodDescriptor yX0_refuses.desc).map (fun d => d.parameters.length) = some 1 := by decide +kernel
theorem call_f_c_X0_refuses_X0_118 {D : CD} {P : CP} {K : xK} {M : xM} {Q : State → Prop} {g : CG} {c : CC} {x0 : Nat} {x1 : Int32} {pc : Nat} {loc : List (Nat × Value)} {st : List Value} {r : Int32} {c1 : CC} (hf : f_c_X0_refuses g x0 x1 c = some (r, c1)) (hr : gK g x0 = 1) (ho : M.2.2.1 = RX0) (hfr : 1 ≤ M.2.2.2.1) (hlo : 21 ≤ M.2.2.2.2.1) (hcat : (st.map fun v => v.category).sum ≤ 8) (d : decode M.1 pc = .ok (.invokevirtual 118, 3)) (k : xV (wC D P) K M Q (g, c1) (pc + 3) loc (.int r :: st)) : xV (wC D P) K M Q (g, c) pc loc (.int x1 :: .ref x0 :: st) :=
  yc_callV (As := [.int x1]) (rest := st) (met_f_c_X0_refuses K.2.1 hf) (lw_V q566 q568 qs1 q174 q569) ⟨rfl, hd_f_c_X0_refuses⟩ ho hfr hlo rfl hr (by decide) (by decide) rfl rfl hcat d k
abbrev mX0_feed : xM := (cX0_feed, 6, RX0, 1, 60, (some .int), "feed")
def f_c_X0_feed (g : CG) (x0 : Nat) (x1 : Int32) (x2 : Int32) (x3 : Int32) (x4 : Int32) (x5 : Int32) (τ : CC) : Option (Int32 × CC) :=
  if gT g x0 = 1 then
  if ((cI τ 102 x0) + 20) ≤ 1600 then
  (f_c_X0_put g x0 x1 τ).bind fun τ2 =>
  (f_c_X0_put g x0 x2 τ2).bind fun τ3 =>
  (f_c_X0_put g x0 x3 τ3).bind fun τ4 =>
  (f_c_X0_put g x0 x4 τ4).bind fun τ5 =>
  (f_c_X0_put g x0 x5 τ5).bind fun τ6 =>
  some ((cI τ6 102 x0, τ6))
  else
  xbd (f_c_X0_refuses g x0 0 τ) fun r7 τ7 =>
  some ((r7, τ7))
  else none
theorem ok_f_c_X0_feed {D : CD} {P : CP} {K : xK} {g : CG} {Z : Option Value × CS} {x0 : Nat} {x1 : Int32} {x2 : Int32} {x3 : Int32} {x4 : Int32} {x5 : Int32} {τ : CC} {o_ : (Int32 × CC)} (hf : f_c_X0_feed g x0 x1 x2 x3 x4 x5 τ = some o_) (kr : ∀ r_ : (Int32 × CC), o_ = r_ → Z = (some (.int r_.1), (g, r_.2))) : xV (wC D P) K mX0_feed (xQ (wC D P) K Z) (g, τ) 0 [(0, .ref x0), (1, .int x1), (2, .int x2), (3, .int x3), (4, .int x4), (5, .int x5)] [] := by
  unfold f_c_X0_feed at hf
  refine xr_aload_n (pc := 0) 0 dX0_feed_0 rfl rfl ?_
  obtain ⟨ht1, hf⟩ := xo_if hf
  refine yc_getI (pc := 1) 1 2 102 (gKo ht1 (by decide)) (by decide) (by decide) (by decide) rfl rfl q487 (ys_eq rfl) rfl dX0_feed_1 ?_
  refine xr_bipush (pc := 4) dX0_feed_4 xcb_20 ?_
  refine xr_iadd (pc := 6) dX0_feed_6 ?_
  refine xr_sipush (pc := 7) dX0_feed_7 xcs_1600 ?_
  refine xr_icmp_le (pc := 10) 19 dX0_feed_10 (by decide) (fun c_ => ?_) (fun c_ => ?_)
  · have hf := xo_pos c_ hf
    refine xr_aload_n (pc := 19) 0 dX0_feed_19 rfl rfl ?_
    refine xr_iload_n (pc := 20) 1 dX0_feed_20 rfl rfl ?_
    obtain ⟨τ2, hτ2, hf⟩ := xo_bind hf
    refine call_f_c_X0_put_X0_122 (pc := 21) hτ2 (gKo ht1 (by decide)) rfl (Nat.le_of_ble_eq_true rfl) (Nat.le_of_ble_eq_true rfl) (Nat.le_of_ble_eq_true rfl) dX0_feed_21 ?_
    refine xr_aload_n (pc := 24) 0 dX0_feed_24 rfl rfl ?_
    refine xr_iload_n (pc := 25) 2 dX0_feed_25 rfl rfl ?_
    obtain ⟨τ3, hτ3, hf⟩ := xo_bind hf
    refine call_f_c_X0_put_X0_122 (pc := 26) hτ3 (gKo ht1 (by decide)) rfl (Nat.le_of_ble_eq_true rfl) (Nat.le_of_ble_eq_true rfl) (Nat.le_of_ble_eq_true rfl) dX0_feed_26 ?_
    refine xr_aload_n (pc := 29) 0 dX0_feed_29 rfl rfl ?_
    refine xr_iload_n (pc := 30) 3 dX0_feed_30 rfl rfl ?_
    obtain ⟨τ4, hτ4, hf⟩ := xo_bind hf
    refine call_f_c_X0_put_X0_122 (pc := 31) hτ4 (gKo ht1 (by decide)) rfl (Nat.le_of_ble_eq_true rfl) (Nat.le_of_ble_eq_true rfl) (Nat.le_of_ble_eq_true rfl) dX0_feed_31 ?_
    refine xr_aload_n (pc := 34) 0 dX0_feed_34 rfl rfl ?_
    refine xr_iload (pc := 35) 4 dX0_feed_35 rfl ?_
    obtain ⟨τ5, hτ5, hf⟩ := xo_bind hf
    refine call_f_c_X0_put_X0_122 (pc := 37) hτ5 (gKo ht1 (by decide)) rfl (Nat.le_of_ble_eq_true rfl) (Nat.le_of_ble_eq_true rfl) (Nat.le_of_ble_eq_true rfl) dX0_feed_37 ?_
    refine xr_aload_n (pc := 40) 0 dX0_feed_40 rfl rfl ?_
    refine xr_iload (pc := 41) 5 dX0_feed_41 rfl ?_
    obtain ⟨τ6, hτ6, hf⟩ := xo_bind hf
    refine call_f_c_X0_put_X0_122 (pc := 43) hτ6 (gKo ht1 (by decide)) rfl (Nat.le_of_ble_eq_true rfl) (Nat.le_of_ble_eq_true rfl) (Nat.le_of_ble_eq_true rfl) dX0_feed_43 ?_
    refine xr_aload_n (pc := 46) 0 dX0_feed_46 rfl rfl ?_
    refine yc_getI (pc := 47) 1 2 102 (gKo ht1 (by decide)) (by decide) (by decide) (by decide) rfl rfl q487 (ys_eq rfl) rfl dX0_feed_47 ?_
    rw [kr _ (Option.some.inj hf).symm]
    exact xr_iret (pc := 50) dX0_feed_50 rfl
  · have hf := xo_neg c_ hf
    refine xr_aload_n (pc := 13) 0 dX0_feed_13 rfl rfl ?_
    refine xr_iconst (pc := 14) dX0_feed_14 xci_0 ?_
    obtain ⟨r7, τ7, hτ7, hf⟩ := xo_bd hf
    refine call_f_c_X0_refuses_X0_118 (pc := 15) hτ7 (gKo ht1 (by decide)) rfl (Nat.le_of_ble_eq_true rfl) (Nat.le_of_ble_eq_true rfl) (Nat.le_of_ble_eq_true rfl) dX0_feed_15 ?_
    rw [kr _ (Option.some.inj hf).symm]
    exact xr_iret (pc := 18) dX0_feed_18 rfl
theorem met_f_c_X0_feed (l : Launch) {D : CD} {P : CP} {g : CG} {x0 : Nat} {x1 : Int32} {x2 : Int32} {x3 : Int32} {x4 : Int32} {x5 : Int32} {τ : CC} {o_ : (Int32 × CC)} (hf : f_c_X0_feed g x0 x1 x2 x3 x4 x5 τ = some o_) : xMet (wC D P) l yX0_feed (ws_ yX0_feed cX0_feed 6 (some .int)) 1 60 (grc g) (grs g) [.ref x0, .int x1, .int x2, .int x3, .int x4, .int x5] (g, τ) (some (.int o_.1), (g, o_.2)) := 
  xMet_of (by decide) (Nat.le_of_ble_eq_true rfl) KC_moved RPC_of (fun K _ _ _ => ok_f_c_X0_feed hf (fun _ h => by rw [h]))
abbrev mX0_end : xM := (cX0_end, 2, RX0, 1, 60, (some .boolean), "end")
def Jc_X0_end_12 (g : CG) (x0 : Nat) (τ : CC) : Option (Int32 × CC) :=
  if gT g x0 = 1 then
  xbd (f_c_X0_refuses g x0 0 τ) fun r2 τ2 =>
  if r2 < 0 then
  some ((0, τ2))
  else
  some ((1, τ2))
  else none
theorem ok_Jc_X0_end_12 {D : CD} {P : CP} {K : xK} {g : CG} {Z : Option Value × CS} {x0 : Nat} {τ : CC} {o_ : (Int32 × CC)} (hf : Jc_X0_end_12 g x0 τ = some o_) (kr : ∀ r_ : (Int32 × CC), o_ = r_ → Z = (some (.int r_.1), (g, r_.2))) : xV (wC D P) K mX0_end (xQ (wC D P) K Z) (g, τ) 12 [(0, .ref x0)] [] := by
  unfold Jc_X0_end_12 at hf
  refine xr_aload_n (pc := 12) 0 dX0_end_12 rfl rfl ?_
  refine xr_iconst (pc := 13) dX0_end_13 xci_0 ?_
  obtain ⟨ht1, hf⟩ := xo_if hf
  obtain ⟨r2, τ2, hτ2, hf⟩ := xo_bd hf
  refine call_f_c_X0_refuses_X0_118 (pc := 14) hτ2 (gKo ht1 (by decide)) rfl (Nat.le_of_ble_eq_true rfl) (Nat.le_of_ble_eq_true rfl) (Nat.le_of_ble_eq_true rfl) dX0_end_14 ?_
  refine xr_if_lt (pc := 17) 24 dX0_end_17 (by decide) (fun c_ => ?_) (fun c_ => ?_)
  · have hf := xo_pos c_ hf
    refine xr_iconst (pc := 24) dX0_end_24 xci_0 ?_
    rw [kr _ (Option.some.inj hf).symm]
    exact xr_zret (pc := 25) dX0_end_25 rfl xz_0
  · have hf := xo_neg c_ hf
    refine xr_iconst (pc := 20) dX0_end_20 xci_1 ?_
    refine xr_goto (pc := 21) 25 dX0_end_21 (by decide) ?_
    rw [kr _ (Option.some.inj hf).symm]
    exact xr_zret (pc := 25) dX0_end_25 rfl xz_1
def f_c_X0_end (g : CG) (x0 : Nat) (x1 : Int32) (τ : CC) : Option (Int32 × CC) :=
  if x1 < 0 then
  Jc_X0_end_12 g x0 τ
  else
  if gT g x0 = 1 then
  if x1 ≤ (cI τ 102 x0) then
  some ((1, uI τ 102 x0 x1))
  else
  Jc_X0_end_12 g x0 τ
  else none
theorem ok_f_c_X0_end {D : CD} {P : CP} {K : xK} {g : CG} {Z : Option Value × CS} {x0 : Nat} {x1 : Int32} {τ : CC} {o_ : (Int32 × CC)} (hf : f_c_X0_end g x0 x1 τ = some o_) (kr : ∀ r_ : (Int32 × CC), o_ = r_ → Z = (some (.int r_.1), (g, r_.2))) : xV (wC D P) K mX0_end (xQ (wC D P) K Z) (g, τ) 0 [(0, .ref x0), (1, .int x1)] [] := by
  unfold f_c_X0_end at hf
  refine xr_iload_n (pc := 0) 1 dX0_end_0 rfl rfl ?_
  refine xr_if_lt (pc := 1) 12 dX0_end_1 (by decide) (fun c_ => ?_) (fun c_ => ?_)
  · have hf := xo_pos c_ hf
    refine xV_sub [0] rfl ?_
    exact ok_Jc_X0_end_12 hf kr
  · have hf := xo_neg c_ hf
    refine xr_iload_n (pc := 4) 1 dX0_end_4 rfl rfl ?_
    refine xr_aload_n (pc := 5) 0 dX0_end_5 rfl rfl ?_
    obtain ⟨ht3, hf⟩ := xo_if hf
    refine yc_getI (pc := 6) 1 2 102 (gKo ht3 (by decide)) (by decide) (by decide) (by decide) rfl rfl q487 (ys_eq rfl) rfl dX0_end_6 ?_
    refine xr_icmp_le (pc := 9) 26 dX0_end_9 (by decide) (fun c_ => ?_) (fun c_ => ?_)
    · have hf := xo_pos c_ hf
      refine xr_aload_n (pc := 26) 0 dX0_end_26 rfl rfl ?_
      refine xr_iload_n (pc := 27) 1 dX0_end_27 rfl rfl ?_
      refine yc_putI (pc := 28) 1 2 102 ht3 (by decide) (by decide) (by decide) rfl rfl rfl (ty := .int) (by decide +kernel) rfl rfl q487 (ys_eq rfl) rfl dX0_end_28 ?_
      refine xr_iconst (pc := 31) dX0_end_31 xci_1 ?_
      rw [kr _ (Option.some.inj hf).symm]
      exact xr_zret (pc := 32) dX0_end_32 rfl xz_1
    · have hf := xo_neg c_ hf
      refine xV_sub [0] rfl ?_
      exact ok_Jc_X0_end_12 hf kr
theorem met_f_c_X0_end (l : Launch) {D : CD} {P : CP} {g : CG} {x0 : Nat} {x1 : Int32} {τ : CC} {o_ : (Int32 × CC)} (hf : f_c_X0_end g x0 x1 τ = some o_) : xMet (wC D P) l yX0_end (ws_ yX0_end cX0_end 2 (some .boolean)) 1 60 (grc g) (grs g) [.ref x0, .int x1] (g, τ) (some (.int o_.1), (g, o_.2)) := 
  xMet_of (by decide) (Nat.le_of_ble_eq_true rfl) KC_moved RPC_of (fun K _ _ _ => ok_f_c_X0_end hf (fun _ h => by rw [h]))
abbrev mX0_taken : xM := (cX0_taken, 2, RX0, 0, 0, (some .int), "taken")
def f_c_X0_taken (g : CG) (x0 : Nat) (τ : CC) : Option (Int32 × CC) :=
  if gT g x0 = 1 then
  some ((cI τ 102 x0, uI τ 102 x0 0))
  else none
theorem ok_f_c_X0_taken {D : CD} {P : CP} {K : xK} {g : CG} {Z : Option Value × CS} {x0 : Nat} {τ : CC} {o_ : (Int32 × CC)} (hf : f_c_X0_taken g x0 τ = some o_) (kr : ∀ r_ : (Int32 × CC), o_ = r_ → Z = (some (.int r_.1), (g, r_.2))) : xV (wC D P) K mX0_taken (xQ (wC D P) K Z) (g, τ) 0 [(0, .ref x0)] [] := by
  unfold f_c_X0_taken at hf
  refine xr_aload_n (pc := 0) 0 dX0_taken_0 rfl rfl ?_
  obtain ⟨ht1, hf⟩ := xo_if hf
  refine yc_getI (pc := 1) 1 2 102 (gKo ht1 (by decide)) (by decide) (by decide) (by decide) rfl rfl q487 (ys_eq rfl) rfl dX0_taken_1 ?_
  refine xr_istore_n (pc := 4) (loc' := [(1, .int (cI τ 102 x0)), (0, .ref x0)]) dX0_taken_4 rfl (by decide) rfl ?_
  refine xr_aload_n (pc := 5) 1 dX0_taken_5 rfl rfl ?_
  refine xr_iconst (pc := 6) dX0_taken_6 xci_0 ?_
  refine yc_putI (pc := 7) 1 2 102 ht1 (by decide) (by decide) (by decide) rfl rfl rfl (ty := .int) (by decide +kernel) rfl rfl q487 (ys_eq rfl) rfl dX0_taken_7 ?_
  refine xr_iload_n (pc := 10) 0 dX0_taken_10 rfl rfl ?_
  rw [kr _ (Option.some.inj hf).symm]
  exact xr_iret (pc := 11) dX0_taken_11 rfl
theorem met_f_c_X0_taken (l : Launch) {D : CD} {P : CP} {g : CG} {x0 : Nat} {τ : CC} {o_ : (Int32 × CC)} (hf : f_c_X0_taken g x0 τ = some o_) : xMet (wC D P) l yX0_taken (ws_ yX0_taken cX0_taken 2 (some .int)) 0 0 (grc g) (grs g) [.ref x0] (g, τ) (some (.int o_.1), (g, o_.2)) := 
  xMet_of (by decide) (Nat.le_of_ble_eq_true rfl) KC_moved RPC_of (fun K _ _ _ => ok_f_c_X0_taken hf (fun _ h => by rw [h]))
abbrev mX0_fault : xM := (cX0_fault, 2, RX0, 0, 0, (some .int), "fault")
def f_c_X0_fault (g : CG) (x0 : Nat) (x1 : Int32) (τ : CC) : Option (Int32 × CC) :=
  if x1 = 0 then
  if gT g x0 = 1 then
  some ((cI τ 103 x0, τ))
  else none
  else
  if x1 = 1 then
  if gT g x0 = 1 then
  some ((cI τ 104 x0, τ))
  else none
  else
  some (((-1), τ))
theorem ok_f_c_X0_fault {D : CD} {P : CP} {K : xK} {g : CG} {Z : Option Value × CS} {x0 : Nat} {x1 : Int32} {τ : CC} {o_ : (Int32 × CC)} (hf : f_c_X0_fault g x0 x1 τ = some o_) (kr : ∀ r_ : (Int32 × CC), o_ = r_ → Z = (some (.int r_.1), (g, r_.2))) : xV (wC D P) K mX0_fault (xQ (wC D P) K Z) (g, τ) 0 [(0, .ref x0), (1, .int x1)] [] := by
  unfold f_c_X0_fault at hf
  refine xr_iload_n (pc := 0) 1 dX0_fault_0 rfl rfl ?_
  refine xr_if_ne (pc := 1) 11 dX0_fault_1 (by decide) (fun c_ => ?_) (fun c_ => ?_)
  · have hf := xo_pos c_ hf
    refine xr_aload_n (pc := 4) 0 dX0_fault_4 rfl rfl ?_
    obtain ⟨ht1, hf⟩ := xo_if hf
    refine yc_getI (pc := 5) 1 3 103 (gKo ht1 (by decide)) (by decide) (by decide) (by decide) rfl rfl q488 (ys_eq rfl) rfl dX0_fault_5 ?_
    refine xr_goto (pc := 8) 24 dX0_fault_8 (by decide) ?_
    rw [kr _ (Option.some.inj hf).symm]
    exact xr_iret (pc := 24) dX0_fault_24 rfl
  · have hf := xo_neg c_ hf
    refine xr_iload_n (pc := 11) 1 dX0_fault_11 rfl rfl ?_
    refine xr_iconst (pc := 12) dX0_fault_12 xci_1 ?_
    refine xr_icmp_ne (pc := 13) 23 dX0_fault_13 (by decide) (fun c_ => ?_) (fun c_ => ?_)
    · have hf := xo_pos c_ hf
      refine xr_aload_n (pc := 16) 0 dX0_fault_16 rfl rfl ?_
      obtain ⟨ht2, hf⟩ := xo_if hf
      refine yc_getI (pc := 17) 1 4 104 (gKo ht2 (by decide)) (by decide) (by decide) (by decide) rfl rfl q489 (ys_eq rfl) rfl dX0_fault_17 ?_
      refine xr_goto (pc := 20) 24 dX0_fault_20 (by decide) ?_
      rw [kr _ (Option.some.inj hf).symm]
      exact xr_iret (pc := 24) dX0_fault_24 rfl
    · have hf := xo_neg c_ hf
      refine xr_iconst (pc := 23) dX0_fault_23 xci_m1 ?_
      rw [kr _ (Option.some.inj hf).symm]
      exact xr_iret (pc := 24) dX0_fault_24 rfl
theorem met_f_c_X0_fault (l : Launch) {D : CD} {P : CP} {g : CG} {x0 : Nat} {x1 : Int32} {τ : CC} {o_ : (Int32 × CC)} (hf : f_c_X0_fault g x0 x1 τ = some o_) : xMet (wC D P) l yX0_fault (ws_ yX0_fault cX0_fault 2 (some .int)) 0 0 (grc g) (grs g) [.ref x0, .int x1] (g, τ) (some (.int o_.1), (g, o_.2)) := 
  xMet_of (by decide) (Nat.le_of_ble_eq_true rfl) KC_moved RPC_of (fun K _ _ _ => ok_f_c_X0_fault hf (fun _ h => by rw [h]))
abbrev mX0_isValley : xM := (cX0_isValley, 1, RX0, 0, 0, (some .boolean), "isValley")
def f_c_X0_isValley (g : CG) (x0 : Nat) (τ : CC) : Option (Int32 × CC) :=
  if gT g x0 = 1 then
  (cR τ 100 x0).bind fun b2 =>
  if gT g b2 = 2 then
  if (cI τ 201 b2) ≤ 0 then
  some ((0, τ))
  else
  some ((1, τ))
  else none
  else none
theorem ok_f_c_X0_isValley {D : CD} {P : CP} {K : xK} {g : CG} {Z : Option Value × CS} {x0 : Nat} {τ : CC} {o_ : (Int32 × CC)} (hf : f_c_X0_isValley g x0 τ = some o_) (kr : ∀ r_ : (Int32 × CC), o_ = r_ → Z = (some (.int r_.1), (g, r_.2))) : xV (wC D P) K mX0_isValley (xQ (wC D P) K Z) (g, τ) 0 [(0, .ref x0)] [] := by
  unfold f_c_X0_isValley at hf
  refine xr_aload_n (pc := 0) 0 dX0_isValley_0 rfl rfl ?_
  obtain ⟨ht1, hf⟩ := xo_if hf
  obtain ⟨b2, hb2, hf⟩ := xo_bind hf
  refine yc_getRs (pc := 1) 1 0 100 (gKo ht1 (by decide)) (by decide) (by decide) (by decide) rfl rfl hb2 q484 (ys_eq rfl) rfl dX0_isValley_1 ?_
  obtain ⟨ht3, hf⟩ := xo_if hf
  refine yc_getIN (pc := 4) 2 1 201 (gKo ht3 (by decide)) (by decide) (by decide) (by decide) rfl rfl q260 (ys_eq rfl) rfl dX0_isValley_4 ?_
  refine xr_if_le (pc := 7) 14 dX0_isValley_7 (by decide) (fun c_ => ?_) (fun c_ => ?_)
  · have hf := xo_pos c_ hf
    refine xr_iconst (pc := 14) dX0_isValley_14 xci_0 ?_
    rw [kr _ (Option.some.inj hf).symm]
    exact xr_zret (pc := 15) dX0_isValley_15 rfl xz_0
  · have hf := xo_neg c_ hf
    refine xr_iconst (pc := 10) dX0_isValley_10 xci_1 ?_
    refine xr_goto (pc := 11) 15 dX0_isValley_11 (by decide) ?_
    rw [kr _ (Option.some.inj hf).symm]
    exact xr_zret (pc := 15) dX0_isValley_15 rfl xz_1
theorem met_f_c_X0_isValley (l : Launch) {D : CD} {P : CP} {g : CG} {x0 : Nat} {τ : CC} {o_ : (Int32 × CC)} (hf : f_c_X0_isValley g x0 τ = some o_) : xMet (wC D P) l yX0_isValley (ws_ yX0_isValley cX0_isValley 1 (some .boolean)) 0 0 (grc g) (grs g) [.ref x0] (g, τ) (some (.int o_.1), (g, o_.2)) := 
  xMet_of (by decide) (Nat.le_of_ble_eq_true rfl) KC_moved RPC_of (fun K _ _ _ => ok_f_c_X0_isValley hf (fun _ h => by rw [h]))
abbrev mX0_columns : xM := (cX0_columns, 1, RX0, 0, 0, (some .int), "columns")
def f_c_X0_columns (g : CG) (x0 : Nat) (τ : CC) : Option (Int32 × CC) :=
  if gT g x0 = 1 then
  (cR τ 100 x0).bind fun b2 =>
  if gT g b2 = 2 then
  some ((cI τ 201 b2, τ))
  else none
  else none
theorem ok_f_c_X0_columns {D : CD} {P : CP} {K : xK} {g : CG} {Z : Option Value × CS} {x0 : Nat} {τ : CC} {o_ : (Int32 × CC)} (hf : f_c_X0_columns g x0 τ = some o_) (kr : ∀ r_ : (Int32 × CC), o_ = r_ → Z = (some (.int r_.1), (g, r_.2))) : xV (wC D P) K mX0_columns (xQ (wC D P) K Z) (g, τ) 0 [(0, .ref x0)] [] := by
  unfold f_c_X0_columns at hf
  refine xr_aload_n (pc := 0) 0 dX0_columns_0 rfl rfl ?_
  obtain ⟨ht1, hf⟩ := xo_if hf
  obtain ⟨b2, hb2, hf⟩ := xo_bind hf
  refine yc_getRs (pc := 1) 1 0 100 (gKo ht1 (by decide)) (by decide) (by decide) (by decide) rfl rfl hb2 q484 (ys_eq rfl) rfl dX0_columns_1 ?_
  obtain ⟨ht3, hf⟩ := xo_if hf
  refine yc_getIN (pc := 4) 2 1 201 (gKo ht3 (by decide)) (by decide) (by decide) (by decide) rfl rfl q260 (ys_eq rfl) rfl dX0_columns_4 ?_
  rw [kr _ (Option.some.inj hf).symm]
  exact xr_iret (pc := 7) dX0_columns_7 rfl
theorem met_f_c_X0_columns (l : Launch) {D : CD} {P : CP} {g : CG} {x0 : Nat} {τ : CC} {o_ : (Int32 × CC)} (hf : f_c_X0_columns g x0 τ = some o_) : xMet (wC D P) l yX0_columns (ws_ yX0_columns cX0_columns 1 (some .int)) 0 0 (grc g) (grs g) [.ref x0] (g, τ) (some (.int o_.1), (g, o_.2)) := 
  xMet_of (by decide) (Nat.le_of_ble_eq_true rfl) KC_moved RPC_of (fun K _ _ _ => ok_f_c_X0_columns hf (fun _ h => by rw [h]))
abbrev mJ2_size : xM := (cJ2_size, 1, RJ2, 0, 0, (some .int), "size")
def f_c_J2_size (g : CG) (x0 : Nat) (τ : CC) : Option (Int32 × CC) :=
  if gT g x0 = 18 then
  some ((cI τ 1802 x0, τ))
  else none
theorem ok_f_c_J2_size {D : CD} {P : CP} {K : xK} {g : CG} {Z : Option Value × CS} {x0 : Nat} {τ : CC} {o_ : (Int32 × CC)} (hf : f_c_J2_size g x0 τ = some o_) (kr : ∀ r_ : (Int32 × CC), o_ = r_ → Z = (some (.int r_.1), (g, r_.2))) : xV (wC D P) K mJ2_size (xQ (wC D P) K Z) (g, τ) 0 [(0, .ref x0)] [] := by
  unfold f_c_J2_size at hf
  refine xr_aload_n (pc := 0) 0 dJ2_size_0 rfl rfl ?_
  obtain ⟨ht1, hf⟩ := xo_if hf
  refine yc_getI (pc := 1) 18 2 1802 (gKo ht1 (by decide)) (by decide) (by decide) (by decide) rfl rfl q245 (ys_eq rfl) rfl dJ2_size_1 ?_
  rw [kr _ (Option.some.inj hf).symm]
  exact xr_iret (pc := 4) dJ2_size_4 rfl
theorem met_f_c_J2_size (l : Launch) {D : CD} {P : CP} {g : CG} {x0 : Nat} {τ : CC} {o_ : (Int32 × CC)} (hf : f_c_J2_size g x0 τ = some o_) : xMet (wC D P) l yJ2_size (ws_ yJ2_size cJ2_size 1 (some .int)) 0 0 (grc g) (grs g) [.ref x0] (g, τ) (some (.int o_.1), (g, o_.2)) := 
  xMet_of (by decide) (Nat.le_of_ble_eq_true rfl) KC_moved RPC_of (fun K _ _ _ => ok_f_c_J2_size hf (fun _ h => by rw [h]))
theorem hd_f_c_J2_size : yJ2_size.cls ≠ "java/lang/invoke/MethodHandle" ∧ yJ2_size.cls ≠ "java/lang/invoke/VarHandle" ∧ (parseMethodDescriptor yJ2_size.desc).map (fun d => d.parameters.length) = some 0 := by decide +kernel
theorem call_f_c_J2_size_X0_164 {D : CD} {P : CP} {K : xK} {M : xM} {Q : State → Prop} {g : CG} {c : CC} {x0 : Nat} {pc : Nat} {loc : List (Nat × Value)} {st : List Value} {r : Int32} {c1 : CC} (hf : f_c_J2_size g x0 c = some (r, c1)) (hr : gK g x0 = 18) (ho : M.2.2.1 = RX0) (hfr : 1 ≤ M.2.2.2.1) (hlo : 20 ≤ M.2.2.2.2.1) (hcat : (st.map fun v => v.category).sum ≤ 8) (d : decode M.1 pc = .ok (.invokeinterface 164 1, 5)) (k : xV (wC D P) K M Q (g, c1) (pc + 5) loc (.int r :: st)) : xV (wC D P) K M Q (g, c) pc loc (.ref x0 :: st) :=
  yc_callF (n := 0) (As := []) (rest := st) (z := yList_size) (met_f_c_J2_size K.2.1 hf) (lw_2 q1252 q804 (lw_2 q806 q178 (lw_meth q808))) (fun s h => h.2.2.2.2.2.1.1) (by decide +kernel) ho hfr hlo rfl hr rfl hcat d k
abbrev mX0_lords : xM := (cX0_lords, 1, RX0, 1, 60, (some .int), "lords")
def f_c_X0_lords (g : CG) (x0 : Nat) (τ : CC) : Option (Int32 × CC) :=
  if gT g x0 = 1 then
  (cR τ 100 x0).bind fun b2 =>
  if gT g b2 = 2 then
  (gR g 208 b2).bind fun b4 =>
  if gT g b4 = 18 then
  xbd (f_c_J2_size g b4 τ) fun r6 τ6 =>
  some ((r6, τ6))
  else none
  else none
  else none
theorem ok_f_c_X0_lords {D : CD} {P : CP} {K : xK} {g : CG} {Z : Option Value × CS} {x0 : Nat} {τ : CC} {o_ : (Int32 × CC)} (hf : f_c_X0_lords g x0 τ = some o_) (kr : ∀ r_ : (Int32 × CC), o_ = r_ → Z = (some (.int r_.1), (g, r_.2))) : xV (wC D P) K mX0_lords (xQ (wC D P) K Z) (g, τ) 0 [(0, .ref x0)] [] := by
  unfold f_c_X0_lords at hf
  refine xr_aload_n (pc := 0) 0 dX0_lords_0 rfl rfl ?_
  obtain ⟨ht1, hf⟩ := xo_if hf
  obtain ⟨b2, hb2, hf⟩ := xo_bind hf
  refine yc_getRs (pc := 1) 1 0 100 (gKo ht1 (by decide)) (by decide) (by decide) (by decide) rfl rfl hb2 q484 (ys_eq rfl) rfl dX0_lords_1 ?_
  obtain ⟨ht3, hf⟩ := xo_if hf
  obtain ⟨b4, hb4, hf⟩ := xo_bind hf
  refine yc_getFsN (pc := 4) 2 8 208 (gKo ht3 (by decide)) (by decide) (by decide) (by decide) rfl rfl hb4 q280 (ys_eq rfl) rfl dX0_lords_4 ?_
  obtain ⟨ht5, hf⟩ := xo_if hf
  obtain ⟨r6, τ6, hτ6, hf⟩ := xo_bd hf
  refine call_f_c_J2_size_X0_164 (pc := 7) hτ6 (gKo ht5 (by decide)) rfl (Nat.le_of_ble_eq_true rfl) (Nat.le_of_ble_eq_true rfl) (Nat.le_of_ble_eq_true rfl) dX0_lords_7 ?_
  rw [kr _ (Option.some.inj hf).symm]
  exact xr_iret (pc := 12) dX0_lords_12 rfl
theorem met_f_c_X0_lords (l : Launch) {D : CD} {P : CP} {g : CG} {x0 : Nat} {τ : CC} {o_ : (Int32 × CC)} (hf : f_c_X0_lords g x0 τ = some o_) : xMet (wC D P) l yX0_lords (ws_ yX0_lords cX0_lords 1 (some .int)) 1 60 (grc g) (grs g) [.ref x0] (g, τ) (some (.int o_.1), (g, o_.2)) := 
  xMet_of (by decide) (Nat.le_of_ble_eq_true rfl) KC_moved RPC_of (fun K _ _ _ => ok_f_c_X0_lords hf (fun _ h => by rw [h]))
theorem hd_f_c_X0_columns : yX0_columns.cls ≠ "java/lang/invoke/MethodHandle" ∧ yX0_columns.cls ≠ "java/lang/invoke/VarHandle" ∧ (parseMethodDescriptor yX0_columns.desc).map (fun d => d.parameters.length) = some 0 := by decide +kernel
theorem call_f_c_X0_columns_X0_169 {D : CD} {P : CP} {K : xK} {M : xM} {Q : State → Prop} {g : CG} {c : CC} {x0 : Nat} {pc : Nat} {loc : List (Nat × Value)} {st : List Value} {r : Int32} {c1 : CC} (hf : f_c_X0_columns g x0 c = some (r, c1)) (hr : gK g x0 = 1) (ho : M.2.2.1 = RX0) (hfr : 1 ≤ M.2.2.2.1) (hlo : 20 ≤ M.2.2.2.2.1) (hcat : (st.map fun v => v.category).sum ≤ 8) (d : decode M.1 pc = .ok (.invokevirtual 169, 3)) (k : xV (wC D P) K M Q (g, c1) (pc + 3) loc (.int r :: st)) : xV (wC D P) K M Q (g, c) pc loc (.ref x0 :: st) :=
  yc_callV (As := []) (rest := st) (met_f_c_X0_columns K.2.1 hf) (lw_V q1268 q1270 qs36 q174 q1271) ⟨rfl, hd_f_c_X0_columns⟩ ho hfr hlo rfl hr (by decide) (by decide) rfl rfl hcat d k
abbrev mX0_isColumn : xM := (cX0_isColumn, 2, RX0, 1, 60, (some .boolean), "isColumn")
def Jc_X0_isColumn_16 (g : CG) (τ : CC) : Option (Int32 × CC) :=
  some ((0, τ))
theorem ok_Jc_X0_isColumn_16 {D : CD} {P : CP} {K : xK} {g : CG} {Z : Option Value × CS} {τ : CC} {o_ : (Int32 × CC)} (hf : Jc_X0_isColumn_16 g τ = some o_) (kr : ∀ r_ : (Int32 × CC), o_ = r_ → Z = (some (.int r_.1), (g, r_.2))) : xV (wC D P) K mX0_isColumn (xQ (wC D P) K Z) (g, τ) 16 [] [] := by
  unfold Jc_X0_isColumn_16 at hf
  refine xr_iconst (pc := 16) dX0_isColumn_16 xci_0 ?_
  rw [kr _ (Option.some.inj hf).symm]
  exact xr_zret (pc := 17) dX0_isColumn_17 rfl xz_0
def f_c_X0_isColumn (g : CG) (x0 : Nat) (x1 : Int32) (τ : CC) : Option (Int32 × CC) :=
  if x1 < 0 then
  Jc_X0_isColumn_16 g τ
  else
  if gT g x0 = 1 then
  xbd (f_c_X0_columns g x0 τ) fun r2 τ2 =>
  if r2 ≤ x1 then
  Jc_X0_isColumn_16 g τ2
  else
  some ((1, τ2))
  else none
theorem ok_f_c_X0_isColumn {D : CD} {P : CP} {K : xK} {g : CG} {Z : Option Value × CS} {x0 : Nat} {x1 : Int32} {τ : CC} {o_ : (Int32 × CC)} (hf : f_c_X0_isColumn g x0 x1 τ = some o_) (kr : ∀ r_ : (Int32 × CC), o_ = r_ → Z = (some (.int r_.1), (g, r_.2))) : xV (wC D P) K mX0_isColumn (xQ (wC D P) K Z) (g, τ) 0 [(0, .ref x0), (1, .int x1)] [] := by
  unfold f_c_X0_isColumn at hf
  refine xr_iload_n (pc := 0) 1 dX0_isColumn_0 rfl rfl ?_
  refine xr_if_lt (pc := 1) 16 dX0_isColumn_1 (by decide) (fun c_ => ?_) (fun c_ => ?_)
  · have hf := xo_pos c_ hf
    refine xV_sub [] rfl ?_
    exact ok_Jc_X0_isColumn_16 hf kr
  · have hf := xo_neg c_ hf
    refine xr_iload_n (pc := 4) 1 dX0_isColumn_4 rfl rfl ?_
    refine xr_aload_n (pc := 5) 0 dX0_isColumn_5 rfl rfl ?_
    obtain ⟨ht1, hf⟩ := xo_if hf
    obtain ⟨r2, τ2, hτ2, hf⟩ := xo_bd hf
    refine call_f_c_X0_columns_X0_169 (pc := 6) hτ2 (gKo ht1 (by decide)) rfl (Nat.le_of_ble_eq_true rfl) (Nat.le_of_ble_eq_true rfl) (Nat.le_of_ble_eq_true rfl) dX0_isColumn_6 ?_
    refine xr_icmp_ge (pc := 9) 16 dX0_isColumn_9 (by decide) (fun c_ => ?_) (fun c_ => ?_)
    · have hf := xo_pos c_ hf
      refine xV_sub [] rfl ?_
      exact ok_Jc_X0_isColumn_16 hf kr
    · have hf := xo_neg c_ hf
      refine xr_iconst (pc := 12) dX0_isColumn_12 xci_1 ?_
      refine xr_goto (pc := 13) 17 dX0_isColumn_13 (by decide) ?_
      rw [kr _ (Option.some.inj hf).symm]
      exact xr_zret (pc := 17) dX0_isColumn_17 rfl xz_1
theorem met_f_c_X0_isColumn (l : Launch) {D : CD} {P : CP} {g : CG} {x0 : Nat} {x1 : Int32} {τ : CC} {o_ : (Int32 × CC)} (hf : f_c_X0_isColumn g x0 x1 τ = some o_) : xMet (wC D P) l yX0_isColumn (ws_ yX0_isColumn cX0_isColumn 2 (some .boolean)) 1 60 (grc g) (grs g) [.ref x0, .int x1] (g, τ) (some (.int o_.1), (g, o_.2)) := 
  xMet_of (by decide) (Nat.le_of_ble_eq_true rfl) KC_moved RPC_of (fun K _ _ _ => ok_f_c_X0_isColumn hf (fun _ h => by rw [h]))
theorem hd_f_c_X0_isColumn : yX0_isColumn.cls ≠ "java/lang/invoke/MethodHandle" ∧ yX0_isColumn.cls ≠ "java/lang/invoke/VarHandle" ∧ (parseMethodDescriptor yX0_isColumn.desc).map (fun d => d.parameters.length) = some 1 := by decide +kernel
theorem call_f_c_X0_isColumn_X0_171 {D : CD} {P : CP} {K : xK} {M : xM} {Q : State → Prop} {g : CG} {c : CC} {x0 : Nat} {x1 : Int32} {pc : Nat} {loc : List (Nat × Value)} {st : List Value} {r : Int32} {c1 : CC} (hf : f_c_X0_isColumn g x0 x1 c = some (r, c1)) (hr : gK g x0 = 1) (ho : M.2.2.1 = RX0) (hfr : 2 ≤ M.2.2.2.1) (hlo : 81 ≤ M.2.2.2.2.1) (hcat : (st.map fun v => v.category).sum ≤ 8) (d : decode M.1 pc = .ok (.invokevirtual 171, 3)) (k : xV (wC D P) K M Q (g, c1) (pc + 3) loc (.int r :: st)) : xV (wC D P) K M Q (g, c) pc loc (.int x1 :: .ref x0 :: st) :=
  yc_callV (As := [.int x1]) (rest := st) (met_f_c_X0_isColumn K.2.1 hf) (lw_V q1420 q1422 qs41 q174 q1423) ⟨rfl, hd_f_c_X0_isColumn⟩ ho hfr hlo rfl hr (by decide) (by decide) rfl rfl hcat d k
theorem hd_f_c_X0_is : yX0_is.cls ≠ "java/lang/invoke/MethodHandle" ∧ yX0_is.cls ≠ "java/lang/invoke/VarHandle" ∧ (parseMethodDescriptor yX0_is.desc).map (fun d => d.parameters.length) = some 3 := by decide +kernel
theorem call_f_c_X0_is_X0_176 {D : CD} {P : CP} {K : xK} {M : xM} {Q : State → Prop} {g : CG} {c : CC} {x0 : Int32} {x1 : Int32} {x2 : Int32} {pc : Nat} {loc : List (Nat × Value)} {st : List Value} {r : Int32} {c1 : CC} (hf : f_c_X0_is g x0 x1 x2 c = some (r, c1)) (ho : M.2.2.1 = RX0) (hfr : 1 ≤ M.2.2.2.1) (hlo : 22 ≤ M.2.2.2.2.1) (hcat : (st.map fun v => v.category).sum ≤ 8) (d : decode M.1 pc = .ok (.invokestatic 176, 3)) (k : xV (wC D P) K M Q (g, c1) (pc + 3) loc (.int r :: st)) : xV (wC D P) K M Q (g, c) pc loc (.int x2 :: .int x1 :: .int x0 :: st) :=
  yc_callS (As := [.int x0, .int x1, .int x2]) (rest := st) (met_f_c_X0_is K.2.1 hf) (lw_S q1398 q714 q174 q715) hd_f_c_X0_is ho hfr hlo rfl rfl hcat d k
abbrev mX0_isCell : xM := (cX0_isCell, 3, RX0, 2, 120, (some .boolean), "isCell")
def Jc_X0_isCell_29 (g : CG) (τ : CC) : Option (Int32 × CC) :=
  some ((0, τ))
theorem ok_Jc_X0_isCell_29 {D : CD} {P : CP} {K : xK} {g : CG} {Z : Option Value × CS} {τ : CC} {o_ : (Int32 × CC)} (hf : Jc_X0_isCell_29 g τ = some o_) (kr : ∀ r_ : (Int32 × CC), o_ = r_ → Z = (some (.int r_.1), (g, r_.2))) : xV (wC D P) K mX0_isCell (xQ (wC D P) K Z) (g, τ) 29 [] [] := by
  unfold Jc_X0_isCell_29 at hf
  refine xr_iconst (pc := 29) dX0_isCell_29 xci_0 ?_
  rw [kr _ (Option.some.inj hf).symm]
  exact xr_zret (pc := 30) dX0_isCell_30 rfl xz_0
def f_c_X0_isCell (g : CG) (x0 : Nat) (x1 : Int32) (x2 : Int32) (τ : CC) : Option (Int32 × CC) :=
  if gT g x0 = 1 then
  xbd (f_c_X0_isColumn g x0 x1 τ) fun r2 τ2 =>
  if r2 = 0 then
  Jc_X0_isCell_29 g τ2
  else
  (cR τ2 100 x0).bind fun b3 =>
  if gT g b3 = 2 then
  xbd (f_c_X0_is g x2 0 ((cI τ2 202 b3) - 1) τ2) fun r5 τ5 =>
  if r5 = 0 then
  Jc_X0_isCell_29 g τ5
  else
  some ((1, τ5))
  else none
  else none
theorem ok_f_c_X0_isCell {D : CD} {P : CP} {K : xK} {g : CG} {Z : Option Value × CS} {x0 : Nat} {x1 : Int32} {x2 : Int32} {τ : CC} {o_ : (Int32 × CC)} (hf : f_c_X0_isCell g x0 x1 x2 τ = some o_) (kr : ∀ r_ : (Int32 × CC), o_ = r_ → Z = (some (.int r_.1), (g, r_.2))) : xV (wC D P) K mX0_isCell (xQ (wC D P) K Z) (g, τ) 0 [(0, .ref x0), (1, .int x1), (2, .int x2)] [] := by
  unfold f_c_X0_isCell at hf
  refine xr_aload_n (pc := 0) 0 dX0_isCell_0 rfl rfl ?_
  refine xr_iload_n (pc := 1) 1 dX0_isCell_1 rfl rfl ?_
  obtain ⟨ht1, hf⟩ := xo_if hf
  obtain ⟨r2, τ2, hτ2, hf⟩ := xo_bd hf
  refine call_f_c_X0_isColumn_X0_171 (pc := 2) hτ2 (gKo ht1 (by decide)) rfl (Nat.le_of_ble_eq_true rfl) (Nat.le_of_ble_eq_true rfl) (Nat.le_of_ble_eq_true rfl) dX0_isCell_2 ?_
  refine xr_if_eq (pc := 5) 29 dX0_isCell_5 (by decide) (fun c_ => ?_) (fun c_ => ?_)
  · have hf := xo_pos c_ hf
    refine xV_sub [] rfl ?_
    exact ok_Jc_X0_isCell_29 hf kr
  · have hf := xo_neg c_ hf
    refine xr_iload_n (pc := 8) 2 dX0_isCell_8 rfl rfl ?_
    refine xr_iconst (pc := 9) dX0_isCell_9 xci_0 ?_
    refine xr_aload_n (pc := 10) 0 dX0_isCell_10 rfl rfl ?_
    obtain ⟨b3, hb3, hf⟩ := xo_bind hf
    refine yc_getRs (pc := 11) 1 0 100 (gKo ht1 (by decide)) (by decide) (by decide) (by decide) rfl rfl hb3 q484 (ys_eq rfl) rfl dX0_isCell_11 ?_
    obtain ⟨ht4, hf⟩ := xo_if hf
    refine yc_getIN (pc := 14) 2 2 202 (gKo ht4 (by decide)) (by decide) (by decide) (by decide) rfl rfl q263 (ys_eq rfl) rfl dX0_isCell_14 ?_
    refine xr_iconst (pc := 17) dX0_isCell_17 xci_1 ?_
    refine xr_isub (pc := 18) dX0_isCell_18 ?_
    obtain ⟨r5, τ5, hτ5, hf⟩ := xo_bd hf
    refine call_f_c_X0_is_X0_176 (pc := 19) hτ5 rfl (Nat.le_of_ble_eq_true rfl) (Nat.le_of_ble_eq_true rfl) (Nat.le_of_ble_eq_true rfl) dX0_isCell_19 ?_
    refine xr_if_eq (pc := 22) 29 dX0_isCell_22 (by decide) (fun c_ => ?_) (fun c_ => ?_)
    · have hf := xo_pos c_ hf
      refine xV_sub [] rfl ?_
      exact ok_Jc_X0_isCell_29 hf kr
    · have hf := xo_neg c_ hf
      refine xr_iconst (pc := 25) dX0_isCell_25 xci_1 ?_
      refine xr_goto (pc := 26) 30 dX0_isCell_26 (by decide) ?_
      rw [kr _ (Option.some.inj hf).symm]
      exact xr_zret (pc := 30) dX0_isCell_30 rfl xz_1
theorem met_f_c_X0_isCell (l : Launch) {D : CD} {P : CP} {g : CG} {x0 : Nat} {x1 : Int32} {x2 : Int32} {τ : CC} {o_ : (Int32 × CC)} (hf : f_c_X0_isCell g x0 x1 x2 τ = some o_) : xMet (wC D P) l yX0_isCell (ws_ yX0_isCell cX0_isCell 3 (some .boolean)) 2 120 (grc g) (grs g) [.ref x0, .int x1, .int x2] (g, τ) (some (.int o_.1), (g, o_.2)) := 
  xMet_of (by decide) (Nat.le_of_ble_eq_true rfl) KC_moved RPC_of (fun K _ _ _ => ok_f_c_X0_isCell hf (fun _ h => by rw [h]))
theorem hd_f_c_X0_lords : yX0_lords.cls ≠ "java/lang/invoke/MethodHandle" ∧ yX0_lords.cls ≠ "java/lang/invoke/VarHandle" ∧ (parseMethodDescriptor yX0_lords.desc).map (fun d => d.parameters.length) = some 0 := by decide +kernel
theorem call_f_c_X0_lords_X0_180 {D : CD} {P : CP} {K : xK} {M : xM} {Q : State → Prop} {g : CG} {c : CC} {x0 : Nat} {pc : Nat} {loc : List (Nat × Value)} {st : List Value} {r : Int32} {c1 : CC} (hf : f_c_X0_lords g x0 c = some (r, c1)) (hr : gK g x0 = 1) (ho : M.2.2.1 = RX0) (hfr : 2 ≤ M.2.2.2.1) (hlo : 80 ≤ M.2.2.2.2.1) (hcat : (st.map fun v => v.category).sum ≤ 8) (d : decode M.1 pc = .ok (.invokevirtual 180, 3)) (k : xV (wC D P) K M Q (g, c1) (pc + 3) loc (.int r :: st)) : xV (wC D P) K M Q (g, c) pc loc (.ref x0 :: st) :=
  yc_callV (As := []) (rest := st) (met_f_c_X0_lords K.2.1 hf) (lw_V q1272 q1249 qs34 q174 q1250) ⟨rfl, hd_f_c_X0_lords⟩ ho hfr hlo rfl hr (by decide) (by decide) rfl rfl hcat d k
abbrev mX0_isLord : xM := (cX0_isLord, 2, RX0, 2, 120, (some .boolean), "isLord")
def Jc_X0_isLord_16 (g : CG) (τ : CC) : Option (Int32 × CC) :=
  some ((0, τ))
theorem ok_Jc_X0_isLord_16 {D : CD} {P : CP} {K : xK} {g : CG} {Z : Option Value × CS} {τ : CC} {o_ : (Int32 × CC)} (hf : Jc_X0_isLord_16 g τ = some o_) (kr : ∀ r_ : (Int32 × CC), o_ = r_ → Z = (some (.int r_.1), (g, r_.2))) : xV (wC D P) K mX0_isLord (xQ (wC D P) K Z) (g, τ) 16 [] [] := by
  unfold Jc_X0_isLord_16 at hf
  refine xr_iconst (pc := 16) dX0_isLord_16 xci_0 ?_
  rw [kr _ (Option.some.inj hf).symm]
  exact xr_zret (pc := 17) dX0_isLord_17 rfl xz_0
def f_c_X0_isLord (g : CG) (x0 : Nat) (x1 : Int32) (τ : CC) : Option (Int32 × CC) :=
  if x1 < 0 then
  Jc_X0_isLord_16 g τ
  else
  if gT g x0 = 1 then
  xbd (f_c_X0_lords g x0 τ) fun r2 τ2 =>
  if r2 ≤ x1 then
  Jc_X0_isLord_16 g τ2
  else
  some ((1, τ2))
  else none
theorem ok_f_c_X0_isLord {D : CD} {P : CP} {K : xK} {g : CG} {Z : Option Value × CS} {x0 : Nat} {x1 : Int32} {τ : CC} {o_ : (Int32 × CC)} (hf : f_c_X0_isLord g x0 x1 τ = some o_) (kr : ∀ r_ : (Int32 × CC), o_ = r_ → Z = (some (.int r_.1), (g, r_.2))) : xV (wC D P) K mX0_isLord (xQ (wC D P) K Z) (g, τ) 0 [(0, .ref x0), (1, .int x1)] [] := by
  unfold f_c_X0_isLord at hf
  refine xr_iload_n (pc := 0) 1 dX0_isLord_0 rfl rfl ?_
  refine xr_if_lt (pc := 1) 16 dX0_isLord_1 (by decide) (fun c_ => ?_) (fun c_ => ?_)
  · have hf := xo_pos c_ hf
    refine xV_sub [] rfl ?_
    exact ok_Jc_X0_isLord_16 hf kr
  · have hf := xo_neg c_ hf
    refine xr_iload_n (pc := 4) 1 dX0_isLord_4 rfl rfl ?_
    refine xr_aload_n (pc := 5) 0 dX0_isLord_5 rfl rfl ?_
    obtain ⟨ht1, hf⟩ := xo_if hf
    obtain ⟨r2, τ2, hτ2, hf⟩ := xo_bd hf
    refine call_f_c_X0_lords_X0_180 (pc := 6) hτ2 (gKo ht1 (by decide)) rfl (Nat.le_of_ble_eq_true rfl) (Nat.le_of_ble_eq_true rfl) (Nat.le_of_ble_eq_true rfl) dX0_isLord_6 ?_
    refine xr_icmp_ge (pc := 9) 16 dX0_isLord_9 (by decide) (fun c_ => ?_) (fun c_ => ?_)
    · have hf := xo_pos c_ hf
      refine xV_sub [] rfl ?_
      exact ok_Jc_X0_isLord_16 hf kr
    · have hf := xo_neg c_ hf
      refine xr_iconst (pc := 12) dX0_isLord_12 xci_1 ?_
      refine xr_goto (pc := 13) 17 dX0_isLord_13 (by decide) ?_
      rw [kr _ (Option.some.inj hf).symm]
      exact xr_zret (pc := 17) dX0_isLord_17 rfl xz_1
theorem met_f_c_X0_isLord (l : Launch) {D : CD} {P : CP} {g : CG} {x0 : Nat} {x1 : Int32} {τ : CC} {o_ : (Int32 × CC)} (hf : f_c_X0_isLord g x0 x1 τ = some o_) : xMet (wC D P) l yX0_isLord (ws_ yX0_isLord cX0_isLord 2 (some .boolean)) 2 120 (grc g) (grs g) [.ref x0, .int x1] (g, τ) (some (.int o_.1), (g, o_.2)) := 
  xMet_of (by decide) (Nat.le_of_ble_eq_true rfl) KC_moved RPC_of (fun K _ _ _ => ok_f_c_X0_isLord hf (fun _ h => by rw [h]))
abbrev mJ8_checkIndex : xM := (cJ8_checkIndex, 3, RJ8, 0, 0, (some .int), "checkIndex")
def Jc_J8_checkIndex_9 (g : CG) (x0 : Int32) (x1 : Int32) (x2 : Option Nat) (τ : CC) : Option (Int32 × CC) :=
  none
theorem ok_Jc_J8_checkIndex_9 {D : CD} {P : CP} {K : xK} {g : CG} {Z : Option Value × CS} {x0 : Int32} {x1 : Int32} {x2 : Option Nat} {τ : CC} {o_ : (Int32 × CC)} (hf : Jc_J8_checkIndex_9 g x0 x1 x2 τ = some o_) (kr : ∀ r_ : (Int32 × CC), o_ = r_ → Z = (some (.int r_.1), (g, r_.2))) : xV (wC D P) K mJ8_checkIndex (xQ (wC D P) K Z) (g, τ) 9 [(0, .int x0), (1, .int x1), (2, va_rf x2)] [] := by
  unfold Jc_J8_checkIndex_9 at hf
  refine xr_aloadq_n (pc := 9) 2 dJ8_checkIndex_9 rfl rfl ?_
  refine xr_iload_n (pc := 10) 0 dJ8_checkIndex_10 rfl rfl ?_
  refine xr_iload_n (pc := 11) 1 dJ8_checkIndex_11 rfl rfl ?_
  cases hf
def f_c_J8_checkIndex (g : CG) (x0 : Int32) (x1 : Int32) (x2 : Option Nat) (τ : CC) : Option (Int32 × CC) :=
  if x0 < 0 then
  Jc_J8_checkIndex_9 g x0 x1 x2 τ
  else
  if x0 < x1 then
  some ((x0, τ))
  else
  Jc_J8_checkIndex_9 g x0 x1 x2 τ
theorem ok_f_c_J8_checkIndex {D : CD} {P : CP} {K : xK} {g : CG} {Z : Option Value × CS} {x0 : Int32} {x1 : Int32} {x2 : Option Nat} {τ : CC} {o_ : (Int32 × CC)} (hf : f_c_J8_checkIndex g x0 x1 x2 τ = some o_) (kr : ∀ r_ : (Int32 × CC), o_ = r_ → Z = (some (.int r_.1), (g, r_.2))) : xV (wC D P) K mJ8_checkIndex (xQ (wC D P) K Z) (g, τ) 0 [(0, .int x0), (1, .int x1), (2, va_rf x2)] [] := by
  unfold f_c_J8_checkIndex at hf
  refine xr_iload_n (pc := 0) 0 dJ8_checkIndex_0 rfl rfl ?_
  refine xr_if_lt (pc := 1) 9 dJ8_checkIndex_1 (by decide) (fun c_ => ?_) (fun c_ => ?_)
  · have hf := xo_pos c_ hf
    exact ok_Jc_J8_checkIndex_9 hf kr
  · have hf := xo_neg c_ hf
    refine xr_iload_n (pc := 4) 0 dJ8_checkIndex_4 rfl rfl ?_
    refine xr_iload_n (pc := 5) 1 dJ8_checkIndex_5 rfl rfl ?_
    refine xr_icmp_lt (pc := 6) 16 dJ8_checkIndex_6 (by decide) (fun c_ => ?_) (fun c_ => ?_)
    · have hf := xo_pos c_ hf
      refine xr_iload_n (pc := 16) 0 dJ8_checkIndex_16 rfl rfl ?_
      rw [kr _ (Option.some.inj hf).symm]
      exact xr_iret (pc := 17) dJ8_checkIndex_17 rfl
    · have hf := xo_neg c_ hf
      exact ok_Jc_J8_checkIndex_9 hf kr
theorem met_f_c_J8_checkIndex (l : Launch) {D : CD} {P : CP} {g : CG} {x0 : Int32} {x1 : Int32} {x2 : Option Nat} {τ : CC} {o_ : (Int32 × CC)} (hf : f_c_J8_checkIndex g x0 x1 x2 τ = some o_) : xMet (wC D P) l yJ8_checkIndex (ws_ yJ8_checkIndex cJ8_checkIndex 3 (some .int)) 0 0 (grc g) (grs g) [.int x0, .int x1, va_rf x2] (g, τ) (some (.int o_.1), (g, o_.2)) := by
  cases x2 <;> exact xMet_of (by decide) (Nat.le_of_ble_eq_true rfl) KC_moved RPC_of (fun K _ _ _ => ok_f_c_J8_checkIndex hf (fun _ h => by rw [h]))
theorem hd_f_c_J8_checkIndex : yJ8_checkIndex.cls ≠ "java/lang/invoke/MethodHandle" ∧ yJ8_checkIndex.cls ≠ "java/lang/invoke/VarHandle" ∧ (parseMethodDescriptor yJ8_checkIndex.desc).map (fun d => d.parameters.length) = some 3 := by decide +kernel
theorem call_f_c_J8_checkIndex_J11_105 {D : CD} {P : CP} {K : xK} {M : xM} {Q : State → Prop} {g : CG} {c : CC} {x0 : Int32} {x1 : Int32} {x2 : Option Nat} {pc : Nat} {loc : List (Nat × Value)} {st : List Value} {r : Int32} {c1 : CC} (hf : f_c_J8_checkIndex g x0 x1 x2 c = some (r, c1)) (ho : M.2.2.1 = RJ11) (hfr : 1 ≤ M.2.2.2.1) (hlo : 22 ≤ M.2.2.2.2.1) (hcat : (st.map fun v => v.category).sum ≤ 8) (d : decode M.1 pc = .ok (.invokestatic 105, 3)) (k : xV (wC D P) K M Q (g, c1) (pc + 3) loc (.int r :: st)) : xV (wC D P) K M Q (g, c) pc loc (va_rf x2 :: .int x1 :: .int x0 :: st) :=
  yc_callS (As := [.int x0, .int x1, va_rf x2]) (rest := st) (met_f_c_J8_checkIndex K.2.1 hf) (lw_S q849 q850 q189 q851) hd_f_c_J8_checkIndex ho hfr hlo rfl rfl hcat d k
abbrev mJ11_checkIndex : xM := (cJ11_checkIndex, 2, RJ11, 1, 60, (some .int), "checkIndex")
def f_c_J11_checkIndex (g : CG) (x0 : Int32) (x1 : Int32) (τ : CC) : Option (Int32 × CC) :=
  xbd (f_c_J8_checkIndex g x0 x1 none τ) fun r1 τ1 =>
  some ((r1, τ1))
theorem ok_f_c_J11_checkIndex {D : CD} {P : CP} {K : xK} {g : CG} {Z : Option Value × CS} {x0 : Int32} {x1 : Int32} {τ : CC} {o_ : (Int32 × CC)} (hf : f_c_J11_checkIndex g x0 x1 τ = some o_) (kr : ∀ r_ : (Int32 × CC), o_ = r_ → Z = (some (.int r_.1), (g, r_.2))) : xV (wC D P) K mJ11_checkIndex (xQ (wC D P) K Z) (g, τ) 0 [(0, .int x0), (1, .int x1)] [] := by
  unfold f_c_J11_checkIndex at hf
  refine xr_iload_n (pc := 0) 0 dJ11_checkIndex_0 rfl rfl ?_
  refine xr_iload_n (pc := 1) 1 dJ11_checkIndex_1 rfl rfl ?_
  refine xr_null (pc := 2) dJ11_checkIndex_2 ?_
  obtain ⟨r1, τ1, hτ1, hf⟩ := xo_bd hf
  refine call_f_c_J8_checkIndex_J11_105 (pc := 3) hτ1 rfl (Nat.le_of_ble_eq_true rfl) (Nat.le_of_ble_eq_true rfl) (Nat.le_of_ble_eq_true rfl) dJ11_checkIndex_3 ?_
  rw [kr _ (Option.some.inj hf).symm]
  exact xr_iret (pc := 6) dJ11_checkIndex_6 rfl
theorem met_f_c_J11_checkIndex (l : Launch) {D : CD} {P : CP} {g : CG} {x0 : Int32} {x1 : Int32} {τ : CC} {o_ : (Int32 × CC)} (hf : f_c_J11_checkIndex g x0 x1 τ = some o_) : xMet (wC D P) l yJ11_checkIndex (ws_ yJ11_checkIndex cJ11_checkIndex 2 (some .int)) 1 60 (grc g) (grs g) [.int x0, .int x1] (g, τ) (some (.int o_.1), (g, o_.2)) := 
  xMet_of (by decide) (Nat.le_of_ble_eq_true rfl) KC_moved RPC_of (fun K _ _ _ => ok_f_c_J11_checkIndex hf (fun _ h => by rw [h]))
abbrev mJ2_elementData : xM := (cJ2_elementData, 2, RJ2, 0, 0, (some (.object "java/lang/Object")), "elementData")
def f_c_J2_elementData (g : CG) (x0 : Nat) (x1 : Int32) (τ : CC) : Option (Nat × CC) :=
  if gT g x0 = 18 then
  (cR τ 1801 x0).bind fun b2 =>
  if gT g b2 = 109 then
  if xin x1 (gN g b2) = true then
  (cP τ b2 x1.toNatClampNeg).bind fun b4 =>
  some ((b4, τ))
  else none
  else none
  else none
theorem ok_f_c_J2_elementData {D : CD} {P : CP} {K : xK} {g : CG} {Z : Option Value × CS} {x0 : Nat} {x1 : Int32} {τ : CC} {o_ : (Nat × CC)} (hf : f_c_J2_elementData g x0 x1 τ = some o_) (kr : ∀ r_ : (Nat × CC), o_ = r_ → Z = (some (.ref r_.1), (g, r_.2))) : xV (wC D P) K mJ2_elementData (xQ (wC D P) K Z) (g, τ) 0 [(0, .ref x0), (1, .int x1)] [] := by
  unfold f_c_J2_elementData at hf
  refine xr_aload_n (pc := 0) 0 dJ2_elementData_0 rfl rfl ?_
  obtain ⟨ht1, hf⟩ := xo_if hf
  obtain ⟨b2, hb2, hf⟩ := xo_bind hf
  refine yc_getRs (pc := 1) 18 1 1801 (gKo ht1 (by decide)) (by decide) (by decide) (by decide) rfl rfl hb2 q244 (ys_eq rfl) rfl dJ2_elementData_1 ?_
  refine xr_iload_n (pc := 4) 1 dJ2_elementData_4 rfl rfl ?_
  obtain ⟨ht3, hf⟩ := xo_if hf
  obtain ⟨hi_, hf⟩ := xo_if hf
  obtain ⟨b4, hb4, hf⟩ := xo_bind hf
  refine yc_aalds (pc := 5) 109 (gKo ht3 (by decide)) (by decide) (by decide) rfl rfl hi_ hb4 dJ2_elementData_5 ?_
  rw [kr _ (Option.some.inj hf).symm]
  exact xr_aret (pc := 6) dJ2_elementData_6 rfl (Or.inl ⟨_, rfl⟩)
theorem met_f_c_J2_elementData (l : Launch) {D : CD} {P : CP} {g : CG} {x0 : Nat} {x1 : Int32} {τ : CC} {o_ : (Nat × CC)} (hf : f_c_J2_elementData g x0 x1 τ = some o_) : xMet (wC D P) l yJ2_elementData (ws_ yJ2_elementData cJ2_elementData 2 (some (.object "java/lang/Object"))) 0 0 (grc g) (grs g) [.ref x0, .int x1] (g, τ) (some (.ref o_.1), (g, o_.2)) := 
  xMet_of (by decide) (Nat.le_of_ble_eq_true rfl) KC_moved RPC_of (fun K _ _ _ => ok_f_c_J2_elementData hf (fun _ h => by rw [h]))
theorem hd_f_c_J11_checkIndex : yJ11_checkIndex.cls ≠ "java/lang/invoke/MethodHandle" ∧ yJ11_checkIndex.cls ≠ "java/lang/invoke/VarHandle" ∧ (parseMethodDescriptor yJ11_checkIndex.desc).map (fun d => d.parameters.length) = some 2 := by decide +kernel
theorem call_f_c_J11_checkIndex_J2_118 {D : CD} {P : CP} {K : xK} {M : xM} {Q : State → Prop} {g : CG} {c : CC} {x0 : Int32} {x1 : Int32} {pc : Nat} {loc : List (Nat × Value)} {st : List Value} {r : Int32} {c1 : CC} (hf : f_c_J11_checkIndex g x0 x1 c = some (r, c1)) (ho : M.2.2.1 = RJ2) (hfr : 2 ≤ M.2.2.2.1) (hlo : 81 ≤ M.2.2.2.2.1) (hcat : (st.map fun v => v.category).sum ≤ 8) (d : decode M.1 pc = .ok (.invokestatic 118, 3)) (k : xV (wC D P) K M Q (g, c1) (pc + 3) loc (.int r :: st)) : xV (wC D P) K M Q (g, c) pc loc (.int x1 :: .int x0 :: st) :=
  yc_callS (As := [.int x0, .int x1]) (rest := st) (met_f_c_J11_checkIndex K.2.1 hf) (lw_S q846 q847 q192 q848) hd_f_c_J11_checkIndex ho hfr hlo rfl rfl hcat d k
theorem hd_f_c_J2_elementData : yJ2_elementData.cls ≠ "java/lang/invoke/MethodHandle" ∧ yJ2_elementData.cls ≠ "java/lang/invoke/VarHandle" ∧ (parseMethodDescriptor yJ2_elementData.desc).map (fun d => d.parameters.length) = some 1 := by decide +kernel
theorem call_f_c_J2_elementData_J2_123 {D : CD} {P : CP} {K : xK} {M : xM} {Q : State → Prop} {g : CG} {c : CC} {x0 : Nat} {x1 : Int32} {pc : Nat} {loc : List (Nat × Value)} {st : List Value} {r : Nat} {c1 : CC} (hf : f_c_J2_elementData g x0 x1 c = some (r, c1)) (hr : gK g x0 = 18) (ho : M.2.2.1 = RJ2) (hfr : 1 ≤ M.2.2.2.1) (hlo : 21 ≤ M.2.2.2.2.1) (hcat : (st.map fun v => v.category).sum ≤ 8) (d : decode M.1 pc = .ok (.invokevirtual 123, 3)) (k : xV (wC D P) K M Q (g, c1) (pc + 3) loc (.ref r :: st)) : xV (wC D P) K M Q (g, c) pc loc (.int x1 :: .ref x0 :: st) :=
  yc_callV (As := [.int x1]) (rest := st) (met_f_c_J2_elementData K.2.1 hf) (lw_V q852 q853 q854 q178 q855) ⟨rfl, hd_f_c_J2_elementData⟩ ho hfr hlo rfl hr (by decide) (by decide) rfl rfl hcat d k
abbrev mJ2_get : xM := (cJ2_get, 2, RJ2, 2, 120, (some (.object "java/lang/Object")), "get")
def f_c_J2_get (g : CG) (x0 : Nat) (x1 : Int32) (τ : CC) : Option (Nat × CC) :=
  if gT g x0 = 18 then
  xbd (f_c_J11_checkIndex g x1 (cI τ 1802 x0) τ) fun r2 τ2 =>
  xbd (f_c_J2_elementData g x0 x1 τ2) fun r3 τ3 =>
  some ((r3, τ3))
  else none
theorem ok_f_c_J2_get {D : CD} {P : CP} {K : xK} {g : CG} {Z : Option Value × CS} {x0 : Nat} {x1 : Int32} {τ : CC} {o_ : (Nat × CC)} (hf : f_c_J2_get g x0 x1 τ = some o_) (kr : ∀ r_ : (Nat × CC), o_ = r_ → Z = (some (.ref r_.1), (g, r_.2))) : xV (wC D P) K mJ2_get (xQ (wC D P) K Z) (g, τ) 0 [(0, .ref x0), (1, .int x1)] [] := by
  unfold f_c_J2_get at hf
  refine xr_iload_n (pc := 0) 1 dJ2_get_0 rfl rfl ?_
  refine xr_aload_n (pc := 1) 0 dJ2_get_1 rfl rfl ?_
  obtain ⟨ht1, hf⟩ := xo_if hf
  refine yc_getI (pc := 2) 18 2 1802 (gKo ht1 (by decide)) (by decide) (by decide) (by decide) rfl rfl q245 (ys_eq rfl) rfl dJ2_get_2 ?_
  obtain ⟨r2, τ2, hτ2, hf⟩ := xo_bd hf
  refine call_f_c_J11_checkIndex_J2_118 (pc := 5) hτ2 rfl (Nat.le_of_ble_eq_true rfl) (Nat.le_of_ble_eq_true rfl) (Nat.le_of_ble_eq_true rfl) dJ2_get_5 ?_
  refine xr_pop (pc := 8) dJ2_get_8 rfl ?_
  refine xr_aload_n (pc := 9) 0 dJ2_get_9 rfl rfl ?_
  refine xr_iload_n (pc := 10) 1 dJ2_get_10 rfl rfl ?_
  obtain ⟨r3, τ3, hτ3, hf⟩ := xo_bd hf
  refine call_f_c_J2_elementData_J2_123 (pc := 11) hτ3 (gKo ht1 (by decide)) rfl (Nat.le_of_ble_eq_true rfl) (Nat.le_of_ble_eq_true rfl) (Nat.le_of_ble_eq_true rfl) dJ2_get_11 ?_
  rw [kr _ (Option.some.inj hf).symm]
  exact xr_aret (pc := 14) dJ2_get_14 rfl (Or.inl ⟨_, rfl⟩)
theorem met_f_c_J2_get (l : Launch) {D : CD} {P : CP} {g : CG} {x0 : Nat} {x1 : Int32} {τ : CC} {o_ : (Nat × CC)} (hf : f_c_J2_get g x0 x1 τ = some o_) : xMet (wC D P) l yJ2_get (ws_ yJ2_get cJ2_get 2 (some (.object "java/lang/Object"))) 2 120 (grc g) (grs g) [.ref x0, .int x1] (g, τ) (some (.ref o_.1), (g, o_.2)) := 
  xMet_of (by decide) (Nat.le_of_ble_eq_true rfl) KC_moved RPC_of (fun K _ _ _ => ok_f_c_J2_get hf (fun _ h => by rw [h]))
theorem hd_f_c_J2_get : yJ2_get.cls ≠ "java/lang/invoke/MethodHandle" ∧ yJ2_get.cls ≠ "java/lang/invoke/VarHandle" ∧ (parseMethodDescriptor yJ2_get.desc).map (fun d => d.parameters.length) = some 1 := by decide +kernel
theorem call_f_c_J2_get_X0_182 {D : CD} {P : CP} {K : xK} {M : xM} {Q : State → Prop} {g : CG} {c : CC} {x0 : Nat} {x1 : Int32} {pc : Nat} {loc : List (Nat × Value)} {st : List Value} {r : Nat} {c1 : CC} (hf : f_c_J2_get g x0 x1 c = some (r, c1)) (hr : gK g x0 = 18) (ho : M.2.2.1 = RX0) (hfr : 3 ≤ M.2.2.2.1) (hlo : 141 ≤ M.2.2.2.2.1) (hcat : (st.map fun v => v.category).sum ≤ 8) (d : decode M.1 pc = .ok (.invokeinterface 182 2, 5)) (k : xV (wC D P) K M Q (g, c1) (pc + 5) loc (.ref r :: st)) : xV (wC D P) K M Q (g, c) pc loc (.int x1 :: .ref x0 :: st) :=
  yc_callF (n := 1) (As := [.int x1]) (rest := st) (z := yList_get) (met_f_c_J2_get K.2.1 hf) (lw_2 q1258 q841 (lw_2 q843 q178 (lw_meth q845))) (fun s h => h.2.2.2.2.2.1.2.1) (by decide +kernel) ho hfr hlo rfl hr rfl hcat d k
abbrev mX0_lordOf : xM := (cX0_lordOf, 2, RX0, 3, 180, (some (.object "BentRiver$Lord")), "lordOf")
def f_c_X0_lordOf (g : CG) (x0 : Nat) (x1 : Int32) (τ : CC) : Option (Nat × CC) :=
  if gT g x0 = 1 then
  (cR τ 100 x0).bind fun b2 =>
  if gT g b2 = 2 then
  (gR g 208 b2).bind fun b4 =>
  if gT g b4 = 18 then
  xbd (f_c_J2_get g b4 x1 τ) fun r6 τ6 =>
  if gT g r6 = 7 then
  some ((r6, τ6))
  else none
  else none
  else none
  else none
theorem ok_f_c_X0_lordOf {D : CD} {P : CP} {K : xK} {g : CG} {Z : Option Value × CS} {x0 : Nat} {x1 : Int32} {τ : CC} {o_ : (Nat × CC)} (hf : f_c_X0_lordOf g x0 x1 τ = some o_) (kr : ∀ r_ : (Nat × CC), o_ = r_ → Z = (some (.ref r_.1), (g, r_.2))) : xV (wC D P) K mX0_lordOf (xQ (wC D P) K Z) (g, τ) 0 [(0, .ref x0), (1, .int x1)] [] := by
  unfold f_c_X0_lordOf at hf
  refine xr_aload_n (pc := 0) 0 dX0_lordOf_0 rfl rfl ?_
  obtain ⟨ht1, hf⟩ := xo_if hf
  obtain ⟨b2, hb2, hf⟩ := xo_bind hf
  refine yc_getRs (pc := 1) 1 0 100 (gKo ht1 (by decide)) (by decide) (by decide) (by decide) rfl rfl hb2 q484 (ys_eq rfl) rfl dX0_lordOf_1 ?_
  obtain ⟨ht3, hf⟩ := xo_if hf
  obtain ⟨b4, hb4, hf⟩ := xo_bind hf
  refine yc_getFsN (pc := 4) 2 8 208 (gKo ht3 (by decide)) (by decide) (by decide) (by decide) rfl rfl hb4 q280 (ys_eq rfl) rfl dX0_lordOf_4 ?_
  refine xr_iload_n (pc := 7) 1 dX0_lordOf_7 rfl rfl ?_
  obtain ⟨ht5, hf⟩ := xo_if hf
  obtain ⟨r6, τ6, hτ6, hf⟩ := xo_bd hf
  refine call_f_c_J2_get_X0_182 (pc := 8) hτ6 (gKo ht5 (by decide)) rfl (Nat.le_of_ble_eq_true rfl) (Nat.le_of_ble_eq_true rfl) (Nat.le_of_ble_eq_true rfl) dX0_lordOf_8 ?_
  obtain ⟨ht7, hf⟩ := xo_if hf
  refine yc_chkS (pc := 13) 7 (gKo ht7 (by decide)) (by decide) (by decide) q1259 rfl rfl dX0_lordOf_13 ?_
  rw [kr _ (Option.some.inj hf).symm]
  exact xr_aret (pc := 16) dX0_lordOf_16 rfl (Or.inl ⟨_, rfl⟩)
theorem met_f_c_X0_lordOf (l : Launch) {D : CD} {P : CP} {g : CG} {x0 : Nat} {x1 : Int32} {τ : CC} {o_ : (Nat × CC)} (hf : f_c_X0_lordOf g x0 x1 τ = some o_) : xMet (wC D P) l yX0_lordOf (ws_ yX0_lordOf cX0_lordOf 2 (some (.object "BentRiver$Lord"))) 3 180 (grc g) (grs g) [.ref x0, .int x1] (g, τ) (some (.ref o_.1), (g, o_.2)) := 
  xMet_of (by decide) (Nat.le_of_ble_eq_true rfl) KC_moved RPC_of (fun K _ _ _ => ok_f_c_X0_lordOf hf (fun _ h => by rw [h]))
abbrev mJ12_abs : xM := (cJ12_abs, 1, RJ12, 0, 0, (some .int), "abs")
def f_c_J12_abs (g : CG) (x0 : Int32) (τ : CC) : Option (Int32 × CC) :=
  if (0 : Int32) ≤ x0 then
  some ((x0, τ))
  else
  some ((-x0, τ))
theorem ok_f_c_J12_abs {D : CD} {P : CP} {K : xK} {g : CG} {Z : Option Value × CS} {x0 : Int32} {τ : CC} {o_ : (Int32 × CC)} (hf : f_c_J12_abs g x0 τ = some o_) (kr : ∀ r_ : (Int32 × CC), o_ = r_ → Z = (some (.int r_.1), (g, r_.2))) : xV (wC D P) K mJ12_abs (xQ (wC D P) K Z) (g, τ) 0 [(0, .int x0)] [] := by
  unfold f_c_J12_abs at hf
  refine xr_iload_n (pc := 0) 0 dJ12_abs_0 rfl rfl ?_
  refine xr_if_ge (pc := 1) 9 dJ12_abs_1 (by decide) (fun c_ => ?_) (fun c_ => ?_)
  · have hf := xo_pos c_ hf
    refine xr_iload_n (pc := 9) 0 dJ12_abs_9 rfl rfl ?_
    rw [kr _ (Option.some.inj hf).symm]
    exact xr_iret (pc := 10) dJ12_abs_10 rfl
  · have hf := xo_neg c_ hf
    refine xr_iload_n (pc := 4) 0 dJ12_abs_4 rfl rfl ?_
    refine xr_ineg (pc := 5) dJ12_abs_5 ?_
    refine xr_goto (pc := 6) 10 dJ12_abs_6 (by decide) ?_
    rw [kr _ (Option.some.inj hf).symm]
    exact xr_iret (pc := 10) dJ12_abs_10 rfl
theorem met_f_c_J12_abs (l : Launch) {D : CD} {P : CP} {g : CG} {x0 : Int32} {τ : CC} {o_ : (Int32 × CC)} (hf : f_c_J12_abs g x0 τ = some o_) : xMet (wC D P) l yJ12_abs (ws_ yJ12_abs cJ12_abs 1 (some .int)) 0 0 (grc g) (grs g) [.int x0] (g, τ) (some (.int o_.1), (g, o_.2)) := 
  xMet_ofF (by decide +kernel) (Nat.le_of_ble_eq_true rfl) KC_moved RPC_of (fun K _ _ _ => ok_f_c_J12_abs hf (fun _ h => by rw [h]))
theorem hd_f_c_J12_abs : yJ12_abs.cls ≠ "java/lang/invoke/MethodHandle" ∧ yJ12_abs.cls ≠ "java/lang/invoke/VarHandle" ∧ (parseMethodDescriptor yJ12_abs.desc).map (fun d => d.parameters.length) = some 1 := by decide +kernel
theorem call_f_c_J12_abs_X0_188 {D : CD} {P : CP} {K : xK} {M : xM} {Q : State → Prop} {g : CG} {c : CC} {x0 : Int32} {pc : Nat} {loc : List (Nat × Value)} {st : List Value} {r : Int32} {c1 : CC} (hf : f_c_J12_abs g x0 c = some (r, c1)) (ho : M.2.2.1 = RX0) (hfr : 1 ≤ M.2.2.2.1) (hlo : 20 ≤ M.2.2.2.2.1) (hcat : (st.map fun v => v.category).sum ≤ 8) (d : decode M.1 pc = .ok (.invokestatic 188, 3)) (k : xV (wC D P) K M Q (g, c1) (pc + 3) loc (.int r :: st)) : xV (wC D P) K M Q (g, c) pc loc (.int x0 :: st) :=
  yc_callS (As := [.int x0]) (rest := st) (met_f_c_J12_abs K.2.1 hf) (lw_S q1300 q1301 q194 q1302) hd_f_c_J12_abs ho hfr hlo rfl rfl hcat d k
abbrev mX0_turnOf : xM := (cX0_turnOf, 5, RX0, 1, 60, (some .int), "turnOf")
def Jc_X0_turnOf_14 (g : CG) (τ : CC) : Option (Int32 × CC) :=
  some ((0, τ))
theorem ok_Jc_X0_turnOf_14 {D : CD} {P : CP} {K : xK} {g : CG} {Z : Option Value × CS} {τ : CC} {o_ : (Int32 × CC)} (hf : Jc_X0_turnOf_14 g τ = some o_) (kr : ∀ r_ : (Int32 × CC), o_ = r_ → Z = (some (.int r_.1), (g, r_.2))) : xV (wC D P) K mX0_turnOf (xQ (wC D P) K Z) (g, τ) 14 [] [] := by
  unfold Jc_X0_turnOf_14 at hf
  refine xr_iconst (pc := 14) dX0_turnOf_14 xci_0 ?_
  refine xr_goto (pc := 15) 29 dX0_turnOf_15 (by decide) ?_
  rw [kr _ (Option.some.inj hf).symm]
  exact xr_iret (pc := 29) dX0_turnOf_29 rfl
def f_c_X0_turnOf (g : CG) (x0 : Nat) (x1 : Int32) (x2 : Int32) (x3 : Int32) (x4 : Int32) (τ : CC) : Option (Int32 × CC) :=
  if x1 = 0 then
  Jc_X0_turnOf_14 g τ
  else
  if gT g x0 = 1 then
  xbd (f_c_X0_columns g x0 τ) fun r2 τ2 =>
  if x1 = (r2 - 1) then
  Jc_X0_turnOf_14 g τ2
  else
  xbd (f_c_J12_abs g ((x2 + x4) - (2 * x3)) τ2) fun r3 τ3 =>
  some ((r3, τ3))
  else none
theorem ok_f_c_X0_turnOf {D : CD} {P : CP} {K : xK} {g : CG} {Z : Option Value × CS} {x0 : Nat} {x1 : Int32} {x2 : Int32} {x3 : Int32} {x4 : Int32} {τ : CC} {o_ : (Int32 × CC)} (hf : f_c_X0_turnOf g x0 x1 x2 x3 x4 τ = some o_) (kr : ∀ r_ : (Int32 × CC), o_ = r_ → Z = (some (.int r_.1), (g, r_.2))) : xV (wC D P) K mX0_turnOf (xQ (wC D P) K Z) (g, τ) 0 [(0, .ref x0), (1, .int x1), (2, .int x2), (3, .int x3), (4, .int x4)] [] := by
  unfold f_c_X0_turnOf at hf
  refine xr_iload_n (pc := 0) 1 dX0_turnOf_0 rfl rfl ?_
  refine xr_if_eq (pc := 1) 14 dX0_turnOf_1 (by decide) (fun c_ => ?_) (fun c_ => ?_)
  · have hf := xo_pos c_ hf
    refine xV_sub [] rfl ?_
    exact ok_Jc_X0_turnOf_14 hf kr
  · have hf := xo_neg c_ hf
    refine xr_iload_n (pc := 4) 1 dX0_turnOf_4 rfl rfl ?_
    refine xr_aload_n (pc := 5) 0 dX0_turnOf_5 rfl rfl ?_
    obtain ⟨ht1, hf⟩ := xo_if hf
    obtain ⟨r2, τ2, hτ2, hf⟩ := xo_bd hf
    refine call_f_c_X0_columns_X0_169 (pc := 6) hτ2 (gKo ht1 (by decide)) rfl (Nat.le_of_ble_eq_true rfl) (Nat.le_of_ble_eq_true rfl) (Nat.le_of_ble_eq_true rfl) dX0_turnOf_6 ?_
    refine xr_iconst (pc := 9) dX0_turnOf_9 xci_1 ?_
    refine xr_isub (pc := 10) dX0_turnOf_10 ?_
    refine xr_icmp_ne (pc := 11) 18 dX0_turnOf_11 (by decide) (fun c_ => ?_) (fun c_ => ?_)
    · have hf := xo_pos c_ hf
      refine xV_sub [] rfl ?_
      exact ok_Jc_X0_turnOf_14 hf kr
    · have hf := xo_neg c_ hf
      refine xr_iload_n (pc := 18) 2 dX0_turnOf_18 rfl rfl ?_
      refine xr_iload (pc := 19) 4 dX0_turnOf_19 rfl ?_
      refine xr_iadd (pc := 21) dX0_turnOf_21 ?_
      refine xr_iconst (pc := 22) dX0_turnOf_22 xci_2 ?_
      refine xr_iload_n (pc := 23) 3 dX0_turnOf_23 rfl rfl ?_
      refine xr_imul (pc := 24) dX0_turnOf_24 ?_
      refine xr_isub (pc := 25) dX0_turnOf_25 ?_
      obtain ⟨r3, τ3, hτ3, hf⟩ := xo_bd hf
      refine call_f_c_J12_abs_X0_188 (pc := 26) hτ3 rfl (Nat.le_of_ble_eq_true rfl) (Nat.le_of_ble_eq_true rfl) (Nat.le_of_ble_eq_true rfl) dX0_turnOf_26 ?_
      rw [kr _ (Option.some.inj hf).symm]
      exact xr_iret (pc := 29) dX0_turnOf_29 rfl
theorem met_f_c_X0_turnOf (l : Launch) {D : CD} {P : CP} {g : CG} {x0 : Nat} {x1 : Int32} {x2 : Int32} {x3 : Int32} {x4 : Int32} {τ : CC} {o_ : (Int32 × CC)} (hf : f_c_X0_turnOf g x0 x1 x2 x3 x4 τ = some o_) : xMet (wC D P) l yX0_turnOf (ws_ yX0_turnOf cX0_turnOf 5 (some .int)) 1 60 (grc g) (grs g) [.ref x0, .int x1, .int x2, .int x3, .int x4] (g, τ) (some (.int o_.1), (g, o_.2)) := 
  xMet_of (by decide) (Nat.le_of_ble_eq_true rfl) KC_moved RPC_of (fun K _ _ _ => ok_f_c_X0_turnOf hf (fun _ h => by rw [h]))
abbrev mX17_holds (d_ : Nat) : xM := (cX17_holds, 2, RX17, 13 + d_, 60 * (13 + d_), (some .boolean), "holds")
def f_c_X17_holds (g : CG) (x0 : Nat) (x1 : Nat) (τ : CC) : Option (Int32 × CC) :=
  some ((1, τ))
theorem ok_f_c_X17_holds {D : CD} {P : CP} {K : xK} {d_ : Nat} {g : CG} {Z : Option Value × CS} {x0 : Nat} {x1 : Nat} {τ : CC} {o_ : (Int32 × CC)} (hf : f_c_X17_holds g x0 x1 τ = some o_) (kr : ∀ r_ : (Int32 × CC), o_ = r_ → Z = (some (.int r_.1), (g, r_.2))) : xV (wC D P) K (mX17_holds d_) (xQ (wC D P) K Z) (g, τ) 0 [(0, .ref x0), (1, .ref x1)] [] := by
  unfold f_c_X17_holds at hf
  refine xr_iconst (pc := 0) dX17_holds_0 xci_1 ?_
  rw [kr _ (Option.some.inj hf).symm]
  exact xr_zret (pc := 1) dX17_holds_1 rfl xz_1
theorem met_f_c_X17_holds (l : Launch) {D : CD} {P : CP} {d_ : Nat} {g : CG} {x0 : Nat} {x1 : Nat} {τ : CC} {o_ : (Int32 × CC)} (hf : f_c_X17_holds g x0 x1 τ = some o_) : xMet (wC D P) l yX17_holds (ws_ yX17_holds cX17_holds 2 (some .boolean)) (13 + d_) (60 * (13 + d_)) (grc g) (grs g) [.ref x0, .ref x1] (g, τ) (some (.int o_.1), (g, o_.2)) := 
  xMet_of (by decide) (Nat.le_of_ble_eq_true rfl) KC_moved RPC_of (fun K _ _ _ => ok_f_c_X17_holds (d_ := d_) hf (fun _ h => by rw [h]))
abbrev mX11_at (d_ : Nat) : xM := (cX11_at, 2, RX11, 13 + d_, 60 * (13 + d_), (some .long), "at")
def f_c_X11_at (g : CG) (x0 : Nat) (x1 : Nat) (τ : CC) : Option (Int64 × CC) :=
  if gT g x0 = 10 then
  some ((cL τ 1000 x0, τ))
  else none
theorem ok_f_c_X11_at {D : CD} {P : CP} {K : xK} {d_ : Nat} {g : CG} {Z : Option Value × CS} {x0 : Nat} {x1 : Nat} {τ : CC} {o_ : (Int64 × CC)} (hf : f_c_X11_at g x0 x1 τ = some o_) (kr : ∀ r_ : (Int64 × CC), o_ = r_ → Z = (some (.long r_.1), (g, r_.2))) : xV (wC D P) K (mX11_at d_) (xQ (wC D P) K Z) (g, τ) 0 [(0, .ref x0), (1, .ref x1)] [] := by
  unfold f_c_X11_at at hf
  refine xr_aload_n (pc := 0) 0 dX11_at_0 rfl rfl ?_
  obtain ⟨ht1, hf⟩ := xo_if hf
  refine yc_getL (pc := 1) 10 0 1000 (gKo ht1 (by decide)) (by decide) (by decide) (by decide) rfl rfl q1062 (ys_eq rfl) rfl dX11_at_1 ?_
  rw [kr _ (Option.some.inj hf).symm]
  exact xr_lret (pc := 4) dX11_at_4 rfl
theorem met_f_c_X11_at (l : Launch) {D : CD} {P : CP} {d_ : Nat} {g : CG} {x0 : Nat} {x1 : Nat} {τ : CC} {o_ : (Int64 × CC)} (hf : f_c_X11_at g x0 x1 τ = some o_) : xMet (wC D P) l yX11_at (ws_ yX11_at cX11_at 2 (some .long)) (13 + d_) (60 * (13 + d_)) (grc g) (grs g) [.ref x0, .ref x1] (g, τ) (some (.long o_.1), (g, o_.2)) := 
  xMet_of (by decide) (Nat.le_of_ble_eq_true rfl) KC_moved RPC_of (fun K _ _ _ => ok_f_c_X11_at (d_ := d_) hf (fun _ h => by rw [h]))
theorem hd_f_c_X0_held : yX0_held.cls ≠ "java/lang/invoke/MethodHandle" ∧ yX0_held.cls ≠ "java/lang/invoke/VarHandle" ∧ (parseMethodDescriptor yX0_held.desc).map (fun d => d.parameters.length) = some 1 := by decide +kernel
theorem call_f_c_X0_held_X12_19 {D : CD} {P : CP} {K : xK} {M : xM} {Q : State → Prop} {g : CG} {c : CC} {x0 : Int64} {pc : Nat} {loc : List (Nat × Value)} {st : List Value} {r : Int64} {c1 : CC} (hf : f_c_X0_held g x0 c = some (r, c1)) (ho : M.2.2.1 = RX12) (hfr : 2 ≤ M.2.2.2.1) (hlo : 81 ≤ M.2.2.2.2.1) (hcat : (st.map fun v => v.category).sum ≤ 8) (d : decode M.1 pc = .ok (.invokestatic 19, 3)) (k : xV (wC D P) K M Q (g, c1) (pc + 3) loc (.long r :: st)) : xV (wC D P) K M Q (g, c) pc loc (.long x0 :: st) :=
  yc_callSN (As := [.long x0]) (rest := st) (met_f_c_X0_held K.2.1 hf) (lw_meth q1331) q1329 q1330 q174 hd_f_c_X0_held ho hfr hlo rfl rfl hcat d k
abbrev mX12_at (d_ : Nat) : xM := (cX12_at, 2, RX12, 13 + d_, 60 * (13 + d_), (some .long), "at")
def f_c_X12_at (g : CG) (x0 : Nat) (x1 : Nat) (τ : CC) : Option (Int64 × CC) :=
  if gT g x1 = 5 then
  (gR g 500 x1).bind fun b2 =>
  if gT g x0 = 11 then
  if gT g b2 = 101 then
  if xin (cI τ 1100 x0) (gN g b2) = true then
  xbd (f_c_X0_held g (cM τ b2 (cI τ 1100 x0).toNatClampNeg) τ) fun r5 τ5 =>
  some ((r5, τ5))
  else none
  else none
  else none
  else none
theorem ok_f_c_X12_at {D : CD} {P : CP} {K : xK} {d_ : Nat} {g : CG} {Z : Option Value × CS} {x0 : Nat} {x1 : Nat} {τ : CC} {o_ : (Int64 × CC)} (hf : f_c_X12_at g x0 x1 τ = some o_) (kr : ∀ r_ : (Int64 × CC), o_ = r_ → Z = (some (.long r_.1), (g, r_.2))) : xV (wC D P) K (mX12_at d_) (xQ (wC D P) K Z) (g, τ) 0 [(0, .ref x0), (1, .ref x1)] [] := by
  unfold f_c_X12_at at hf
  refine xr_aload_n (pc := 0) 1 dX12_at_0 rfl rfl ?_
  obtain ⟨ht1, hf⟩ := xo_if hf
  obtain ⟨b2, hb2, hf⟩ := xo_bind hf
  refine yc_getFsN (pc := 1) 5 0 500 (gKo ht1 (by decide)) (by decide) (by decide) (by decide) rfl rfl hb2 q420 (ys_eq rfl) rfl dX12_at_1 ?_
  refine xr_aload_n (pc := 4) 0 dX12_at_4 rfl rfl ?_
  obtain ⟨ht3, hf⟩ := xo_if hf
  refine yc_getI (pc := 5) 11 0 1100 (gKo ht3 (by decide)) (by decide) (by decide) (by decide) rfl rfl q1077 (ys_eq rfl) rfl dX12_at_5 ?_
  obtain ⟨ht4, hf⟩ := xo_if hf
  obtain ⟨hi_, hf⟩ := xo_if hf
  refine yc_lald (pc := 8) (gKo ht4 (by decide)) hi_ dX12_at_8 ?_
  obtain ⟨r5, τ5, hτ5, hf⟩ := xo_bd hf
  refine call_f_c_X0_held_X12_19 (pc := 9) hτ5 rfl (by show 2 ≤ 13 + d_; omega) (by show 81 ≤ 60 * (13 + d_); omega) (Nat.le_of_ble_eq_true rfl) dX12_at_9 ?_
  rw [kr _ (Option.some.inj hf).symm]
  exact xr_lret (pc := 12) dX12_at_12 rfl
theorem met_f_c_X12_at (l : Launch) {D : CD} {P : CP} {d_ : Nat} {g : CG} {x0 : Nat} {x1 : Nat} {τ : CC} {o_ : (Int64 × CC)} (hf : f_c_X12_at g x0 x1 τ = some o_) : xMet (wC D P) l yX12_at (ws_ yX12_at cX12_at 2 (some .long)) (13 + d_) (60 * (13 + d_)) (grc g) (grs g) [.ref x0, .ref x1] (g, τ) (some (.long o_.1), (g, o_.2)) := 
  xMet_of (by decide) (Nat.le_of_ble_eq_true rfl) KC_moved RPC_of (fun K _ _ _ => ok_f_c_X12_at (d_ := d_) hf (fun _ h => by rw [h]))
abbrev mJ12_max : xM := (cJ12_max, 2, RJ12, 0, 0, (some .int), "max")
def f_c_J12_max (g : CG) (x0 : Int32) (x1 : Int32) (τ : CC) : Option (Int32 × CC) :=
  if x0 < x1 then
  some ((x1, τ))
  else
  some ((x0, τ))
theorem ok_f_c_J12_max {D : CD} {P : CP} {K : xK} {g : CG} {Z : Option Value × CS} {x0 : Int32} {x1 : Int32} {τ : CC} {o_ : (Int32 × CC)} (hf : f_c_J12_max g x0 x1 τ = some o_) (kr : ∀ r_ : (Int32 × CC), o_ = r_ → Z = (some (.int r_.1), (g, r_.2))) : xV (wC D P) K mJ12_max (xQ (wC D P) K Z) (g, τ) 0 [(0, .int x0), (1, .int x1)] [] := by
  unfold f_c_J12_max at hf
  refine xr_iload_n (pc := 0) 0 dJ12_max_0 rfl rfl ?_
  refine xr_iload_n (pc := 1) 1 dJ12_max_1 rfl rfl ?_
  refine xr_icmp_lt (pc := 2) 9 dJ12_max_2 (by decide) (fun c_ => ?_) (fun c_ => ?_)
  · have hf := xo_pos c_ hf
    refine xr_iload_n (pc := 9) 1 dJ12_max_9 rfl rfl ?_
    rw [kr _ (Option.some.inj hf).symm]
    exact xr_iret (pc := 10) dJ12_max_10 rfl
  · have hf := xo_neg c_ hf
    refine xr_iload_n (pc := 5) 0 dJ12_max_5 rfl rfl ?_
    refine xr_goto (pc := 6) 10 dJ12_max_6 (by decide) ?_
    rw [kr _ (Option.some.inj hf).symm]
    exact xr_iret (pc := 10) dJ12_max_10 rfl
theorem met_f_c_J12_max (l : Launch) {D : CD} {P : CP} {g : CG} {x0 : Int32} {x1 : Int32} {τ : CC} {o_ : (Int32 × CC)} (hf : f_c_J12_max g x0 x1 τ = some o_) : xMet (wC D P) l yJ12_max (ws_ yJ12_max cJ12_max 2 (some .int)) 0 0 (grc g) (grs g) [.int x0, .int x1] (g, τ) (some (.int o_.1), (g, o_.2)) := 
  xMet_ofF (by decide +kernel) (Nat.le_of_ble_eq_true rfl) KC_moved RPC_of (fun K _ _ _ => ok_f_c_J12_max hf (fun _ h => by rw [h]))
theorem hd_f_c_J12_max : yJ12_max.cls ≠ "java/lang/invoke/MethodHandle" ∧ yJ12_max.cls ≠ "java/lang/invoke/VarHandle" ∧ (parseMethodDescriptor yJ12_max.desc).map (fun d => d.parameters.length) = some 2 := by decide +kernel
theorem call_f_c_J12_max_X5_72 {D : CD} {P : CP} {K : xK} {M : xM} {Q : State → Prop} {g : CG} {c : CC} {x0 : Int32} {x1 : Int32} {pc : Nat} {loc : List (Nat × Value)} {st : List Value} {r : Int32} {c1 : CC} (hf : f_c_J12_max g x0 x1 c = some (r, c1)) (ho : M.2.2.1 = RX5) (hfr : 1 ≤ M.2.2.2.1) (hlo : 21 ≤ M.2.2.2.2.1) (hcat : (st.map fun v => v.category).sum ≤ 8) (d : decode M.1 pc = .ok (.invokestatic 72, 3)) (k : xV (wC D P) K M Q (g, c1) (pc + 3) loc (.int r :: st)) : xV (wC D P) K M Q (g, c) pc loc (.int x1 :: .int x0 :: st) :=
  yc_callS (As := [.int x0, .int x1]) (rest := st) (met_f_c_J12_max K.2.1 hf) (lw_S q1286 q925 q194 q926) hd_f_c_J12_max ho hfr hlo rfl rfl hcat d k
abbrev mX5_before : xM := (cX5_before, 2, RX5, 1, 60, (some .int), "before")
def f_c_X5_before (g : CG) (x0 : Nat) (x1 : Int32) (τ : CC) : Option (Int32 × CC) :=
  if gT g x0 = 6 then
  (gR g 603 x0).bind fun b2 =>
  xbd (f_c_J12_max g 0 (x1 - 1) τ) fun r3 τ3 =>
  if gT g b2 = 100 then
  if xin r3 (gN g b2) = true then
  some ((cA τ3 b2 r3.toNatClampNeg, τ3))
  else none
  else none
  else none
theorem ok_f_c_X5_before {D : CD} {P : CP} {K : xK} {g : CG} {Z : Option Value × CS} {x0 : Nat} {x1 : Int32} {τ : CC} {o_ : (Int32 × CC)} (hf : f_c_X5_before g x0 x1 τ = some o_) (kr : ∀ r_ : (Int32 × CC), o_ = r_ → Z = (some (.int r_.1), (g, r_.2))) : xV (wC D P) K mX5_before (xQ (wC D P) K Z) (g, τ) 0 [(0, .ref x0), (1, .int x1)] [] := by
  unfold f_c_X5_before at hf
  refine xr_aload_n (pc := 0) 0 dX5_before_0 rfl rfl ?_
  obtain ⟨ht1, hf⟩ := xo_if hf
  obtain ⟨b2, hb2, hf⟩ := xo_bind hf
  refine yc_getFs (pc := 1) 6 3 603 (gKo ht1 (by decide)) (by decide) (by decide) (by decide) rfl rfl hb2 q440 (ys_eq rfl) rfl dX5_before_1 ?_
  refine xr_iconst (pc := 4) dX5_before_4 xci_0 ?_
  refine xr_iload_n (pc := 5) 1 dX5_before_5 rfl rfl ?_
  refine xr_iconst (pc := 6) dX5_before_6 xci_1 ?_
  refine xr_isub (pc := 7) dX5_before_7 ?_
  obtain ⟨r3, τ3, hτ3, hf⟩ := xo_bd hf
  refine call_f_c_J12_max_X5_72 (pc := 8) hτ3 rfl (Nat.le_of_ble_eq_true rfl) (Nat.le_of_ble_eq_true rfl) (Nat.le_of_ble_eq_true rfl) dX5_before_8 ?_
  obtain ⟨ht4, hf⟩ := xo_if hf
  obtain ⟨hi_, hf⟩ := xo_if hf
  refine yc_iald (pc := 11) (gKo ht4 (by decide)) hi_ dX5_before_11 ?_
  rw [kr _ (Option.some.inj hf).symm]
  exact xr_iret (pc := 12) dX5_before_12 rfl
theorem met_f_c_X5_before (l : Launch) {D : CD} {P : CP} {g : CG} {x0 : Nat} {x1 : Int32} {τ : CC} {o_ : (Int32 × CC)} (hf : f_c_X5_before g x0 x1 τ = some o_) : xMet (wC D P) l yX5_before (ws_ yX5_before cX5_before 2 (some .int)) 1 60 (grc g) (grs g) [.ref x0, .int x1] (g, τ) (some (.int o_.1), (g, o_.2)) := 
  xMet_of (by decide) (Nat.le_of_ble_eq_true rfl) KC_moved RPC_of (fun K _ _ _ => ok_f_c_X5_before hf (fun _ h => by rw [h]))
abbrev mJ12_min : xM := (cJ12_min, 2, RJ12, 0, 0, (some .int), "min")
def f_c_J12_min (g : CG) (x0 : Int32) (x1 : Int32) (τ : CC) : Option (Int32 × CC) :=
  if x1 < x0 then
  some ((x1, τ))
  else
  some ((x0, τ))
theorem ok_f_c_J12_min {D : CD} {P : CP} {K : xK} {g : CG} {Z : Option Value × CS} {x0 : Int32} {x1 : Int32} {τ : CC} {o_ : (Int32 × CC)} (hf : f_c_J12_min g x0 x1 τ = some o_) (kr : ∀ r_ : (Int32 × CC), o_ = r_ → Z = (some (.int r_.1), (g, r_.2))) : xV (wC D P) K mJ12_min (xQ (wC D P) K Z) (g, τ) 0 [(0, .int x0), (1, .int x1)] [] := by
  unfold f_c_J12_min at hf
  refine xr_iload_n (pc := 0) 0 dJ12_min_0 rfl rfl ?_
  refine xr_iload_n (pc := 1) 1 dJ12_min_1 rfl rfl ?_
  refine xr_icmp_gt (pc := 2) 9 dJ12_min_2 (by decide) (fun c_ => ?_) (fun c_ => ?_)
  · have hf := xo_pos c_ hf
    refine xr_iload_n (pc := 9) 1 dJ12_min_9 rfl rfl ?_
    rw [kr _ (Option.some.inj hf).symm]
    exact xr_iret (pc := 10) dJ12_min_10 rfl
  · have hf := xo_neg c_ hf
    refine xr_iload_n (pc := 5) 0 dJ12_min_5 rfl rfl ?_
    refine xr_goto (pc := 6) 10 dJ12_min_6 (by decide) ?_
    rw [kr _ (Option.some.inj hf).symm]
    exact xr_iret (pc := 10) dJ12_min_10 rfl
theorem met_f_c_J12_min (l : Launch) {D : CD} {P : CP} {g : CG} {x0 : Int32} {x1 : Int32} {τ : CC} {o_ : (Int32 × CC)} (hf : f_c_J12_min g x0 x1 τ = some o_) : xMet (wC D P) l yJ12_min (ws_ yJ12_min cJ12_min 2 (some .int)) 0 0 (grc g) (grs g) [.int x0, .int x1] (g, τ) (some (.int o_.1), (g, o_.2)) := 
  xMet_ofF (by decide +kernel) (Nat.le_of_ble_eq_true rfl) KC_moved RPC_of (fun K _ _ _ => ok_f_c_J12_min hf (fun _ h => by rw [h]))
theorem call_f_c_X0_columns_X5_78 {D : CD} {P : CP} {K : xK} {M : xM} {Q : State → Prop} {g : CG} {c : CC} {x0 : Nat} {pc : Nat} {loc : List (Nat × Value)} {st : List Value} {r : Int32} {c1 : CC} (hf : f_c_X0_columns g x0 c = some (r, c1)) (hr : gK g x0 = 1) (ho : M.2.2.1 = RX5) (hfr : 1 ≤ M.2.2.2.1) (hlo : 20 ≤ M.2.2.2.2.1) (hcat : (st.map fun v => v.category).sum ≤ 8) (d : decode M.1 pc = .ok (.invokevirtual 78, 3)) (k : xV (wC D P) K M Q (g, c1) (pc + 3) loc (.int r :: st)) : xV (wC D P) K M Q (g, c) pc loc (.ref x0 :: st) :=
  yc_callVN (As := []) (rest := st) (met_f_c_X0_columns K.2.1 hf) (lw_meth q1271) q1277 q1270 qs36 q174 ⟨rfl, hd_f_c_X0_columns⟩ ho hfr hlo rfl hr (by decide) (by decide) rfl rfl hcat d k
theorem hd_f_c_J12_min : yJ12_min.cls ≠ "java/lang/invoke/MethodHandle" ∧ yJ12_min.cls ≠ "java/lang/invoke/VarHandle" ∧ (parseMethodDescriptor yJ12_min.desc).map (fun d => d.parameters.length) = some 2 := by decide +kernel
theorem call_f_c_J12_min_X5_81 {D : CD} {P : CP} {K : xK} {M : xM} {Q : State → Prop} {g : CG} {c : CC} {x0 : Int32} {x1 : Int32} {pc : Nat} {loc : List (Nat × Value)} {st : List Value} {r : Int32} {c1 : CC} (hf : f_c_J12_min g x0 x1 c = some (r, c1)) (ho : M.2.2.1 = RX5) (hfr : 1 ≤ M.2.2.2.1) (hlo : 21 ≤ M.2.2.2.2.1) (hcat : (st.map fun v => v.category).sum ≤ 8) (d : decode M.1 pc = .ok (.invokestatic 81, 3)) (k : xV (wC D P) K M Q (g, c1) (pc + 3) loc (.int r :: st)) : xV (wC D P) K M Q (g, c) pc loc (.int x1 :: .int x0 :: st) :=
  yc_callS (As := [.int x0, .int x1]) (rest := st) (met_f_c_J12_min K.2.1 hf) (lw_S q1291 q966 q194 q967) hd_f_c_J12_min ho hfr hlo rfl rfl hcat d k
abbrev mX5_behind : xM := (cX5_behind, 2, RX5, 1, 60, (some .int), "behind")
def f_c_X5_behind (g : CG) (x0 : Nat) (x1 : Int32) (τ : CC) : Option (Int32 × CC) :=
  if gT g x0 = 6 then
  (gR g 603 x0).bind fun b2 =>
  (gR g 610 x0).bind fun b3 =>
  if gT g b3 = 1 then
  xbd (f_c_X0_columns g b3 τ) fun r5 τ5 =>
  xbd (f_c_J12_min g (r5 - 1) (x1 + 1) τ5) fun r6 τ6 =>
  if gT g b2 = 100 then
  if xin r6 (gN g b2) = true then
  some ((cA τ6 b2 r6.toNatClampNeg, τ6))
  else none
  else none
  else none
  else none
theorem ok_f_c_X5_behind {D : CD} {P : CP} {K : xK} {g : CG} {Z : Option Value × CS} {x0 : Nat} {x1 : Int32} {τ : CC} {o_ : (Int32 × CC)} (hf : f_c_X5_behind g x0 x1 τ = some o_) (kr : ∀ r_ : (Int32 × CC), o_ = r_ → Z = (some (.int r_.1), (g, r_.2))) : xV (wC D P) K mX5_behind (xQ (wC D P) K Z) (g, τ) 0 [(0, .ref x0), (1, .int x1)] [] := by
  unfold f_c_X5_behind at hf
  refine xr_aload_n (pc := 0) 0 dX5_behind_0 rfl rfl ?_
  obtain ⟨ht1, hf⟩ := xo_if hf
  obtain ⟨b2, hb2, hf⟩ := xo_bind hf
  refine yc_getFs (pc := 1) 6 3 603 (gKo ht1 (by decide)) (by decide) (by decide) (by decide) rfl rfl hb2 q440 (ys_eq rfl) rfl dX5_behind_1 ?_
  refine xr_aload_n (pc := 4) 0 dX5_behind_4 rfl rfl ?_
  obtain ⟨b3, hb3, hf⟩ := xo_bind hf
  refine yc_getFs (pc := 5) 6 10 610 (gKo ht1 (by decide)) (by decide) (by decide) (by decide) rfl rfl hb3 q454 (ys_eq rfl) rfl dX5_behind_5 ?_
  obtain ⟨ht4, hf⟩ := xo_if hf
  obtain ⟨r5, τ5, hτ5, hf⟩ := xo_bd hf
  refine call_f_c_X0_columns_X5_78 (pc := 8) hτ5 (gKo ht4 (by decide)) rfl (Nat.le_of_ble_eq_true rfl) (Nat.le_of_ble_eq_true rfl) (Nat.le_of_ble_eq_true rfl) dX5_behind_8 ?_
  refine xr_iconst (pc := 11) dX5_behind_11 xci_1 ?_
  refine xr_isub (pc := 12) dX5_behind_12 ?_
  refine xr_iload_n (pc := 13) 1 dX5_behind_13 rfl rfl ?_
  refine xr_iconst (pc := 14) dX5_behind_14 xci_1 ?_
  refine xr_iadd (pc := 15) dX5_behind_15 ?_
  obtain ⟨r6, τ6, hτ6, hf⟩ := xo_bd hf
  refine call_f_c_J12_min_X5_81 (pc := 16) hτ6 rfl (Nat.le_of_ble_eq_true rfl) (Nat.le_of_ble_eq_true rfl) (Nat.le_of_ble_eq_true rfl) dX5_behind_16 ?_
  obtain ⟨ht7, hf⟩ := xo_if hf
  obtain ⟨hi_, hf⟩ := xo_if hf
  refine yc_iald (pc := 19) (gKo ht7 (by decide)) hi_ dX5_behind_19 ?_
  rw [kr _ (Option.some.inj hf).symm]
  exact xr_iret (pc := 20) dX5_behind_20 rfl
theorem met_f_c_X5_behind (l : Launch) {D : CD} {P : CP} {g : CG} {x0 : Nat} {x1 : Int32} {τ : CC} {o_ : (Int32 × CC)} (hf : f_c_X5_behind g x0 x1 τ = some o_) : xMet (wC D P) l yX5_behind (ws_ yX5_behind cX5_behind 2 (some .int)) 1 60 (grc g) (grs g) [.ref x0, .int x1] (g, τ) (some (.int o_.1), (g, o_.2)) := 
  xMet_of (by decide) (Nat.le_of_ble_eq_true rfl) KC_moved RPC_of (fun K _ _ _ => ok_f_c_X5_behind hf (fun _ h => by rw [h]))
theorem hd_f_c_X5_before : yX5_before.cls ≠ "java/lang/invoke/MethodHandle" ∧ yX5_before.cls ≠ "java/lang/invoke/VarHandle" ∧ (parseMethodDescriptor yX5_before.desc).map (fun d => d.parameters.length) = some 1 := by decide +kernel
theorem call_f_c_X5_before_X5_84 {D : CD} {P : CP} {K : xK} {M : xM} {Q : State → Prop} {g : CG} {c : CC} {x0 : Nat} {x1 : Int32} {pc : Nat} {loc : List (Nat × Value)} {st : List Value} {r : Int32} {c1 : CC} (hf : f_c_X5_before g x0 x1 c = some (r, c1)) (hr : gK g x0 = 6) (ho : M.2.2.1 = RX5) (hfr : 2 ≤ M.2.2.2.1) (hlo : 81 ≤ M.2.2.2.2.1) (hcat : (st.map fun v => v.category).sum ≤ 8) (d : decode M.1 pc = .ok (.invokevirtual 84, 3)) (k : xV (wC D P) K M Q (g, c1) (pc + 3) loc (.int r :: st)) : xV (wC D P) K M Q (g, c) pc loc (.int x1 :: .ref x0 :: st) :=
  yc_callV (As := [.int x1]) (rest := st) (met_f_c_X5_before K.2.1 hf) (lw_V q1282 q1283 q1284 q185 q1285) ⟨rfl, hd_f_c_X5_before⟩ ho hfr hlo rfl hr (by decide) (by decide) rfl rfl hcat d k
theorem hd_f_c_X5_behind : yX5_behind.cls ≠ "java/lang/invoke/MethodHandle" ∧ yX5_behind.cls ≠ "java/lang/invoke/VarHandle" ∧ (parseMethodDescriptor yX5_behind.desc).map (fun d => d.parameters.length) = some 1 := by decide +kernel
theorem call_f_c_X5_behind_X5_88 {D : CD} {P : CP} {K : xK} {M : xM} {Q : State → Prop} {g : CG} {c : CC} {x0 : Nat} {x1 : Int32} {pc : Nat} {loc : List (Nat × Value)} {st : List Value} {r : Int32} {c1 : CC} (hf : f_c_X5_behind g x0 x1 c = some (r, c1)) (hr : gK g x0 = 6) (ho : M.2.2.1 = RX5) (hfr : 2 ≤ M.2.2.2.1) (hlo : 81 ≤ M.2.2.2.2.1) (hcat : (st.map fun v => v.category).sum ≤ 8) (d : decode M.1 pc = .ok (.invokevirtual 88, 3)) (k : xV (wC D P) K M Q (g, c1) (pc + 3) loc (.int r :: st)) : xV (wC D P) K M Q (g, c) pc loc (.int x1 :: .ref x0 :: st) :=
  yc_callV (As := [.int x1]) (rest := st) (met_f_c_X5_behind K.2.1 hf) (lw_V q1287 q1288 q1289 q185 q1290) ⟨rfl, hd_f_c_X5_behind⟩ ho hfr hlo rfl hr (by decide) (by decide) rfl rfl hcat d k
theorem hd_f_c_X0_turnOf : yX0_turnOf.cls ≠ "java/lang/invoke/MethodHandle" ∧ yX0_turnOf.cls ≠ "java/lang/invoke/VarHandle" ∧ (parseMethodDescriptor yX0_turnOf.desc).map (fun d => d.parameters.length) = some 4 := by decide +kernel
theorem call_f_c_X0_turnOf_X5_91 {D : CD} {P : CP} {K : xK} {M : xM} {Q : State → Prop} {g : CG} {c : CC} {x0 : Nat} {x1 : Int32} {x2 : Int32} {x3 : Int32} {x4 : Int32} {pc : Nat} {loc : List (Nat × Value)} {st : List Value} {r : Int32} {c1 : CC} (hf : f_c_X0_turnOf g x0 x1 x2 x3 x4 c = some (r, c1)) (hr : gK g x0 = 1) (ho : M.2.2.1 = RX5) (hfr : 2 ≤ M.2.2.2.1) (hlo : 84 ≤ M.2.2.2.2.1) (hcat : (st.map fun v => v.category).sum ≤ 8) (d : decode M.1 pc = .ok (.invokevirtual 91, 3)) (k : xV (wC D P) K M Q (g, c1) (pc + 3) loc (.int r :: st)) : xV (wC D P) K M Q (g, c) pc loc (.int x4 :: .int x3 :: .int x2 :: .int x1 :: .ref x0 :: st) :=
  yc_callVN (As := [.int x1, .int x2, .int x3, .int x4]) (rest := st) (met_f_c_X0_turnOf K.2.1 hf) (lw_meth q1299) q1364 q1298 qs38 q174 ⟨rfl, hd_f_c_X0_turnOf⟩ ho hfr hlo rfl hr (by decide) (by decide) rfl rfl hcat d k
abbrev mX5_turn : xM := (cX5_turn, 2, RX5, 2, 120, (some .int), "turn")
def f_c_X5_turn (g : CG) (x0 : Nat) (x1 : Int32) (τ : CC) : Option (Int32 × CC) :=
  if gT g x0 = 6 then
  (gR g 610 x0).bind fun b2 =>
  xbd (f_c_X5_before g x0 x1 τ) fun r3 τ3 =>
  (gR g 603 x0).bind fun b4 =>
  if gT g b4 = 100 then
  if xin x1 (gN g b4) = true then
  xbd (f_c_X5_behind g x0 x1 τ3) fun r6 τ6 =>
  if gT g b2 = 1 then
  xbd (f_c_X0_turnOf g b2 x1 r3 (cA τ3 b4 x1.toNatClampNeg) r6 τ6) fun r8 τ8 =>
  some ((r8, τ8))
  else none
  else none
  else none
  else none
theorem ok_f_c_X5_turn {D : CD} {P : CP} {K : xK} {g : CG} {Z : Option Value × CS} {x0 : Nat} {x1 : Int32} {τ : CC} {o_ : (Int32 × CC)} (hf : f_c_X5_turn g x0 x1 τ = some o_) (kr : ∀ r_ : (Int32 × CC), o_ = r_ → Z = (some (.int r_.1), (g, r_.2))) : xV (wC D P) K mX5_turn (xQ (wC D P) K Z) (g, τ) 0 [(0, .ref x0), (1, .int x1)] [] := by
  unfold f_c_X5_turn at hf
  refine xr_aload_n (pc := 0) 0 dX5_turn_0 rfl rfl ?_
  obtain ⟨ht1, hf⟩ := xo_if hf
  obtain ⟨b2, hb2, hf⟩ := xo_bind hf
  refine yc_getFs (pc := 1) 6 10 610 (gKo ht1 (by decide)) (by decide) (by decide) (by decide) rfl rfl hb2 q454 (ys_eq rfl) rfl dX5_turn_1 ?_
  refine xr_iload_n (pc := 4) 1 dX5_turn_4 rfl rfl ?_
  refine xr_aload_n (pc := 5) 0 dX5_turn_5 rfl rfl ?_
  refine xr_iload_n (pc := 6) 1 dX5_turn_6 rfl rfl ?_
  obtain ⟨r3, τ3, hτ3, hf⟩ := xo_bd hf
  refine call_f_c_X5_before_X5_84 (pc := 7) hτ3 (gKo ht1 (by decide)) rfl (Nat.le_of_ble_eq_true rfl) (Nat.le_of_ble_eq_true rfl) (Nat.le_of_ble_eq_true rfl) dX5_turn_7 ?_
  refine xr_aload_n (pc := 10) 0 dX5_turn_10 rfl rfl ?_
  obtain ⟨b4, hb4, hf⟩ := xo_bind hf
  refine yc_getFs (pc := 11) 6 3 603 (gKo ht1 (by decide)) (by decide) (by decide) (by decide) rfl rfl hb4 q440 (ys_eq rfl) rfl dX5_turn_11 ?_
  refine xr_iload_n (pc := 14) 1 dX5_turn_14 rfl rfl ?_
  obtain ⟨ht5, hf⟩ := xo_if hf
  obtain ⟨hi_, hf⟩ := xo_if hf
  refine yc_iald (pc := 15) (gKo ht5 (by decide)) hi_ dX5_turn_15 ?_
  refine xr_aload_n (pc := 16) 0 dX5_turn_16 rfl rfl ?_
  refine xr_iload_n (pc := 17) 1 dX5_turn_17 rfl rfl ?_
  obtain ⟨r6, τ6, hτ6, hf⟩ := xo_bd hf
  refine call_f_c_X5_behind_X5_88 (pc := 18) hτ6 (gKo ht1 (by decide)) rfl (Nat.le_of_ble_eq_true rfl) (Nat.le_of_ble_eq_true rfl) (Nat.le_of_ble_eq_true rfl) dX5_turn_18 ?_
  obtain ⟨ht7, hf⟩ := xo_if hf
  obtain ⟨r8, τ8, hτ8, hf⟩ := xo_bd hf
  refine call_f_c_X0_turnOf_X5_91 (pc := 21) hτ8 (gKo ht7 (by decide)) rfl (Nat.le_of_ble_eq_true rfl) (Nat.le_of_ble_eq_true rfl) (Nat.le_of_ble_eq_true rfl) dX5_turn_21 ?_
  rw [kr _ (Option.some.inj hf).symm]
  exact xr_iret (pc := 24) dX5_turn_24 rfl
theorem met_f_c_X5_turn (l : Launch) {D : CD} {P : CP} {g : CG} {x0 : Nat} {x1 : Int32} {τ : CC} {o_ : (Int32 × CC)} (hf : f_c_X5_turn g x0 x1 τ = some o_) : xMet (wC D P) l yX5_turn (ws_ yX5_turn cX5_turn 2 (some .int)) 2 120 (grc g) (grs g) [.ref x0, .int x1] (g, τ) (some (.int o_.1), (g, o_.2)) := 
  xMet_of (by decide) (Nat.le_of_ble_eq_true rfl) KC_moved RPC_of (fun K _ _ _ => ok_f_c_X5_turn hf (fun _ h => by rw [h]))
theorem hd_f_c_X5_turn : yX5_turn.cls ≠ "java/lang/invoke/MethodHandle" ∧ yX5_turn.cls ≠ "java/lang/invoke/VarHandle" ∧ (parseMethodDescriptor yX5_turn.desc).map (fun d => d.parameters.length) = some 1 := by decide +kernel
theorem call_f_c_X5_turn_X0_241 {D : CD} {P : CP} {K : xK} {M : xM} {Q : State → Prop} {g : CG} {c : CC} {x0 : Nat} {x1 : Int32} {pc : Nat} {loc : List (Nat × Value)} {st : List Value} {r : Int32} {c1 : CC} (hf : f_c_X5_turn g x0 x1 c = some (r, c1)) (hr : gK g x0 = 6) (ho : M.2.2.1 = RX0) (hfr : 3 ≤ M.2.2.2.1) (hlo : 141 ≤ M.2.2.2.2.1) (hcat : (st.map fun v => v.category).sum ≤ 8) (d : decode M.1 pc = .ok (.invokevirtual 241, 3)) (k : xV (wC D P) K M Q (g, c1) (pc + 3) loc (.int r :: st)) : xV (wC D P) K M Q (g, c) pc loc (.int x1 :: .ref x0 :: st) :=
  yc_callV (As := [.int x1]) (rest := st) (met_f_c_X5_turn K.2.1 hf) (lw_V q1360 q1361 q1362 q185 q1363) ⟨rfl, hd_f_c_X5_turn⟩ ho hfr hlo rfl hr (by decide) (by decide) rfl rfl hcat d k
abbrev mX0_looked : xM := (cX0_looked, 4, RX0, 3, 180, (some .long), "looked")
def f_c_X0_looked (g : CG) (x0 : Nat) (x1 : Int32) (x2 : Int64) (τ : CC) : Option (Int64 × CC) :=
  if (lg_cmp x2 0) < 0 then
  some (((-1), τ))
  else
  if gT g x0 = 1 then
  xbd (f_c_X0_columns g x0 τ) fun r2 τ2 =>
  if (lg_cmp x2 r2.toInt64) < 0 then
  if x1 = 0 then
  (gR g 109 x0).bind fun b3 =>
  if gT g b3 = 6 then
  (gR g 603 b3).bind fun b5 =>
  if gT g b5 = 100 then
  if xin x2.toInt32 (gN g b5) = true then
  some (((cA τ2 b5 x2.toInt32.toNatClampNeg).toInt64, τ2))
  else none
  else none
  else none
  else
  (gR g 109 x0).bind fun b7 =>
  if gT g b7 = 6 then
  xbd (f_c_X5_turn g b7 x2.toInt32 τ2) fun r9 τ9 =>
  some ((r9.toInt64, τ9))
  else none
  else
  some (((-1), τ2))
  else none
theorem ok_f_c_X0_looked {D : CD} {P : CP} {K : xK} {g : CG} {Z : Option Value × CS} {x0 : Nat} {x1 : Int32} {x2 : Int64} {τ : CC} {o_ : (Int64 × CC)} (hf : f_c_X0_looked g x0 x1 x2 τ = some o_) (kr : ∀ r_ : (Int64 × CC), o_ = r_ → Z = (some (.long r_.1), (g, r_.2))) : xV (wC D P) K mX0_looked (xQ (wC D P) K Z) (g, τ) 0 [(0, .ref x0), (1, .int x1), (2, .long x2)] [] := by
  unfold f_c_X0_looked at hf
  refine xr_lload_n (pc := 0) 2 dX0_looked_0 rfl rfl ?_
  refine xr_lconst (pc := 1) dX0_looked_1 (by decide : _ = (0 : Int64)) ?_
  refine xr_lcmp (pc := 2) dX0_looked_2 ?_
  refine xr_if_lt (pc := 3) 16 dX0_looked_3 (by decide) (fun c_ => ?_) (fun c_ => ?_)
  · have hf := xo_pos c_ hf
    refine xr_ldc2 (pc := 16) q1359 dX0_looked_16 ?_
    rw [kr _ (Option.some.inj hf).symm]
    exact xr_lret (pc := 19) dX0_looked_19 rfl
  · have hf := xo_neg c_ hf
    refine xr_lload_n (pc := 6) 2 dX0_looked_6 rfl rfl ?_
    refine xr_aload_n (pc := 7) 0 dX0_looked_7 rfl rfl ?_
    obtain ⟨ht1, hf⟩ := xo_if hf
    obtain ⟨r2, τ2, hτ2, hf⟩ := xo_bd hf
    refine call_f_c_X0_columns_X0_169 (pc := 8) hτ2 (gKo ht1 (by decide)) rfl (Nat.le_of_ble_eq_true rfl) (Nat.le_of_ble_eq_true rfl) (Nat.le_of_ble_eq_true rfl) dX0_looked_8 ?_
    refine xr_i2l (pc := 11) dX0_looked_11 ?_
    refine xr_lcmp (pc := 12) dX0_looked_12 ?_
    refine xr_if_lt (pc := 13) 20 dX0_looked_13 (by decide) (fun c_ => ?_) (fun c_ => ?_)
    · have hf := xo_pos c_ hf
      refine xr_iload_n (pc := 20) 1 dX0_looked_20 rfl rfl ?_
      refine xr_if_ne (pc := 21) 38 dX0_looked_21 (by decide) (fun c_ => ?_) (fun c_ => ?_)
      · have hf := xo_pos c_ hf
        refine xr_aload_n (pc := 24) 0 dX0_looked_24 rfl rfl ?_
        obtain ⟨b3, hb3, hf⟩ := xo_bind hf
        refine yc_getFs (pc := 25) 1 9 109 (gKo ht1 (by decide)) (by decide) (by decide) (by decide) rfl rfl hb3 q495 (ys_eq rfl) rfl dX0_looked_25 ?_
        obtain ⟨ht4, hf⟩ := xo_if hf
        obtain ⟨b5, hb5, hf⟩ := xo_bind hf
        refine yc_getFsN (pc := 28) 6 3 603 (gKo ht4 (by decide)) (by decide) (by decide) (by decide) rfl rfl hb5 q441 (ys_eq rfl) rfl dX0_looked_28 ?_
        refine xr_lload_n (pc := 31) 2 dX0_looked_31 rfl rfl ?_
        refine xr_l2i (pc := 32) dX0_looked_32 ?_
        obtain ⟨ht6, hf⟩ := xo_if hf
        obtain ⟨hi_, hf⟩ := xo_if hf
        refine yc_iald (pc := 33) (gKo ht6 (by decide)) hi_ dX0_looked_33 ?_
        refine xr_i2l (pc := 34) dX0_looked_34 ?_
        refine xr_goto (pc := 35) 48 dX0_looked_35 (by decide) ?_
        rw [kr _ (Option.some.inj hf).symm]
        exact xr_lret (pc := 48) dX0_looked_48 rfl
      · have hf := xo_neg c_ hf
        refine xr_aload_n (pc := 38) 0 dX0_looked_38 rfl rfl ?_
        obtain ⟨b7, hb7, hf⟩ := xo_bind hf
        refine yc_getFs (pc := 39) 1 9 109 (gKo ht1 (by decide)) (by decide) (by decide) (by decide) rfl rfl hb7 q495 (ys_eq rfl) rfl dX0_looked_39 ?_
        refine xr_lload_n (pc := 42) 2 dX0_looked_42 rfl rfl ?_
        refine xr_l2i (pc := 43) dX0_looked_43 ?_
        obtain ⟨ht8, hf⟩ := xo_if hf
        obtain ⟨r9, τ9, hτ9, hf⟩ := xo_bd hf
        refine call_f_c_X5_turn_X0_241 (pc := 44) hτ9 (gKo ht8 (by decide)) rfl (Nat.le_of_ble_eq_true rfl) (Nat.le_of_ble_eq_true rfl) (Nat.le_of_ble_eq_true rfl) dX0_looked_44 ?_
        refine xr_i2l (pc := 47) dX0_looked_47 ?_
        rw [kr _ (Option.some.inj hf).symm]
        exact xr_lret (pc := 48) dX0_looked_48 rfl
    · have hf := xo_neg c_ hf
      refine xr_ldc2 (pc := 16) q1359 dX0_looked_16 ?_
      rw [kr _ (Option.some.inj hf).symm]
      exact xr_lret (pc := 19) dX0_looked_19 rfl
theorem met_f_c_X0_looked (l : Launch) {D : CD} {P : CP} {g : CG} {x0 : Nat} {x1 : Int32} {x2 : Int64} {τ : CC} {o_ : (Int64 × CC)} (hf : f_c_X0_looked g x0 x1 x2 τ = some o_) : xMet (wC D P) l yX0_looked (ws_ yX0_looked cX0_looked 4 (some .long)) 3 180 (grc g) (grs g) [.ref x0, .int x1, .long x2] (g, τ) (some (.long o_.1), (g, o_.2)) := 
  xMet_of (by decide) (Nat.le_of_ble_eq_true rfl) KC_moved RPC_of (fun K _ _ _ => ok_f_c_X0_looked hf (fun _ h => by rw [h]))
theorem call_d_at_X13_21 {D : CD} {P : CP} {K : xK} {M : xM} {Q : State → Prop} {g : CG} {c : CC} {a m d_ : Nat} {f_ : Nat → Nat → CG → CC → Option (Int64 × CC)} {pc : Nat} {loc : List (Nat × Value)} {st : List Value} {r : Int64} {c1 : CC} (H : DAT D P d_ f_) (hf : f_ a m g c = some (r, c1)) (ho : M.2.2.1 = RX13) (hfr : 12 + d_ + 1 ≤ M.2.2.2.1) (hlo : 60 * (12 + d_) + 60 ≤ M.2.2.2.2.1) (hcat : (st.map fun v => v.category).sum ≤ 8) (d : decode M.1 pc = .ok (.invokevirtual 21, 3)) (k : xV (wC D P) K M Q (g, c1) (pc + 3) loc (.long r :: st)) : xV (wC D P) K M Q (g, c) pc loc (.ref m :: .ref a :: st) := by
  rcases H K.2.1 a m g c r c1 hf with ⟨ht, hM⟩ | ⟨ht, hM⟩ | ⟨ht, hM⟩ | ⟨ht, hM⟩ | ⟨ht, hM⟩
  · exact yc_callA (n := 1) (As := [.ref m]) (rest := st) (z := ⟨"BentRiver$Value", "at", "(LBentRiver$Moment;)J"⟩) hM (lw_2 q1351 q1325 (lw_2 q1385 q1347 (lw_1 q202 (lw_meth q1348)))) q1324 (by decide +kernel) ho hfr (by omega) rfl ht (by decide) (by decide) rfl rfl hcat d k
  · exact yc_callA (n := 1) (As := [.ref m]) (rest := st) (z := ⟨"BentRiver$Value", "at", "(LBentRiver$Moment;)J"⟩) hM (lw_2 q1351 q1325 (lw_2 q1326 q1327 (lw_1 q203 (lw_meth q1328)))) q1324 (by decide +kernel) ho hfr (by omega) rfl ht (by decide) (by decide) rfl rfl hcat d k
  · exact yc_callA (n := 1) (As := [.ref m]) (rest := st) (z := ⟨"BentRiver$Value", "at", "(LBentRiver$Moment;)J"⟩) hM (lw_2 q1351 q1325 (lw_2 q1387 q1352 (lw_1 q201 (lw_meth q1353)))) q1324 (by decide +kernel) ho hfr (by omega) rfl ht (by decide) (by decide) rfl rfl hcat d k
  · exact yc_callA (n := 1) (As := [.ref m]) (rest := st) (z := ⟨"BentRiver$Value", "at", "(LBentRiver$Moment;)J"⟩) hM (lw_2 q1351 q1325 (lw_2 q1340 q1341 (lw_1 q198 (lw_meth q1342)))) q1324 (by decide +kernel) ho hfr (by omega) rfl ht (by decide) (by decide) rfl rfl hcat d k
  · exact yc_callA (n := 1) (As := [.ref m]) (rest := st) (z := ⟨"BentRiver$Value", "at", "(LBentRiver$Moment;)J"⟩) hM (lw_2 q1351 q1325 (lw_2 q1386 q1349 (lw_1 q204 (lw_meth q1350)))) q1324 (by decide +kernel) ho hfr (by omega) rfl ht (by decide) (by decide) rfl rfl hcat d k
theorem hd_f_c_X0_looked : yX0_looked.cls ≠ "java/lang/invoke/MethodHandle" ∧ yX0_looked.cls ≠ "java/lang/invoke/VarHandle" ∧ (parseMethodDescriptor yX0_looked.desc).map (fun d => d.parameters.length) = some 2 := by decide +kernel
theorem call_f_c_X0_looked_X13_25 {D : CD} {P : CP} {K : xK} {M : xM} {Q : State → Prop} {g : CG} {c : CC} {x0 : Nat} {x1 : Int32} {x2 : Int64} {pc : Nat} {loc : List (Nat × Value)} {st : List Value} {r : Int64} {c1 : CC} (hf : f_c_X0_looked g x0 x1 x2 c = some (r, c1)) (hr : gK g x0 = 1) (ho : M.2.2.1 = RX13) (hfr : 4 ≤ M.2.2.2.1) (hlo : 203 ≤ M.2.2.2.2.1) (hcat : (st.map fun v => v.category).sum ≤ 8) (d : decode M.1 pc = .ok (.invokevirtual 25, 3)) (k : xV (wC D P) K M Q (g, c1) (pc + 3) loc (.long r :: st)) : xV (wC D P) K M Q (g, c) pc loc (.long x2 :: .int x1 :: .ref x0 :: st) :=
  yc_callVN (As := [.int x1, .long x2]) (rest := st) (met_f_c_X0_looked K.2.1 hf) (lw_meth q1358) q1355 q1357 qs39 q174 ⟨rfl, hd_f_c_X0_looked⟩ ho hfr hlo rfl hr (by decide) (by decide) rfl rfl hcat d k
theorem call_f_c_X0_held_X13_31 {D : CD} {P : CP} {K : xK} {M : xM} {Q : State → Prop} {g : CG} {c : CC} {x0 : Int64} {pc : Nat} {loc : List (Nat × Value)} {st : List Value} {r : Int64} {c1 : CC} (hf : f_c_X0_held g x0 c = some (r, c1)) (ho : M.2.2.1 = RX13) (hfr : 2 ≤ M.2.2.2.1) (hlo : 81 ≤ M.2.2.2.2.1) (hcat : (st.map fun v => v.category).sum ≤ 8) (d : decode M.1 pc = .ok (.invokestatic 31, 3)) (k : xV (wC D P) K M Q (g, c1) (pc + 3) loc (.long r :: st)) : xV (wC D P) K M Q (g, c) pc loc (.long x0 :: st) :=
  yc_callSN (As := [.long x0]) (rest := st) (met_f_c_X0_held K.2.1 hf) (lw_meth q1331) q1365 q1330 q174 hd_f_c_X0_held ho hfr hlo rfl rfl hcat d k
abbrev mX13_at (d_ : Nat) : xM := (cX13_at, 2, RX13, 13 + d_, 60 * (13 + d_), (some .long), "at")
def f_c_X13_at (g : CG) (at_ : Nat → Nat → CG → CC → Option (Int64 × CC)) (x0 : Nat) (x1 : Nat) (τ : CC) : Option (Int64 × CC) :=
  if gT g x0 = 12 then
  (gR g 1202 x0).bind fun b2 =>
  (gR g 1201 x0).bind fun b3 =>
  xbd (at_ b3 x1 g τ) fun r4 τ4 =>
  if gT g b2 = 1 then
  xbd (f_c_X0_looked g b2 (cI τ 1200 x0) r4 τ4) fun r6 τ6 =>
  xbd (f_c_X0_held g r6 τ6) fun r7 τ7 =>
  some ((r7, τ7))
  else none
  else none
theorem ok_f_c_X13_at {D : CD} {P : CP} {K : xK} {d_ : Nat} {g : CG} {at_ : Nat → Nat → CG → CC → Option (Int64 × CC)} (Hat : DAT D P d_ at_) {Z : Option Value × CS} {x0 : Nat} {x1 : Nat} {τ : CC} {o_ : (Int64 × CC)} (hf : f_c_X13_at g at_ x0 x1 τ = some o_) (kr : ∀ r_ : (Int64 × CC), o_ = r_ → Z = (some (.long r_.1), (g, r_.2))) : xV (wC D P) K (mX13_at d_) (xQ (wC D P) K Z) (g, τ) 0 [(0, .ref x0), (1, .ref x1)] [] := by
  unfold f_c_X13_at at hf
  refine xr_aload_n (pc := 0) 0 dX13_at_0 rfl rfl ?_
  obtain ⟨ht1, hf⟩ := xo_if hf
  obtain ⟨b2, hb2, hf⟩ := xo_bind hf
  refine yc_getFs (pc := 1) 12 2 1202 (gKo ht1 (by decide)) (by decide) (by decide) (by decide) rfl rfl hb2 q1096 (ys_eq rfl) rfl dX13_at_1 ?_
  refine xr_aload_n (pc := 4) 0 dX13_at_4 rfl rfl ?_
  refine yc_getI (pc := 5) 12 0 1200 (gKo ht1 (by decide)) (by decide) (by decide) (by decide) rfl rfl q1094 (ys_eq rfl) rfl dX13_at_5 ?_
  refine xr_aload_n (pc := 8) 0 dX13_at_8 rfl rfl ?_
  obtain ⟨b3, hb3, hf⟩ := xo_bind hf
  refine yc_getFs (pc := 9) 12 1 1201 (gKo ht1 (by decide)) (by decide) (by decide) (by decide) rfl rfl hb3 q1095 (ys_eq rfl) rfl dX13_at_9 ?_
  refine xr_aload_n (pc := 12) 1 dX13_at_12 rfl rfl ?_
  obtain ⟨r4, τ4, hτ4, hf⟩ := xo_bd hf
  refine call_d_at_X13_21 (pc := 13) Hat hτ4 rfl (by show 12 + d_ + 1 ≤ 13 + d_; omega) (by show 60 * (12 + d_) + 60 ≤ 60 * (13 + d_); omega) (Nat.le_of_ble_eq_true rfl) dX13_at_13 ?_
  obtain ⟨ht5, hf⟩ := xo_if hf
  obtain ⟨r6, τ6, hτ6, hf⟩ := xo_bd hf
  refine call_f_c_X0_looked_X13_25 (pc := 16) hτ6 (gKo ht5 (by decide)) rfl (by show 4 ≤ 13 + d_; omega) (by show 203 ≤ 60 * (13 + d_); omega) (Nat.le_of_ble_eq_true rfl) dX13_at_16 ?_
  obtain ⟨r7, τ7, hτ7, hf⟩ := xo_bd hf
  refine call_f_c_X0_held_X13_31 (pc := 19) hτ7 rfl (by show 2 ≤ 13 + d_; omega) (by show 81 ≤ 60 * (13 + d_); omega) (Nat.le_of_ble_eq_true rfl) dX13_at_19 ?_
  rw [kr _ (Option.some.inj hf).symm]
  exact xr_lret (pc := 22) dX13_at_22 rfl
theorem met_f_c_X13_at (l : Launch) {D : CD} {P : CP} {d_ : Nat} {g : CG} {at_ : Nat → Nat → CG → CC → Option (Int64 × CC)} (Hat : DAT D P d_ at_) {x0 : Nat} {x1 : Nat} {τ : CC} {o_ : (Int64 × CC)} (hf : f_c_X13_at g at_ x0 x1 τ = some o_) : xMet (wC D P) l yX13_at (ws_ yX13_at cX13_at 2 (some .long)) (13 + d_) (60 * (13 + d_)) (grc g) (grs g) [.ref x0, .ref x1] (g, τ) (some (.long o_.1), (g, o_.2)) := 
  xMet_of (by decide) (Nat.le_of_ble_eq_true rfl) KC_moved RPC_of (fun K _ _ _ => ok_f_c_X13_at (d_ := d_) Hat hf (fun _ h => by rw [h]))
theorem call_f_c_J8_checkIndex_J6_1059 {D : CD} {P : CP} {K : xK} {M : xM} {Q : State → Prop} {g : CG} {c : CC} {x0 : Int32} {x1 : Int32} {x2 : Option Nat} {pc : Nat} {loc : List (Nat × Value)} {st : List Value} {r : Int32} {c1 : CC} (hf : f_c_J8_checkIndex g x0 x1 x2 c = some (r, c1)) (ho : M.2.2.1 = RJ6) (hfr : 1 ≤ M.2.2.2.1) (hlo : 22 ≤ M.2.2.2.2.1) (hcat : (st.map fun v => v.category).sum ≤ 8) (d : decode M.1 pc = .ok (.invokestatic 1059, 3)) (k : xV (wC D P) K M Q (g, c1) (pc + 3) loc (.int r :: st)) : xV (wC D P) K M Q (g, c) pc loc (va_rf x2 :: .int x1 :: .int x0 :: st) :=
  yc_callS (As := [.int x0, .int x1, va_rf x2]) (rest := st) (met_f_c_J8_checkIndex K.2.1 hf) (lw_S q1164 q850 q189 q851) hd_f_c_J8_checkIndex ho hfr hlo rfl rfl hcat d k
abbrev mJ6_checkIndex : xM := (cJ6_checkIndex, 2, RJ6, 1, 60, none, "checkIndex")
def f_c_J6_checkIndex (g : CG) (x0 : Int32) (x1 : Int32) (τ : CC) : Option CC :=
  xbd (f_c_J8_checkIndex g x0 x1 (some (gA g 0 9)) τ) fun r1 τ1 =>
  some (τ1)
theorem ok_f_c_J6_checkIndex {D : CD} {P : CP} {K : xK} {g : CG} {Z : Option Value × CS} {x0 : Int32} {x1 : Int32} {τ : CC} {o_ : CC} (hf : f_c_J6_checkIndex g x0 x1 τ = some o_) (kr : ∀ r_ : CC, o_ = r_ → Z = (none, (g, r_))) : xV (wC D P) K mJ6_checkIndex (xQ (wC D P) K Z) (g, τ) 0 [(0, .int x0), (1, .int x1)] [] := by
  unfold f_c_J6_checkIndex at hf
  refine xr_iload_n (pc := 0) 0 dJ6_checkIndex_0 rfl rfl ?_
  refine xr_iload_n (pc := 1) 1 dJ6_checkIndex_1 rfl rfl ?_
  refine yc_gets (pc := 2) 9 (by decide) (by decide) q679 rfl rfl dJ6_checkIndex_2 ?_
  obtain ⟨r1, τ1, hτ1, hf⟩ := xo_bd hf
  refine call_f_c_J8_checkIndex_J6_1059 (pc := 5) hτ1 rfl (Nat.le_of_ble_eq_true rfl) (Nat.le_of_ble_eq_true rfl) (Nat.le_of_ble_eq_true rfl) dJ6_checkIndex_5 ?_
  refine xr_pop (pc := 8) dJ6_checkIndex_8 rfl ?_
  rw [kr _ (Option.some.inj hf).symm]
  exact xr_vret (pc := 9) dJ6_checkIndex_9 rfl
theorem met_f_c_J6_checkIndex (l : Launch) {D : CD} {P : CP} {g : CG} {x0 : Int32} {x1 : Int32} {τ : CC} {o_ : CC} (hf : f_c_J6_checkIndex g x0 x1 τ = some o_) : xMet (wC D P) l yJ6_checkIndex (ws_ yJ6_checkIndex cJ6_checkIndex 2 none) 1 60 (grc g) (grs g) [.int x0, .int x1] (g, τ) (none, (g, o_)) := 
  xMet_of (by decide) (Nat.le_of_ble_eq_true rfl) KC_moved RPC_of (fun K _ _ _ => ok_f_c_J6_checkIndex hf (fun _ h => by rw [h]))
abbrev mJ7_length : xM := (cJ7_length, 1, RJ7, 0, 0, (some .int), "length")
def f_c_J7_length (g : CG) (x0 : Nat) (τ : CC) : Option (Int32 × CC) :=
  if gK g x0 = 103 then
  some (((Int32.ofNat (gN g x0) : Int32) >>> (1 &&& 31), τ))
  else none
theorem ok_f_c_J7_length {D : CD} {P : CP} {K : xK} {g : CG} {Z : Option Value × CS} {x0 : Nat} {τ : CC} {o_ : (Int32 × CC)} (hf : f_c_J7_length g x0 τ = some o_) (kr : ∀ r_ : (Int32 × CC), o_ = r_ → Z = (some (.int r_.1), (g, r_.2))) : xV (wC D P) K mJ7_length (xQ (wC D P) K Z) (g, τ) 0 [(0, .ref x0)] [] := by
  unfold f_c_J7_length at hf
  refine xr_aload_n (pc := 0) 0 dJ7_length_0 rfl rfl ?_
  obtain ⟨ht1, hf⟩ := xo_if hf
  refine yc_alen (pc := 1) 103 ht1 (by decide) (by decide) dJ7_length_1 ?_
  refine xr_iconst (pc := 2) dJ7_length_2 xci_1 ?_
  refine xr_ishr (pc := 3) dJ7_length_3 ?_
  rw [kr _ (Option.some.inj hf).symm]
  exact xr_iret (pc := 4) dJ7_length_4 rfl
theorem met_f_c_J7_length (l : Launch) {D : CD} {P : CP} {g : CG} {x0 : Nat} {τ : CC} {o_ : (Int32 × CC)} (hf : f_c_J7_length g x0 τ = some o_) : xMet (wC D P) l yJ7_length (ws_ yJ7_length cJ7_length 1 (some .int)) 0 0 (grc g) (grs g) [.ref x0] (g, τ) (some (.int o_.1), (g, o_.2)) := 
  xMet_of (by decide) (Nat.le_of_ble_eq_true rfl) KC_moved RPC_of (fun K _ _ _ => ok_f_c_J7_length hf (fun _ h => by rw [h]))
abbrev mJ7_getChar : xM := (cJ7_getChar, 2, RJ7, 1, 60, (some .char), "getChar")
def f_c_J7_getChar (g : CG) (x0 : Nat) (x1 : Int32) (τ : CC) : Option (Int32 × CC) :=
  none
theorem ok_f_c_J7_getChar {D : CD} {P : CP} {K : xK} {g : CG} {Z : Option Value × CS} {x0 : Nat} {x1 : Int32} {τ : CC} {o_ : (Int32 × CC)} (hf : f_c_J7_getChar g x0 x1 τ = some o_) (kr : ∀ r_ : (Int32 × CC), o_ = r_ → Z = (some (.int r_.1), (g, r_.2))) : xV (wC D P) K mJ7_getChar (xQ (wC D P) K Z) (g, τ) 0 [(0, .ref x0), (1, .int x1)] [] := by
  unfold f_c_J7_getChar at hf
  cases hf
theorem met_f_c_J7_getChar (l : Launch) {D : CD} {P : CP} {g : CG} {x0 : Nat} {x1 : Int32} {τ : CC} {o_ : (Int32 × CC)} (hf : f_c_J7_getChar g x0 x1 τ = some o_) : xMet (wC D P) l yJ7_getChar (ws_ yJ7_getChar cJ7_getChar 2 (some .char)) 1 60 (grc g) (grs g) [.ref x0, .int x1] (g, τ) (some (.int o_.1), (g, o_.2)) := 
  xMet_of (by decide) (Nat.le_of_ble_eq_true rfl) KC_moved RPC_of (fun K _ _ _ => ok_f_c_J7_getChar hf (fun _ h => by rw [h]))
theorem call_f_c_J12_min_J14_138 {D : CD} {P : CP} {K : xK} {M : xM} {Q : State → Prop} {g : CG} {c : CC} {x0 : Int32} {x1 : Int32} {pc : Nat} {loc : List (Nat × Value)} {st : List Value} {r : Int32} {c1 : CC} (hf : f_c_J12_min g x0 x1 c = some (r, c1)) (ho : M.2.2.1 = RJ14) (hfr : 1 ≤ M.2.2.2.1) (hlo : 21 ≤ M.2.2.2.2.1) (hcat : (st.map fun v => v.category).sum ≤ 8) (d : decode M.1 pc = .ok (.invokestatic 138, 3)) (k : xV (wC D P) K M Q (g, c1) (pc + 3) loc (.int r :: st)) : xV (wC D P) K M Q (g, c) pc loc (.int x1 :: .int x0 :: st) :=
  yc_callS (As := [.int x0, .int x1]) (rest := st) (met_f_c_J12_min K.2.1 hf) (lw_S q1375 q966 q194 q967) hd_f_c_J12_min ho hfr hlo rfl rfl hcat d k
theorem hd_f_c_J6_checkIndex : yJ6_checkIndex.cls ≠ "java/lang/invoke/MethodHandle" ∧ yJ6_checkIndex.cls ≠ "java/lang/invoke/VarHandle" ∧ (parseMethodDescriptor yJ6_checkIndex.desc).map (fun d => d.parameters.length) = some 2 := by decide +kernel
theorem call_f_c_J6_checkIndex_J14_144 {D : CD} {P : CP} {K : xK} {M : xM} {Q : State → Prop} {g : CG} {c : CC} {x0 : Int32} {x1 : Int32} {pc : Nat} {loc : List (Nat × Value)} {st : List Value} {c1 : CC} (hf : f_c_J6_checkIndex g x0 x1 c = some c1) (ho : M.2.2.1 = RJ14) (hfr : 2 ≤ M.2.2.2.1) (hlo : 81 ≤ M.2.2.2.2.1) (hcat : (st.map fun v => v.category).sum ≤ 8) (d : decode M.1 pc = .ok (.invokestatic 144, 3)) (k : xV (wC D P) K M Q (g, c1) (pc + 3) loc st) : xV (wC D P) K M Q (g, c) pc loc (.int x1 :: .int x0 :: st) :=
  yc_callS (As := [.int x0, .int x1]) (rest := st) (met_f_c_J6_checkIndex K.2.1 hf) (lw_S q1376 q1162 q187 q1163) hd_f_c_J6_checkIndex ho hfr hlo rfl rfl hcat d k
theorem hd_f_c_J7_getChar : yJ7_getChar.cls ≠ "java/lang/invoke/MethodHandle" ∧ yJ7_getChar.cls ≠ "java/lang/invoke/VarHandle" ∧ (parseMethodDescriptor yJ7_getChar.desc).map (fun d => d.parameters.length) = some 2 := by decide +kernel
theorem call_f_c_J7_getChar_J14_148 {D : CD} {P : CP} {K : xK} {M : xM} {Q : State → Prop} {g : CG} {c : CC} {x0 : Nat} {x1 : Int32} {pc : Nat} {loc : List (Nat × Value)} {st : List Value} {r : Int32} {c1 : CC} (hf : f_c_J7_getChar g x0 x1 c = some (r, c1)) (ho : M.2.2.1 = RJ14) (hfr : 2 ≤ M.2.2.2.1) (hlo : 81 ≤ M.2.2.2.2.1) (hcat : (st.map fun v => v.category).sum ≤ 8) (d : decode M.1 pc = .ok (.invokestatic 148, 3)) (k : xV (wC D P) K M Q (g, c1) (pc + 3) loc (.int r :: st)) : xV (wC D P) K M Q (g, c) pc loc (.int x1 :: .ref x0 :: st) :=
  yc_callS (As := [.ref x0, .int x1]) (rest := st) (met_f_c_J7_getChar K.2.1 hf) (lw_S q1377 q668 q188 q669) hd_f_c_J7_getChar ho hfr hlo rfl rfl hcat d k
abbrev mJ14_charAt : xM := (cJ14_charAt, 5, RJ14, 2, 120, (some .char), "charAt")
def f_c_J14_charAt (g : CG) (x0 : Nat) (x1 : Int32) (τ : CC) : Option (Int32 × CC) :=
  if gT g x0 = 20 then
  (cR τ 2000 x0).bind fun b2 =>
  if gK g b2 = 103 then
  xbd (f_c_J12_min g (cI τ 2003 x0) ((Int32.ofNat (gN g b2) : Int32) >>> ((cI τ 2001 x0) &&& 31)) τ) fun r4 τ4 =>
  (f_c_J6_checkIndex g x1 r4 τ4).bind fun τ5 =>
  if (cI τ 2001 x0) = 0 then
  if xin x1 (gN g b2) = true then
  some ((((((cA τ5 b2 x1.toNatClampNeg) &&& 255).toUInt32 % 65536).toInt32).toUInt32.toUInt16.toUInt32.toInt32, τ5))
  else none
  else
  xbd (f_c_J7_getChar g b2 x1 τ5) fun r6 τ6 =>
  some ((r6.toUInt32.toUInt16.toUInt32.toInt32, τ6))
  else none
  else none
theorem ok_f_c_J14_charAt {D : CD} {P : CP} {K : xK} {g : CG} {Z : Option Value × CS} {x0 : Nat} {x1 : Int32} {τ : CC} {o_ : (Int32 × CC)} (hf : f_c_J14_charAt g x0 x1 τ = some o_) (kr : ∀ r_ : (Int32 × CC), o_ = r_ → Z = (some (.int r_.1), (g, r_.2))) : xV (wC D P) K mJ14_charAt (xQ (wC D P) K Z) (g, τ) 0 [(0, .ref x0), (1, .int x1)] [] := by
  unfold f_c_J14_charAt at hf
  refine xr_aload_n (pc := 0) 0 dJ14_charAt_0 rfl rfl ?_
  obtain ⟨ht1, hf⟩ := xo_if hf
  refine yc_getI (pc := 1) 20 1 2001 (gKo ht1 (by decide)) (by decide) (by decide) (by decide) rfl rfl q1006 (ys_eq rfl) rfl dJ14_charAt_1 ?_
  refine xr_istore_n (pc := 4) (loc' := [(2, .int (cI τ 2001 x0)), (0, .ref x0), (1, .int x1)]) dJ14_charAt_4 rfl (by decide) rfl ?_
  refine xr_aload_n (pc := 5) 1 dJ14_charAt_5 rfl rfl ?_
  obtain ⟨b2, hb2, hf⟩ := xo_bind hf
  refine yc_getRs (pc := 6) 20 0 2000 (gKo ht1 (by decide)) (by decide) (by decide) (by decide) rfl rfl hb2 q1005 (ys_eq rfl) rfl dJ14_charAt_6 ?_
  refine xr_astore_n (pc := 9) (loc' := [(3, .ref b2), (2, .int (cI τ 2001 x0)), (0, .ref x0), (1, .int x1)]) dJ14_charAt_9 rfl (by decide) rfl ?_
  refine xr_aload_n (pc := 10) 2 dJ14_charAt_10 rfl rfl ?_
  refine yc_getI (pc := 11) 20 3 2003 (gKo ht1 (by decide)) (by decide) (by decide) (by decide) rfl rfl q1007 (ys_eq rfl) rfl dJ14_charAt_11 ?_
  refine xr_aload_n (pc := 14) 0 dJ14_charAt_14 rfl rfl ?_
  obtain ⟨ht3, hf⟩ := xo_if hf
  refine yc_alen (pc := 15) 103 ht3 (by decide) (by decide) dJ14_charAt_15 ?_
  refine xr_iload_n (pc := 16) 1 dJ14_charAt_16 rfl rfl ?_
  refine xr_ishr (pc := 17) dJ14_charAt_17 ?_
  obtain ⟨r4, τ4, hτ4, hf⟩ := xo_bd hf
  refine call_f_c_J12_min_J14_138 (pc := 18) hτ4 rfl (Nat.le_of_ble_eq_true rfl) (Nat.le_of_ble_eq_true rfl) (Nat.le_of_ble_eq_true rfl) dJ14_charAt_18 ?_
  refine xr_istore (pc := 21) (loc' := [(4, .int r4), (3, .ref b2), (2, .int (cI τ 2001 x0)), (0, .ref x0), (1, .int x1)]) dJ14_charAt_21 (by decide) rfl ?_
  refine xr_iload_n (pc := 23) 4 dJ14_charAt_23 rfl rfl ?_
  refine xr_iload (pc := 24) 0 dJ14_charAt_24 rfl ?_
  obtain ⟨τ5, hτ5, hf⟩ := xo_bind hf
  refine call_f_c_J6_checkIndex_J14_144 (pc := 26) hτ5 rfl (Nat.le_of_ble_eq_true rfl) (Nat.le_of_ble_eq_true rfl) (Nat.le_of_ble_eq_true rfl) dJ14_charAt_26 ?_
  refine xr_iload_n (pc := 29) 2 dJ14_charAt_29 rfl rfl ?_
  refine xr_if_ne (pc := 30) 42 dJ14_charAt_30 (by decide) (fun c_ => ?_) (fun c_ => ?_)
  · have hf := xo_pos c_ hf
    refine xr_aload_n (pc := 33) 1 dJ14_charAt_33 rfl rfl ?_
    refine xr_iload_n (pc := 34) 4 dJ14_charAt_34 rfl rfl ?_
    obtain ⟨hi_, hf⟩ := xo_if hf
    refine yc_bald (pc := 35) ht3 hi_ dJ14_charAt_35 ?_
    refine xr_sipush (pc := 36) dJ14_charAt_36 xcs_255 ?_
    refine xr_iand (pc := 39) dJ14_charAt_39 ?_
    refine xr_i2c (pc := 40) dJ14_charAt_40 ?_
    rw [kr _ (Option.some.inj hf).symm]
    exact xr_cret (pc := 41) dJ14_charAt_41 rfl rfl
  · have hf := xo_neg c_ hf
    refine xr_aload_n (pc := 42) 1 dJ14_charAt_42 rfl rfl ?_
    refine xr_iload_n (pc := 43) 4 dJ14_charAt_43 rfl rfl ?_
    obtain ⟨r6, τ6, hτ6, hf⟩ := xo_bd hf
    refine call_f_c_J7_getChar_J14_148 (pc := 44) hτ6 rfl (Nat.le_of_ble_eq_true rfl) (Nat.le_of_ble_eq_true rfl) (Nat.le_of_ble_eq_true rfl) dJ14_charAt_44 ?_
    rw [kr _ (Option.some.inj hf).symm]
    exact xr_cret (pc := 47) dJ14_charAt_47 rfl rfl
theorem met_f_c_J14_charAt (l : Launch) {D : CD} {P : CP} {g : CG} {x0 : Nat} {x1 : Int32} {τ : CC} {o_ : (Int32 × CC)} (hf : f_c_J14_charAt g x0 x1 τ = some o_) : xMet (wC D P) l yJ14_charAt (ws_ yJ14_charAt cJ14_charAt 5 (some .char)) 2 120 (grc g) (grs g) [.ref x0, .int x1] (g, τ) (some (.int o_.1), (g, o_.2)) := 
  xMet_of (by decide) (Nat.le_of_ble_eq_true rfl) KC_moved RPC_of (fun K _ _ _ => ok_f_c_J14_charAt hf (fun _ h => by rw [h]))
theorem hd_f_c_J14_charAt : yJ14_charAt.cls ≠ "java/lang/invoke/MethodHandle" ∧ yJ14_charAt.cls ≠ "java/lang/invoke/VarHandle" ∧ (parseMethodDescriptor yJ14_charAt.desc).map (fun d => d.parameters.length) = some 1 := by decide +kernel
theorem call_f_c_J14_charAt_J15_329 {D : CD} {P : CP} {K : xK} {M : xM} {Q : State → Prop} {g : CG} {c : CC} {x0 : Nat} {x1 : Int32} {pc : Nat} {loc : List (Nat × Value)} {st : List Value} {r : Int32} {c1 : CC} (hf : f_c_J14_charAt g x0 x1 c = some (r, c1)) (hr : gK g x0 = 20) (ho : M.2.2.1 = RJ15) (hfr : 3 ≤ M.2.2.2.1) (hlo : 144 ≤ M.2.2.2.2.1) (hcat : (st.map fun v => v.category).sum ≤ 8) (d : decode M.1 pc = .ok (.invokespecial 329, 3)) (k : xV (wC D P) K M Q (g, c1) (pc + 3) loc (.int r :: st)) : xV (wC D P) K M Q (g, c) pc loc (.int x1 :: .ref x0 :: st) :=
  yc_callSU (n := 1) (As := [.int x1]) (rest := st) (met_f_c_J14_charAt K.2.1 hf) (lw_2 q1372 q2752 (lw_2 q1016 q1373 (lw_1 q199 (lw_meth q1374)))) ⟨by decide +kernel, by decide +kernel⟩ ho hfr hlo rfl hr (by decide) (by decide) rfl hcat d k
abbrev mJ15_charAt : xM := (cJ15_charAt, 2, RJ15, 3, 180, (some .char), "charAt")
def f_c_J15_charAt (g : CG) (x0 : Nat) (x1 : Int32) (τ : CC) : Option (Int32 × CC) :=
  if gT g x0 = 20 then
  xbd (f_c_J14_charAt g x0 x1 τ) fun r2 τ2 =>
  some ((r2.toUInt32.toUInt16.toUInt32.toInt32, τ2))
  else none
theorem ok_f_c_J15_charAt {D : CD} {P : CP} {K : xK} {g : CG} {Z : Option Value × CS} {x0 : Nat} {x1 : Int32} {τ : CC} {o_ : (Int32 × CC)} (hf : f_c_J15_charAt g x0 x1 τ = some o_) (kr : ∀ r_ : (Int32 × CC), o_ = r_ → Z = (some (.int r_.1), (g, r_.2))) : xV (wC D P) K mJ15_charAt (xQ (wC D P) K Z) (g, τ) 0 [(0, .ref x0), (1, .int x1)] [] := by
  unfold f_c_J15_charAt at hf
  refine xr_aload_n (pc := 0) 0 dJ15_charAt_0 rfl rfl ?_
  refine xr_iload_n (pc := 1) 1 dJ15_charAt_1 rfl rfl ?_
  obtain ⟨ht1, hf⟩ := xo_if hf
  obtain ⟨r2, τ2, hτ2, hf⟩ := xo_bd hf
  refine call_f_c_J14_charAt_J15_329 (pc := 2) hτ2 (gKo ht1 (by decide)) rfl (Nat.le_of_ble_eq_true rfl) (Nat.le_of_ble_eq_true rfl) (Nat.le_of_ble_eq_true rfl) dJ15_charAt_2 ?_
  rw [kr _ (Option.some.inj hf).symm]
  exact xr_cret (pc := 5) dJ15_charAt_5 rfl rfl
theorem met_f_c_J15_charAt (l : Launch) {D : CD} {P : CP} {g : CG} {x0 : Nat} {x1 : Int32} {τ : CC} {o_ : (Int32 × CC)} (hf : f_c_J15_charAt g x0 x1 τ = some o_) : xMet (wC D P) l yJ15_charAt (ws_ yJ15_charAt cJ15_charAt 2 (some .char)) 3 180 (grc g) (grs g) [.ref x0, .int x1] (g, τ) (some (.int o_.1), (g, o_.2)) := 
  xMet_of (by decide) (Nat.le_of_ble_eq_true rfl) KC_moved RPC_of (fun K _ _ _ => ok_f_c_J15_charAt hf (fun _ h => by rw [h]))
abbrev mJ12_floorDiv : xM := (cJ12_floorDiv, 6, RJ12, 0, 0, (some .long), "floorDiv")
def f_c_J12_floorDiv (g : CG) (x0 : Int64) (x2 : Int64) (τ : CC) : Option (Int64 × CC) :=
  if ¬ x2 = 0 then
  if (0 : Int32) ≤ (lg_cmp (x0 ^^^ x2) 0) then
  some ((x0 / x2, τ))
  else
  if (lg_cmp ((x0 / x2) * x2) x0) = 0 then
  some ((x0 / x2, τ))
  else
  some (((x0 / x2) - 1, τ))
  else none
theorem ok_f_c_J12_floorDiv {D : CD} {P : CP} {K : xK} {g : CG} {Z : Option Value × CS} {x0 : Int64} {x2 : Int64} {τ : CC} {o_ : (Int64 × CC)} (hf : f_c_J12_floorDiv g x0 x2 τ = some o_) (kr : ∀ r_ : (Int64 × CC), o_ = r_ → Z = (some (.long r_.1), (g, r_.2))) : xV (wC D P) K mJ12_floorDiv (xQ (wC D P) K Z) (g, τ) 0 [(0, .long x0), (2, .long x2)] [] := by
  unfold f_c_J12_floorDiv at hf
  refine xr_lload_n (pc := 0) 0 dJ12_floorDiv_0 rfl rfl ?_
  refine xr_lload_n (pc := 1) 1 dJ12_floorDiv_1 rfl rfl ?_
  obtain ⟨hz_, hf⟩ := xo_if hf
  refine xr_ldiv (pc := 2) dJ12_floorDiv_2 hz_ ?_
  refine xr_lstore (pc := 3) (loc' := [(4, .long (x0 / x2)), (0, .long x0), (2, .long x2)]) dJ12_floorDiv_3 (by decide) rfl ?_
  refine xr_lload_n (pc := 5) 1 dJ12_floorDiv_5 rfl rfl ?_
  refine xr_lload_n (pc := 6) 2 dJ12_floorDiv_6 rfl rfl ?_
  refine xr_lxor (pc := 7) dJ12_floorDiv_7 ?_
  refine xr_lconst (pc := 8) dJ12_floorDiv_8 (by decide : _ = (0 : Int64)) ?_
  refine xr_lcmp (pc := 9) dJ12_floorDiv_9 ?_
  refine xr_if_ge (pc := 10) 27 dJ12_floorDiv_10 (by decide) (fun c_ => ?_) (fun c_ => ?_)
  · have hf := xo_pos c_ hf
    refine xr_lload (pc := 27) 0 dJ12_floorDiv_27 rfl ?_
    rw [kr _ (Option.some.inj hf).symm]
    exact xr_lret (pc := 29) dJ12_floorDiv_29 rfl
  · have hf := xo_neg c_ hf
    refine xr_lload (pc := 13) 0 dJ12_floorDiv_13 rfl ?_
    refine xr_lload_n (pc := 15) 2 dJ12_floorDiv_15 rfl rfl ?_
    refine xr_lmul (pc := 16) dJ12_floorDiv_16 ?_
    refine xr_lload_n (pc := 17) 1 dJ12_floorDiv_17 rfl rfl ?_
    refine xr_lcmp (pc := 18) dJ12_floorDiv_18 ?_
    refine xr_if_eq (pc := 19) 27 dJ12_floorDiv_19 (by decide) (fun c_ => ?_) (fun c_ => ?_)
    · have hf := xo_pos c_ hf
      refine xr_lload (pc := 27) 0 dJ12_floorDiv_27 rfl ?_
      rw [kr _ (Option.some.inj hf).symm]
      exact xr_lret (pc := 29) dJ12_floorDiv_29 rfl
    · have hf := xo_neg c_ hf
      refine xr_lload (pc := 22) 0 dJ12_floorDiv_22 rfl ?_
      refine xr_lconst (pc := 24) dJ12_floorDiv_24 (by decide : _ = (1 : Int64)) ?_
      refine xr_lsub (pc := 25) dJ12_floorDiv_25 ?_
      rw [kr _ (Option.some.inj hf).symm]
      exact xr_lret (pc := 26) dJ12_floorDiv_26 rfl
theorem met_f_c_J12_floorDiv (l : Launch) {D : CD} {P : CP} {g : CG} {x0 : Int64} {x2 : Int64} {τ : CC} {o_ : (Int64 × CC)} (hf : f_c_J12_floorDiv g x0 x2 τ = some o_) : xMet (wC D P) l yJ12_floorDiv (ws_ yJ12_floorDiv cJ12_floorDiv 6 (some .long)) 0 0 (grc g) (grs g) [.long x0, .long x2] (g, τ) (some (.long o_.1), (g, o_.2)) := 
  xMet_ofF (by decide +kernel) (Nat.le_of_ble_eq_true rfl) KC_moved RPC_of (fun K _ _ _ => ok_f_c_J12_floorDiv hf (fun _ h => by rw [h]))
theorem hd_f_c_J12_floorDiv : yJ12_floorDiv.cls ≠ "java/lang/invoke/MethodHandle" ∧ yJ12_floorDiv.cls ≠ "java/lang/invoke/VarHandle" ∧ (parseMethodDescriptor yJ12_floorDiv.desc).map (fun d => d.parameters.length) = some 2 := by decide +kernel
theorem call_f_c_J12_floorDiv_X9_61 {D : CD} {P : CP} {K : xK} {M : xM} {Q : State → Prop} {g : CG} {c : CC} {x0 : Int64} {x2 : Int64} {pc : Nat} {loc : List (Nat × Value)} {st : List Value} {r : Int64} {c1 : CC} (hf : f_c_J12_floorDiv g x0 x2 c = some (r, c1)) (ho : M.2.2.1 = RX9) (hfr : 1 ≤ M.2.2.2.1) (hlo : 25 ≤ M.2.2.2.2.1) (hcat : (st.map fun v => v.category).sum ≤ 8) (d : decode M.1 pc = .ok (.invokestatic 61, 3)) (k : xV (wC D P) K M Q (g, c1) (pc + 3) loc (.long r :: st)) : xV (wC D P) K M Q (g, c) pc loc (.long x2 :: .long x0 :: st) :=
  yc_callS (As := [.long x0, .long x2]) (rest := st) (met_f_c_J12_floorDiv K.2.1 hf) (lw_S q1381 q1382 q194 q1383) hd_f_c_J12_floorDiv ho hfr hlo rfl rfl hcat d k
abbrev mX9_two : xM := (cX9_two, 5, RX9, 1, 60, (some .long), "two")
def Jc_X9_two_44 (g : CG) (x1 : Int64) (x3 : Int64) (τ : CC) : Option (Int64 × CC) :=
  if (lg_cmp x3 0) = 0 then
  some ((0, τ))
  else
  xbd (f_c_J12_floorDiv g x1 x3 τ) fun r1 τ1 =>
  some ((r1, τ1))
theorem ok_Jc_X9_two_44 {D : CD} {P : CP} {K : xK} {g : CG} {Z : Option Value × CS} {x1 : Int64} {x3 : Int64} {τ : CC} {o_ : (Int64 × CC)} (hf : Jc_X9_two_44 g x1 x3 τ = some o_) (kr : ∀ r_ : (Int64 × CC), o_ = r_ → Z = (some (.long r_.1), (g, r_.2))) : xV (wC D P) K mX9_two (xQ (wC D P) K Z) (g, τ) 44 [(1, .long x1), (3, .long x3)] [] := by
  unfold Jc_X9_two_44 at hf
  refine xr_lload_n (pc := 44) 1 dX9_two_44 rfl rfl ?_
  refine xr_lconst (pc := 45) dX9_two_45 (by decide : _ = (0 : Int64)) ?_
  refine xr_lcmp (pc := 46) dX9_two_46 ?_
  refine xr_if_ne (pc := 47) 54 dX9_two_47 (by decide) (fun c_ => ?_) (fun c_ => ?_)
  · have hf := xo_pos c_ hf
    refine xr_lconst (pc := 50) dX9_two_50 (by decide : _ = (0 : Int64)) ?_
    refine xr_goto (pc := 51) 59 dX9_two_51 (by decide) ?_
    rw [kr _ (Option.some.inj hf).symm]
    exact xr_lret (pc := 59) dX9_two_59 rfl
  · have hf := xo_neg c_ hf
    refine xr_lload_n (pc := 54) 0 dX9_two_54 rfl rfl ?_
    refine xr_lload_n (pc := 55) 1 dX9_two_55 rfl rfl ?_
    obtain ⟨r1, τ1, hτ1, hf⟩ := xo_bd hf
    refine call_f_c_J12_floorDiv_X9_61 (pc := 56) hτ1 rfl (Nat.le_of_ble_eq_true rfl) (Nat.le_of_ble_eq_true rfl) (Nat.le_of_ble_eq_true rfl) dX9_two_56 ?_
    rw [kr _ (Option.some.inj hf).symm]
    exact xr_lret (pc := 59) dX9_two_59 rfl
def f_c_X9_two (g : CG) (x0 : Int32) (x1 : Int64) (x3 : Int64) (τ : CC) : Option (Int64 × CC) :=
  if x0 = 42 then
  some ((x1 * x3, τ))
  else
  if x0 = 43 then
  some ((x1 + x3, τ))
  else
  if x0 = 44 then
  Jc_X9_two_44 g x1 x3 τ
  else
  if x0 = 45 then
  some ((x1 - x3, τ))
  else
  Jc_X9_two_44 g x1 x3 τ
theorem ok_f_c_X9_two {D : CD} {P : CP} {K : xK} {g : CG} {Z : Option Value × CS} {x0 : Int32} {x1 : Int64} {x3 : Int64} {τ : CC} {o_ : (Int64 × CC)} (hf : f_c_X9_two g x0 x1 x3 τ = some o_) (kr : ∀ r_ : (Int64 × CC), o_ = r_ → Z = (some (.long r_.1), (g, r_.2))) : xV (wC D P) K mX9_two (xQ (wC D P) K Z) (g, τ) 0 [(0, .int x0), (1, .long x1), (3, .long x3)] [] := by
  unfold f_c_X9_two at hf
  refine xr_iload_n (pc := 0) 0 dX9_two_0 rfl rfl ?_
  by_cases c0_ : x0 = 42
  · have hf := xo_pos c0_ hf
    refine xr_tsw_in (pc := 1) (v := 42) (off := 39) 40 dX9_two_1 c0_ (by decide) (by decide +kernel) (by decide) ?_
    refine xr_lload_n (pc := 40) 1 dX9_two_40 rfl rfl ?_
    refine xr_lload_n (pc := 41) 2 dX9_two_41 rfl rfl ?_
    refine xr_lmul (pc := 42) dX9_two_42 ?_
    rw [kr _ (Option.some.inj hf).symm]
    exact xr_lret (pc := 43) dX9_two_43 rfl
  have hf := xo_neg c0_ hf
  by_cases c1_ : x0 = 43
  · have hf := xo_pos c1_ hf
    refine xr_tsw_in (pc := 1) (v := 43) (off := 31) 32 dX9_two_1 c1_ (by decide) (by decide +kernel) (by decide) ?_
    refine xr_lload_n (pc := 32) 1 dX9_two_32 rfl rfl ?_
    refine xr_lload_n (pc := 33) 2 dX9_two_33 rfl rfl ?_
    refine xr_ladd (pc := 34) dX9_two_34 ?_
    rw [kr _ (Option.some.inj hf).symm]
    exact xr_lret (pc := 35) dX9_two_35 rfl
  have hf := xo_neg c1_ hf
  by_cases c2_ : x0 = 44
  · have hf := xo_pos c2_ hf
    refine xr_tsw_in (pc := 1) (v := 44) (off := 43) 44 dX9_two_1 c2_ (by decide) (by decide +kernel) (by decide) ?_
    refine xV_sub [1, 2] rfl ?_
    exact ok_Jc_X9_two_44 hf kr
  have hf := xo_neg c2_ hf
  by_cases c3_ : x0 = 45
  · have hf := xo_pos c3_ hf
    refine xr_tsw_in (pc := 1) (v := 45) (off := 35) 36 dX9_two_1 c3_ (by decide) (by decide +kernel) (by decide) ?_
    refine xr_lload_n (pc := 36) 1 dX9_two_36 rfl rfl ?_
    refine xr_lload_n (pc := 37) 2 dX9_two_37 rfl rfl ?_
    refine xr_lsub (pc := 38) dX9_two_38 ?_
    rw [kr _ (Option.some.inj hf).symm]
    exact xr_lret (pc := 39) dX9_two_39 rfl
  have hf := xo_neg c3_ hf
  refine xr_tsw_out (pc := 1) 44 dX9_two_1 (xsw_out 42 45 [42, 43, 44, 45] (by decide +kernel) (List.forall_mem_cons.mpr ⟨c0_, List.forall_mem_cons.mpr ⟨c1_, List.forall_mem_cons.mpr ⟨c2_, List.forall_mem_cons.mpr ⟨c3_, List.forall_mem_nil _⟩⟩⟩⟩)) (by decide) ?_
  refine xV_sub [1, 2] rfl ?_
  exact ok_Jc_X9_two_44 hf kr
theorem met_f_c_X9_two (l : Launch) {D : CD} {P : CP} {g : CG} {x0 : Int32} {x1 : Int64} {x3 : Int64} {τ : CC} {o_ : (Int64 × CC)} (hf : f_c_X9_two g x0 x1 x3 τ = some o_) : xMet (wC D P) l yX9_two (ws_ yX9_two cX9_two 5 (some .long)) 1 60 (grc g) (grs g) [.int x0, .long x1, .long x3] (g, τ) (some (.long o_.1), (g, o_.2)) := 
  xMet_of (by decide) (Nat.le_of_ble_eq_true rfl) KC_moved RPC_of (fun K _ _ _ => ok_f_c_X9_two hf (fun _ h => by rw [h]))
theorem call_f_c_J2_get_X9_35 {D : CD} {P : CP} {K : xK} {M : xM} {Q : State → Prop} {g : CG} {c : CC} {x0 : Nat} {x1 : Int32} {pc : Nat} {loc : List (Nat × Value)} {st : List Value} {r : Nat} {c1 : CC} (hf : f_c_J2_get g x0 x1 c = some (r, c1)) (hr : gK g x0 = 18) (ho : M.2.2.1 = RX9) (hfr : 3 ≤ M.2.2.2.1) (hlo : 141 ≤ M.2.2.2.2.1) (hcat : (st.map fun v => v.category).sum ≤ 8) (d : decode M.1 pc = .ok (.invokeinterface 35 2, 5)) (k : xV (wC D P) K M Q (g, c1) (pc + 5) loc (.ref r :: st)) : xV (wC D P) K M Q (g, c) pc loc (.int x1 :: .ref x0 :: st) :=
  yc_callF (n := 1) (As := [.int x1]) (rest := st) (z := yList_get) (met_f_c_J2_get K.2.1 hf) (lw_2 q1344 q841 (lw_2 q843 q178 (lw_meth q845))) (fun s h => h.2.2.2.2.2.1.2.1) (by decide +kernel) ho hfr hlo rfl hr rfl hcat d k
theorem chk_V_X9 {D : CD} {P : CP} {K : xK} {M : xM} {Q : State → Prop} {g : CG} {c : CC} {pc : Nat} {loc : List (Nat × Value)} {st : List Value} {a : Nat} (h : isV (gK g a) = true) (ho : M.2.2.1 = RX9) (d : decode M.1 pc = .ok (.checkcast 2, 3)) (kk : xV (wC D P) K M Q (g, c) (pc + 3) loc (.ref a :: st)) : xV (wC D P) K M Q (g, c) pc loc (.ref a :: st) := by
  unfold isV at h
  simp only [Bool.or_eq_true, beq_iff_eq] at h
  rcases h with (((h | h) | h) | h) | h
  · exact yc_chk 8 h (by decide) (by decide) q1345 q2759 ho d kk
  · exact yc_chk 9 h (by decide) (by decide) q1345 q2762 ho d kk
  · exact yc_chk 10 h (by decide) (by decide) q1345 q2760 ho d kk
  · exact yc_chk 11 h (by decide) (by decide) q1345 q2758 ho d kk
  · exact yc_chk 12 h (by decide) (by decide) q1345 q2761 ho d kk
theorem call_d_at_X9_39 {D : CD} {P : CP} {K : xK} {M : xM} {Q : State → Prop} {g : CG} {c : CC} {a m d_ : Nat} {f_ : Nat → Nat → CG → CC → Option (Int64 × CC)} {pc : Nat} {loc : List (Nat × Value)} {st : List Value} {r : Int64} {c1 : CC} (H : DAT D P d_ f_) (hf : f_ a m g c = some (r, c1)) (ho : M.2.2.1 = RX9) (hfr : 12 + d_ + 1 ≤ M.2.2.2.1) (hlo : 60 * (12 + d_) + 60 ≤ M.2.2.2.2.1) (hcat : (st.map fun v => v.category).sum ≤ 8) (d : decode M.1 pc = .ok (.invokevirtual 39, 3)) (k : xV (wC D P) K M Q (g, c1) (pc + 3) loc (.long r :: st)) : xV (wC D P) K M Q (g, c) pc loc (.ref m :: .ref a :: st) := by
  rcases H K.2.1 a m g c r c1 hf with ⟨ht, hM⟩ | ⟨ht, hM⟩ | ⟨ht, hM⟩ | ⟨ht, hM⟩ | ⟨ht, hM⟩
  · exact yc_callA (n := 1) (As := [.ref m]) (rest := st) (z := ⟨"BentRiver$Value", "at", "(LBentRiver$Moment;)J"⟩) hM (lw_2 q1346 q1325 (lw_2 q1385 q1347 (lw_1 q202 (lw_meth q1348)))) q1324 (by decide +kernel) ho hfr (by omega) rfl ht (by decide) (by decide) rfl rfl hcat d k
  · exact yc_callA (n := 1) (As := [.ref m]) (rest := st) (z := ⟨"BentRiver$Value", "at", "(LBentRiver$Moment;)J"⟩) hM (lw_2 q1346 q1325 (lw_2 q1326 q1327 (lw_1 q203 (lw_meth q1328)))) q1324 (by decide +kernel) ho hfr (by omega) rfl ht (by decide) (by decide) rfl rfl hcat d k
  · exact yc_callA (n := 1) (As := [.ref m]) (rest := st) (z := ⟨"BentRiver$Value", "at", "(LBentRiver$Moment;)J"⟩) hM (lw_2 q1346 q1325 (lw_2 q1387 q1352 (lw_1 q201 (lw_meth q1353)))) q1324 (by decide +kernel) ho hfr (by omega) rfl ht (by decide) (by decide) rfl rfl hcat d k
  · exact yc_callA (n := 1) (As := [.ref m]) (rest := st) (z := ⟨"BentRiver$Value", "at", "(LBentRiver$Moment;)J"⟩) hM (lw_2 q1346 q1325 (lw_2 q1340 q1341 (lw_1 q198 (lw_meth q1342)))) q1324 (by decide +kernel) ho hfr (by omega) rfl ht (by decide) (by decide) rfl rfl hcat d k
  · exact yc_callA (n := 1) (As := [.ref m]) (rest := st) (z := ⟨"BentRiver$Value", "at", "(LBentRiver$Moment;)J"⟩) hM (lw_2 q1346 q1325 (lw_2 q1386 q1349 (lw_1 q204 (lw_meth q1350)))) q1324 (by decide +kernel) ho hfr (by omega) rfl ht (by decide) (by decide) rfl rfl hcat d k
theorem call_f_c_J2_size_X9_43 {D : CD} {P : CP} {K : xK} {M : xM} {Q : State → Prop} {g : CG} {c : CC} {x0 : Nat} {pc : Nat} {loc : List (Nat × Value)} {st : List Value} {r : Int32} {c1 : CC} (hf : f_c_J2_size g x0 c = some (r, c1)) (hr : gK g x0 = 18) (ho : M.2.2.1 = RX9) (hfr : 1 ≤ M.2.2.2.1) (hlo : 20 ≤ M.2.2.2.2.1) (hcat : (st.map fun v => v.category).sum ≤ 8) (d : decode M.1 pc = .ok (.invokeinterface 43 1, 5)) (k : xV (wC D P) K M Q (g, c1) (pc + 5) loc (.int r :: st)) : xV (wC D P) K M Q (g, c) pc loc (.ref x0 :: st) :=
  yc_callF (n := 0) (As := []) (rest := st) (z := yList_size) (met_f_c_J2_size K.2.1 hf) (lw_2 q1367 q804 (lw_2 q806 q178 (lw_meth q808))) (fun s h => h.2.2.2.2.2.1.1) (by decide +kernel) ho hfr hlo rfl hr rfl hcat d k
theorem hd_f_c_J15_charAt : yJ15_charAt.cls ≠ "java/lang/invoke/MethodHandle" ∧ yJ15_charAt.cls ≠ "java/lang/invoke/VarHandle" ∧ (parseMethodDescriptor yJ15_charAt.desc).map (fun d => d.parameters.length) = some 1 := by decide +kernel
theorem call_f_c_J15_charAt_X9_47 {D : CD} {P : CP} {K : xK} {M : xM} {Q : State → Prop} {g : CG} {c : CC} {x0 : Nat} {x1 : Int32} {pc : Nat} {loc : List (Nat × Value)} {st : List Value} {r : Int32} {c1 : CC} (hf : f_c_J15_charAt g x0 x1 c = some (r, c1)) (hr : gK g x0 = 20) (ho : M.2.2.1 = RX9) (hfr : 4 ≤ M.2.2.2.1) (hlo : 201 ≤ M.2.2.2.2.1) (hcat : (st.map fun v => v.category).sum ≤ 8) (d : decode M.1 pc = .ok (.invokevirtual 47, 3)) (k : xV (wC D P) K M Q (g, c1) (pc + 3) loc (.int r :: st)) : xV (wC D P) K M Q (g, c) pc loc (.int x1 :: .ref x0 :: st) :=
  yc_callV (As := [.int x1]) (rest := st) (met_f_c_J15_charAt K.2.1 hf) (lw_V q1368 q1369 q1370 q200 q1371) ⟨rfl, hd_f_c_J15_charAt⟩ ho hfr hlo rfl hr (by decide) (by decide) rfl rfl hcat d k
theorem hd_f_c_X9_two : yX9_two.cls ≠ "java/lang/invoke/MethodHandle" ∧ yX9_two.cls ≠ "java/lang/invoke/VarHandle" ∧ (parseMethodDescriptor yX9_two.desc).map (fun d => d.parameters.length) = some 3 := by decide +kernel
theorem call_f_c_X9_two_X9_51 {D : CD} {P : CP} {K : xK} {M : xM} {Q : State → Prop} {g : CG} {c : CC} {x0 : Int32} {x1 : Int64} {x3 : Int64} {pc : Nat} {loc : List (Nat × Value)} {st : List Value} {r : Int64} {c1 : CC} (hf : f_c_X9_two g x0 x1 x3 c = some (r, c1)) (ho : M.2.2.1 = RX9) (hfr : 2 ≤ M.2.2.2.1) (hlo : 84 ≤ M.2.2.2.2.1) (hcat : (st.map fun v => v.category).sum ≤ 8) (d : decode M.1 pc = .ok (.invokestatic 51, 3)) (k : xV (wC D P) K M Q (g, c1) (pc + 3) loc (.long r :: st)) : xV (wC D P) K M Q (g, c) pc loc (.long x3 :: .long x1 :: .int x0 :: st) :=
  yc_callS (As := [.int x0, .long x1, .long x3]) (rest := st) (met_f_c_X9_two K.2.1 hf) (lw_S q1378 q1379 q198 q1380) hd_f_c_X9_two ho hfr hlo rfl rfl hcat d k
theorem call_f_c_X0_held_X9_55 {D : CD} {P : CP} {K : xK} {M : xM} {Q : State → Prop} {g : CG} {c : CC} {x0 : Int64} {pc : Nat} {loc : List (Nat × Value)} {st : List Value} {r : Int64} {c1 : CC} (hf : f_c_X0_held g x0 c = some (r, c1)) (ho : M.2.2.1 = RX9) (hfr : 2 ≤ M.2.2.2.1) (hlo : 81 ≤ M.2.2.2.2.1) (hcat : (st.map fun v => v.category).sum ≤ 8) (d : decode M.1 pc = .ok (.invokestatic 55, 3)) (k : xV (wC D P) K M Q (g, c1) (pc + 3) loc (.long r :: st)) : xV (wC D P) K M Q (g, c) pc loc (.long x0 :: st) :=
  yc_callSN (As := [.long x0]) (rest := st) (met_f_c_X0_held K.2.1 hf) (lw_meth q1331) q1384 q1330 q174 hd_f_c_X0_held ho hfr hlo rfl rfl hcat d k
abbrev mX9_at (d_ : Nat) : xM := (cX9_at, 5, RX9, 13 + d_, 60 * (13 + d_), (some .long), "at")
def Bc_X9_at_21 (g : CG) (at_ : Nat → Nat → CG → CC → Option (Int64 × CC)) (x0 : Nat) (x1 : Nat) (x2 : Int64) (x4 : Int32) (τ : CC) : Option ((Int64 × Int32 × CC) ⊕ ((Int64 × CC))) :=
  if gT g x0 = 8 then
  (gR g 800 x0).bind fun b8 =>
  if gT g b8 = 18 then
  xbd (f_c_J2_size g b8 τ) fun r10 τ10 =>
  if r10 ≤ x4 then
  some (.inr (x2, τ10))
  else
  (gR g 801 x0).bind fun b11 =>
  if gT g b11 = 20 then
  xbd (f_c_J15_charAt g b11 x4 τ10) fun r13 τ13 =>
  xbd (f_c_J2_get g b8 x4 τ13) fun r14 τ14 =>
  if isV (gK g r14) = true then
  xbd (at_ r14 x1 g τ14) fun r16 τ16 =>
  xbd (f_c_X9_two g r13 x2 r16 τ16) fun r17 τ17 =>
  xbd (f_c_X0_held g r17 τ17) fun r18 τ18 =>
  some (.inl (r18, x4 + 1, τ18))
  else none
  else none
  else none
  else none
theorem ok_Bc_X9_at_21 {D : CD} {P : CP} {K : xK} {d_ : Nat} {g : CG} {at_ : Nat → Nat → CG → CC → Option (Int64 × CC)} (Hat : DAT D P d_ at_) {Z : Option Value × CS} {x0 : Nat} {x1 : Nat} {x2 : Int64} {x4 : Int32} {τ : CC} {o_ : ((Int64 × Int32 × CC) ⊕ ((Int64 × CC)))} (hf : Bc_X9_at_21 g at_ x0 x1 x2 x4 τ = some o_) (kc : ∀ s_ : Int64 × Int32 × CC, o_ = .inl s_ → xV (wC D P) K (mX9_at d_) (xQ (wC D P) K Z) (g, s_.2.2) 21 [(0, .ref x0), (1, .ref x1), (2, .long s_.1), (4, .int s_.2.1)] []) (ke0 : ∀ e_ : Int64 × CC, o_ = .inr e_ → xV (wC D P) K (mX9_at d_) (xQ (wC D P) K Z) (g, e_.2) 76 [(2, .long e_.1)] []) : xV (wC D P) K (mX9_at d_) (xQ (wC D P) K Z) (g, τ) 21 [(0, .ref x0), (1, .ref x1), (2, .long x2), (4, .int x4)] [] := by
  unfold Bc_X9_at_21 at hf
  refine xr_iload (pc := 21) 3 dX9_at_21 rfl ?_
  refine xr_aload_n (pc := 23) 0 dX9_at_23 rfl rfl ?_
  obtain ⟨ht7, hf⟩ := xo_if hf
  obtain ⟨b8, hb8, hf⟩ := xo_bind hf
  refine yc_getFs (pc := 24) 8 0 800 (gKo ht7 (by decide)) (by decide) (by decide) (by decide) rfl rfl hb8 q1017 (ys_eq rfl) rfl dX9_at_24 ?_
  obtain ⟨ht9, hf⟩ := xo_if hf
  obtain ⟨r10, τ10, hτ10, hf⟩ := xo_bd hf
  refine call_f_c_J2_size_X9_43 (pc := 27) hτ10 (gKo ht9 (by decide)) rfl (by show 1 ≤ 13 + d_; omega) (by show 20 ≤ 60 * (13 + d_); omega) (Nat.le_of_ble_eq_true rfl) dX9_at_27 ?_
  refine xr_icmp_ge (pc := 32) 76 dX9_at_32 (by decide) (fun c_ => ?_) (fun c_ => ?_)
  · have hf := xo_pos c_ hf
    refine xV_sub [2] rfl ?_
    exact ke0 _ (Option.some.inj hf).symm
  · have hf := xo_neg c_ hf
    refine xr_aload_n (pc := 35) 0 dX9_at_35 rfl rfl ?_
    obtain ⟨b11, hb11, hf⟩ := xo_bind hf
    refine yc_getFs (pc := 36) 8 1 801 (gKo ht7 (by decide)) (by decide) (by decide) (by decide) rfl rfl hb11 q1018 (ys_eq rfl) rfl dX9_at_36 ?_
    refine xr_iload (pc := 39) 3 dX9_at_39 rfl ?_
    obtain ⟨ht12, hf⟩ := xo_if hf
    obtain ⟨r13, τ13, hτ13, hf⟩ := xo_bd hf
    refine call_f_c_J15_charAt_X9_47 (pc := 41) hτ13 (gKo ht12 (by decide)) rfl (by show 4 ≤ 13 + d_; omega) (by show 201 ≤ 60 * (13 + d_); omega) (Nat.le_of_ble_eq_true rfl) dX9_at_41 ?_
    refine xr_lload_n (pc := 44) 2 dX9_at_44 rfl rfl ?_
    refine xr_aload_n (pc := 45) 0 dX9_at_45 rfl rfl ?_
    refine yc_getFs (pc := 46) 8 0 800 (gKo ht7 (by decide)) (by decide) (by decide) (by decide) rfl rfl hb8 q1017 (ys_eq rfl) rfl dX9_at_46 ?_
    refine xr_iload (pc := 49) 3 dX9_at_49 rfl ?_
    obtain ⟨r14, τ14, hτ14, hf⟩ := xo_bd hf
    refine call_f_c_J2_get_X9_35 (pc := 51) hτ14 (gKo ht9 (by decide)) rfl (by show 3 ≤ 13 + d_; omega) (by show 141 ≤ 60 * (13 + d_); omega) (Nat.le_of_ble_eq_true rfl) dX9_at_51 ?_
    obtain ⟨hc15, hf⟩ := xo_if hf
    refine chk_V_X9 (pc := 56) hc15 rfl dX9_at_56 ?_
    refine xr_aload_n (pc := 59) 1 dX9_at_59 rfl rfl ?_
    obtain ⟨r16, τ16, hτ16, hf⟩ := xo_bd hf
    refine call_d_at_X9_39 (pc := 60) Hat hτ16 rfl (by show 12 + d_ + 1 ≤ 13 + d_; omega) (by show 60 * (12 + d_) + 60 ≤ 60 * (13 + d_); omega) (Nat.le_of_ble_eq_true rfl) dX9_at_60 ?_
    obtain ⟨r17, τ17, hτ17, hf⟩ := xo_bd hf
    refine call_f_c_X9_two_X9_51 (pc := 63) hτ17 rfl (by show 2 ≤ 13 + d_; omega) (by show 84 ≤ 60 * (13 + d_); omega) (Nat.le_of_ble_eq_true rfl) dX9_at_63 ?_
    obtain ⟨r18, τ18, hτ18, hf⟩ := xo_bd hf
    refine call_f_c_X0_held_X9_55 (pc := 66) hτ18 rfl (by show 2 ≤ 13 + d_; omega) (by show 81 ≤ 60 * (13 + d_); omega) (Nat.le_of_ble_eq_true rfl) dX9_at_66 ?_
    refine xr_lstore_n (pc := 69) (loc' := [(2, .long r18), (0, .ref x0), (1, .ref x1), (4, .int x4)]) dX9_at_69 rfl (by show 3 < 5; decide) rfl ?_
    refine xr_iinc (pc := 70) (loc' := [(4, .int (x4 + 1)), (2, .long r18), (0, .ref x0), (1, .ref x1)]) 3 dX9_at_70 rfl xci_1 (by show 4 < 5; decide) rfl ?_
    refine xr_goto (pc := 73) 21 dX9_at_73 (by decide) ?_
    refine xV_sub [2, 3, 1, 0] rfl ?_
    exact kc _ (Option.some.inj hf).symm
def f_c_X9_at (g : CG) (at_ : Nat → Nat → CG → CC → Option (Int64 × CC)) (x0 : Nat) (x1 : Nat) (τ : CC) : Option (Int64 × CC) :=
  if gT g x0 = 8 then
  (gR g 800 x0).bind fun b2 =>
  if gT g b2 = 18 then
  xbd (f_c_J2_get g b2 0 τ) fun r4 τ4 =>
  if isV (gK g r4) = true then
  xbd (at_ r4 x1 g τ4) fun r6 τ6 =>
  (itr (fun s_ : Int64 × Int32 × CC => Bc_X9_at_21 g at_ x0 x1 s_.1 s_.2.1 s_.2.2) 4096 (r6, 1, τ6)).bind fun b19 =>
  some ((b19.1, b19.2))
  else none
  else none
  else none
theorem ok_f_c_X9_at {D : CD} {P : CP} {K : xK} {d_ : Nat} {g : CG} {at_ : Nat → Nat → CG → CC → Option (Int64 × CC)} (Hat : DAT D P d_ at_) {Z : Option Value × CS} {x0 : Nat} {x1 : Nat} {τ : CC} {o_ : (Int64 × CC)} (hf : f_c_X9_at g at_ x0 x1 τ = some o_) (kr : ∀ r_ : (Int64 × CC), o_ = r_ → Z = (some (.long r_.1), (g, r_.2))) : xV (wC D P) K (mX9_at d_) (xQ (wC D P) K Z) (g, τ) 0 [(0, .ref x0), (1, .ref x1)] [] := by
  unfold f_c_X9_at at hf
  refine xr_aload_n (pc := 0) 0 dX9_at_0 rfl rfl ?_
  obtain ⟨ht1, hf⟩ := xo_if hf
  obtain ⟨b2, hb2, hf⟩ := xo_bind hf
  refine yc_getFs (pc := 1) 8 0 800 (gKo ht1 (by decide)) (by decide) (by decide) (by decide) rfl rfl hb2 q1017 (ys_eq rfl) rfl dX9_at_1 ?_
  refine xr_iconst (pc := 4) dX9_at_4 xci_0 ?_
  obtain ⟨ht3, hf⟩ := xo_if hf
  obtain ⟨r4, τ4, hτ4, hf⟩ := xo_bd hf
  refine call_f_c_J2_get_X9_35 (pc := 5) hτ4 (gKo ht3 (by decide)) rfl (by show 3 ≤ 13 + d_; omega) (by show 141 ≤ 60 * (13 + d_); omega) (Nat.le_of_ble_eq_true rfl) dX9_at_5 ?_
  obtain ⟨hc5, hf⟩ := xo_if hf
  refine chk_V_X9 (pc := 10) hc5 rfl dX9_at_10 ?_
  refine xr_aload_n (pc := 13) 1 dX9_at_13 rfl rfl ?_
  obtain ⟨r6, τ6, hτ6, hf⟩ := xo_bd hf
  refine call_d_at_X9_39 (pc := 14) Hat hτ6 rfl (by show 12 + d_ + 1 ≤ 13 + d_; omega) (by show 60 * (12 + d_) + 60 ≤ 60 * (13 + d_); omega) (Nat.le_of_ble_eq_true rfl) dX9_at_14 ?_
  refine xr_lstore_n (pc := 17) (loc' := [(2, .long r6), (0, .ref x0), (1, .ref x1)]) dX9_at_17 rfl (by show 3 < 5; decide) rfl ?_
  refine xr_iconst (pc := 18) dX9_at_18 xci_1 ?_
  refine xr_istore (pc := 19) (loc' := [(4, .int 1), (2, .long r6), (0, .ref x0), (1, .ref x1)]) dX9_at_19 (by show 4 < 5; decide) rfl ?_
  refine xV_sub [2, 3, 1, 0] rfl ?_
  obtain ⟨b19, hb19, hf⟩ := xo_bind hf
  refine itr_rule (P := fun s_ : Int64 × Int32 × CC => xV (wC D P) K (mX9_at d_) (xQ (wC D P) K Z) (g, s_.2.2) 21 [(0, .ref x0), (1, .ref x1), (2, .long s_.1), (4, .int s_.2.1)] []) (fun s_ o_ hB_ hc_ he_ => ok_Bc_X9_at_21 (d_ := d_) Hat hB_ hc_ (fun e_ h_ => ?_)) 4096 _ hb19
  · have e9_ := he_ _ h_
    rw [e9_]
    refine xr_lload_n (pc := 76) 0 dX9_at_76 rfl rfl ?_
    rw [kr _ (Option.some.inj hf).symm]
    exact xr_lret (pc := 77) dX9_at_77 rfl
theorem met_f_c_X9_at (l : Launch) {D : CD} {P : CP} {d_ : Nat} {g : CG} {at_ : Nat → Nat → CG → CC → Option (Int64 × CC)} (Hat : DAT D P d_ at_) {x0 : Nat} {x1 : Nat} {τ : CC} {o_ : (Int64 × CC)} (hf : f_c_X9_at g at_ x0 x1 τ = some o_) : xMet (wC D P) l yX9_at (ws_ yX9_at cX9_at 5 (some .long)) (13 + d_) (60 * (13 + d_)) (grc g) (grs g) [.ref x0, .ref x1] (g, τ) (some (.long o_.1), (g, o_.2)) := 
  xMet_of (by decide) (Nat.le_of_ble_eq_true rfl) KC_moved RPC_of (fun K _ _ _ => ok_f_c_X9_at (d_ := d_) Hat hf (fun _ h => by rw [h]))
theorem call_d_at_X10_20 {D : CD} {P : CP} {K : xK} {M : xM} {Q : State → Prop} {g : CG} {c : CC} {a m d_ : Nat} {f_ : Nat → Nat → CG → CC → Option (Int64 × CC)} {pc : Nat} {loc : List (Nat × Value)} {st : List Value} {r : Int64} {c1 : CC} (H : DAT D P d_ f_) (hf : f_ a m g c = some (r, c1)) (ho : M.2.2.1 = RX10) (hfr : 12 + d_ + 1 ≤ M.2.2.2.1) (hlo : 60 * (12 + d_) + 60 ≤ M.2.2.2.2.1) (hcat : (st.map fun v => v.category).sum ≤ 8) (d : decode M.1 pc = .ok (.invokevirtual 20, 3)) (k : xV (wC D P) K M Q (g, c1) (pc + 3) loc (.long r :: st)) : xV (wC D P) K M Q (g, c) pc loc (.ref m :: .ref a :: st) := by
  rcases H K.2.1 a m g c r c1 hf with ⟨ht, hM⟩ | ⟨ht, hM⟩ | ⟨ht, hM⟩ | ⟨ht, hM⟩ | ⟨ht, hM⟩
  · exact yc_callA (n := 1) (As := [.ref m]) (rest := st) (z := ⟨"BentRiver$Value", "at", "(LBentRiver$Moment;)J"⟩) hM (lw_2 q1354 q1325 (lw_2 q1385 q1347 (lw_1 q202 (lw_meth q1348)))) q1324 (by decide +kernel) ho hfr (by omega) rfl ht (by decide) (by decide) rfl rfl hcat d k
  · exact yc_callA (n := 1) (As := [.ref m]) (rest := st) (z := ⟨"BentRiver$Value", "at", "(LBentRiver$Moment;)J"⟩) hM (lw_2 q1354 q1325 (lw_2 q1326 q1327 (lw_1 q203 (lw_meth q1328)))) q1324 (by decide +kernel) ho hfr (by omega) rfl ht (by decide) (by decide) rfl rfl hcat d k
  · exact yc_callA (n := 1) (As := [.ref m]) (rest := st) (z := ⟨"BentRiver$Value", "at", "(LBentRiver$Moment;)J"⟩) hM (lw_2 q1354 q1325 (lw_2 q1387 q1352 (lw_1 q201 (lw_meth q1353)))) q1324 (by decide +kernel) ho hfr (by omega) rfl ht (by decide) (by decide) rfl rfl hcat d k
  · exact yc_callA (n := 1) (As := [.ref m]) (rest := st) (z := ⟨"BentRiver$Value", "at", "(LBentRiver$Moment;)J"⟩) hM (lw_2 q1354 q1325 (lw_2 q1340 q1341 (lw_1 q198 (lw_meth q1342)))) q1324 (by decide +kernel) ho hfr (by omega) rfl ht (by decide) (by decide) rfl rfl hcat d k
  · exact yc_callA (n := 1) (As := [.ref m]) (rest := st) (z := ⟨"BentRiver$Value", "at", "(LBentRiver$Moment;)J"⟩) hM (lw_2 q1354 q1325 (lw_2 q1386 q1349 (lw_1 q204 (lw_meth q1350)))) q1324 (by decide +kernel) ho hfr (by omega) rfl ht (by decide) (by decide) rfl rfl hcat d k
abbrev mX10_at (d_ : Nat) : xM := (cX10_at, 6, RX10, 13 + d_, 60 * (13 + d_), (some .long), "at")
def Jc_X10_at_35 (g : CG) (at_ : Nat → Nat → CG → CC → Option (Int64 × CC)) (x2 : Int64) (x4 : Int64) (s0 : Int32) (s1 : Int32) (τ : CC) : Option (Int64 × CC) :=
  if s1 = s0 then
  some ((x2, τ))
  else
  some ((x4, τ))
theorem ok_Jc_X10_at_35 {D : CD} {P : CP} {K : xK} {d_ : Nat} {g : CG} {at_ : Nat → Nat → CG → CC → Option (Int64 × CC)} (Hat : DAT D P d_ at_) {Z : Option Value × CS} {x2 : Int64} {x4 : Int64} {s0 : Int32} {s1 : Int32} {τ : CC} {o_ : (Int64 × CC)} (hf : Jc_X10_at_35 g at_ x2 x4 s0 s1 τ = some o_) (kr : ∀ r_ : (Int64 × CC), o_ = r_ → Z = (some (.long r_.1), (g, r_.2))) : xV (wC D P) K (mX10_at d_) (xQ (wC D P) K Z) (g, τ) 35 [(2, .long x2), (4, .long x4)] [.int s0, .int s1] := by
  unfold Jc_X10_at_35 at hf
  refine xr_icmp_ne (pc := 35) 42 dX10_at_35 (by decide) (fun c_ => ?_) (fun c_ => ?_)
  · have hf := xo_pos c_ hf
    refine xr_lload_n (pc := 38) 0 dX10_at_38 rfl rfl ?_
    refine xr_goto (pc := 39) 44 dX10_at_39 (by decide) ?_
    rw [kr _ (Option.some.inj hf).symm]
    exact xr_lret (pc := 44) dX10_at_44 rfl
  · have hf := xo_neg c_ hf
    refine xr_lload (pc := 42) 1 dX10_at_42 rfl ?_
    rw [kr _ (Option.some.inj hf).symm]
    exact xr_lret (pc := 44) dX10_at_44 rfl
def f_c_X10_at (g : CG) (at_ : Nat → Nat → CG → CC → Option (Int64 × CC)) (x0 : Nat) (x1 : Nat) (τ : CC) : Option (Int64 × CC) :=
  if gT g x0 = 9 then
  (gR g 901 x0).bind fun b2 =>
  xbd (at_ b2 x1 g τ) fun r3 τ3 =>
  (gR g 902 x0).bind fun b4 =>
  xbd (at_ b4 x1 g τ3) fun r5 τ5 =>
  if (lg_cmp r3 r5) ≤ 0 then
  Jc_X10_at_35 g at_ r3 r5 0 (cI τ5 900 x0) τ5
  else
  Jc_X10_at_35 g at_ r3 r5 1 (cI τ5 900 x0) τ5
  else none
theorem ok_f_c_X10_at {D : CD} {P : CP} {K : xK} {d_ : Nat} {g : CG} {at_ : Nat → Nat → CG → CC → Option (Int64 × CC)} (Hat : DAT D P d_ at_) {Z : Option Value × CS} {x0 : Nat} {x1 : Nat} {τ : CC} {o_ : (Int64 × CC)} (hf : f_c_X10_at g at_ x0 x1 τ = some o_) (kr : ∀ r_ : (Int64 × CC), o_ = r_ → Z = (some (.long r_.1), (g, r_.2))) : xV (wC D P) K (mX10_at d_) (xQ (wC D P) K Z) (g, τ) 0 [(0, .ref x0), (1, .ref x1)] [] := by
  unfold f_c_X10_at at hf
  refine xr_aload_n (pc := 0) 0 dX10_at_0 rfl rfl ?_
  obtain ⟨ht1, hf⟩ := xo_if hf
  obtain ⟨b2, hb2, hf⟩ := xo_bind hf
  refine yc_getFs (pc := 1) 9 1 901 (gKo ht1 (by decide)) (by decide) (by decide) (by decide) rfl rfl hb2 q1047 (ys_eq rfl) rfl dX10_at_1 ?_
  refine xr_aload_n (pc := 4) 1 dX10_at_4 rfl rfl ?_
  obtain ⟨r3, τ3, hτ3, hf⟩ := xo_bd hf
  refine call_d_at_X10_20 (pc := 5) Hat hτ3 rfl (by show 12 + d_ + 1 ≤ 13 + d_; omega) (by show 60 * (12 + d_) + 60 ≤ 60 * (13 + d_); omega) (Nat.le_of_ble_eq_true rfl) dX10_at_5 ?_
  refine xr_lstore_n (pc := 8) (loc' := [(2, .long r3), (0, .ref x0), (1, .ref x1)]) dX10_at_8 rfl (by show 3 < 6; decide) rfl ?_
  refine xr_aload_n (pc := 9) 1 dX10_at_9 rfl rfl ?_
  obtain ⟨b4, hb4, hf⟩ := xo_bind hf
  refine yc_getFs (pc := 10) 9 2 902 (gKo ht1 (by decide)) (by decide) (by decide) (by decide) rfl rfl hb4 q1048 (ys_eq rfl) rfl dX10_at_10 ?_
  refine xr_aload_n (pc := 13) 2 dX10_at_13 rfl rfl ?_
  obtain ⟨r5, τ5, hτ5, hf⟩ := xo_bd hf
  refine call_d_at_X10_20 (pc := 14) Hat hτ5 rfl (by show 12 + d_ + 1 ≤ 13 + d_; omega) (by show 60 * (12 + d_) + 60 ≤ 60 * (13 + d_); omega) (Nat.le_of_ble_eq_true rfl) dX10_at_14 ?_
  refine xr_lstore (pc := 17) (loc' := [(4, .long r5), (2, .long r3), (0, .ref x0), (1, .ref x1)]) dX10_at_17 (by show 5 < 6; decide) rfl ?_
  refine xr_aload_n (pc := 19) 2 dX10_at_19 rfl rfl ?_
  refine yc_getI (pc := 20) 9 0 900 (gKo ht1 (by decide)) (by decide) (by decide) (by decide) rfl rfl q1046 (ys_eq rfl) rfl dX10_at_20 ?_
  refine xr_lload_n (pc := 23) 1 dX10_at_23 rfl rfl ?_
  refine xr_lload (pc := 24) 0 dX10_at_24 rfl ?_
  refine xr_lcmp (pc := 26) dX10_at_26 ?_
  refine xr_if_le (pc := 27) 34 dX10_at_27 (by decide) (fun c_ => ?_) (fun c_ => ?_)
  · have hf := xo_pos c_ hf
    refine xr_iconst (pc := 34) dX10_at_34 xci_0 ?_
    refine xV_sub [1, 0] rfl ?_
    exact ok_Jc_X10_at_35 (d_ := d_) Hat hf kr
  · have hf := xo_neg c_ hf
    refine xr_iconst (pc := 30) dX10_at_30 xci_1 ?_
    refine xr_goto (pc := 31) 35 dX10_at_31 (by decide) ?_
    refine xV_sub [1, 0] rfl ?_
    exact ok_Jc_X10_at_35 (d_ := d_) Hat hf kr
theorem met_f_c_X10_at (l : Launch) {D : CD} {P : CP} {d_ : Nat} {g : CG} {at_ : Nat → Nat → CG → CC → Option (Int64 × CC)} (Hat : DAT D P d_ at_) {x0 : Nat} {x1 : Nat} {τ : CC} {o_ : (Int64 × CC)} (hf : f_c_X10_at g at_ x0 x1 τ = some o_) : xMet (wC D P) l yX10_at (ws_ yX10_at cX10_at 6 (some .long)) (13 + d_) (60 * (13 + d_)) (grc g) (grs g) [.ref x0, .ref x1] (g, τ) (some (.long o_.1), (g, o_.2)) := 
  xMet_of (by decide) (Nat.le_of_ble_eq_true rfl) KC_moved RPC_of (fun K _ _ _ => ok_f_c_X10_at (d_ := d_) Hat hf (fun _ h => by rw [h]))
theorem call_d_at_X18_20 {D : CD} {P : CP} {K : xK} {M : xM} {Q : State → Prop} {g : CG} {c : CC} {a m d_ : Nat} {f_ : Nat → Nat → CG → CC → Option (Int64 × CC)} {pc : Nat} {loc : List (Nat × Value)} {st : List Value} {r : Int64} {c1 : CC} (H : DAT D P d_ f_) (hf : f_ a m g c = some (r, c1)) (ho : M.2.2.1 = RX18) (hfr : 12 + d_ + 1 ≤ M.2.2.2.1) (hlo : 60 * (12 + d_) + 60 ≤ M.2.2.2.2.1) (hcat : (st.map fun v => v.category).sum ≤ 8) (d : decode M.1 pc = .ok (.invokevirtual 20, 3)) (k : xV (wC D P) K M Q (g, c1) (pc + 3) loc (.long r :: st)) : xV (wC D P) K M Q (g, c) pc loc (.ref m :: .ref a :: st) := by
  rcases H K.2.1 a m g c r c1 hf with ⟨ht, hM⟩ | ⟨ht, hM⟩ | ⟨ht, hM⟩ | ⟨ht, hM⟩ | ⟨ht, hM⟩
  · exact yc_callA (n := 1) (As := [.ref m]) (rest := st) (z := ⟨"BentRiver$Value", "at", "(LBentRiver$Moment;)J"⟩) hM (lw_2 q1323 q1325 (lw_2 q1385 q1347 (lw_1 q202 (lw_meth q1348)))) q1324 (by decide +kernel) ho hfr (by omega) rfl ht (by decide) (by decide) rfl rfl hcat d k
  · exact yc_callA (n := 1) (As := [.ref m]) (rest := st) (z := ⟨"BentRiver$Value", "at", "(LBentRiver$Moment;)J"⟩) hM (lw_2 q1323 q1325 (lw_2 q1326 q1327 (lw_1 q203 (lw_meth q1328)))) q1324 (by decide +kernel) ho hfr (by omega) rfl ht (by decide) (by decide) rfl rfl hcat d k
  · exact yc_callA (n := 1) (As := [.ref m]) (rest := st) (z := ⟨"BentRiver$Value", "at", "(LBentRiver$Moment;)J"⟩) hM (lw_2 q1323 q1325 (lw_2 q1387 q1352 (lw_1 q201 (lw_meth q1353)))) q1324 (by decide +kernel) ho hfr (by omega) rfl ht (by decide) (by decide) rfl rfl hcat d k
  · exact yc_callA (n := 1) (As := [.ref m]) (rest := st) (z := ⟨"BentRiver$Value", "at", "(LBentRiver$Moment;)J"⟩) hM (lw_2 q1323 q1325 (lw_2 q1340 q1341 (lw_1 q198 (lw_meth q1342)))) q1324 (by decide +kernel) ho hfr (by omega) rfl ht (by decide) (by decide) rfl rfl hcat d k
  · exact yc_callA (n := 1) (As := [.ref m]) (rest := st) (z := ⟨"BentRiver$Value", "at", "(LBentRiver$Moment;)J"⟩) hM (lw_2 q1323 q1325 (lw_2 q1386 q1349 (lw_1 q204 (lw_meth q1350)))) q1324 (by decide +kernel) ho hfr (by omega) rfl ht (by decide) (by decide) rfl rfl hcat d k
abbrev mX18_holds (d_ : Nat) : xM := (cX18_holds, 6, RX18, 13 + d_, 60 * (13 + d_), (some .boolean), "holds")
def f_c_X18_holds (g : CG) (at_ : Nat → Nat → CG → CC → Option (Int64 × CC)) (x0 : Nat) (x1 : Nat) (τ : CC) : Option (Int32 × CC) :=
  if gT g x0 = 16 then
  (gR g 1600 x0).bind fun b2 =>
  xbd (at_ b2 x1 g τ) fun r3 τ3 =>
  (gR g 1601 x0).bind fun b4 =>
  xbd (at_ b4 x1 g τ3) fun r5 τ5 =>
  if (cI τ5 1602 x0) = 60 then
  if (0 : Int32) ≤ (lg_cmp r3 r5) then
  some ((0, τ5))
  else
  some ((1, τ5))
  else
  if (cI τ5 1602 x0) = 62 then
  if (lg_cmp r3 r5) ≤ 0 then
  some ((0, τ5))
  else
  some ((1, τ5))
  else
  if (lg_cmp r3 r5) = 0 then
  some ((1, τ5))
  else
  some ((0, τ5))
  else none
theorem ok_f_c_X18_holds {D : CD} {P : CP} {K : xK} {d_ : Nat} {g : CG} {at_ : Nat → Nat → CG → CC → Option (Int64 × CC)} (Hat : DAT D P d_ at_) {Z : Option Value × CS} {x0 : Nat} {x1 : Nat} {τ : CC} {o_ : (Int32 × CC)} (hf : f_c_X18_holds g at_ x0 x1 τ = some o_) (kr : ∀ r_ : (Int32 × CC), o_ = r_ → Z = (some (.int r_.1), (g, r_.2))) : xV (wC D P) K (mX18_holds d_) (xQ (wC D P) K Z) (g, τ) 0 [(0, .ref x0), (1, .ref x1)] [] := by
  unfold f_c_X18_holds at hf
  refine xr_aload_n (pc := 0) 0 dX18_holds_0 rfl rfl ?_
  obtain ⟨ht1, hf⟩ := xo_if hf
  obtain ⟨b2, hb2, hf⟩ := xo_bind hf
  refine yc_getFs (pc := 1) 16 0 1600 (gKo ht1 (by decide)) (by decide) (by decide) (by decide) rfl rfl hb2 q1231 (ys_eq rfl) rfl dX18_holds_1 ?_
  refine xr_aload_n (pc := 4) 1 dX18_holds_4 rfl rfl ?_
  obtain ⟨r3, τ3, hτ3, hf⟩ := xo_bd hf
  refine call_d_at_X18_20 (pc := 5) Hat hτ3 rfl (by show 12 + d_ + 1 ≤ 13 + d_; omega) (by show 60 * (12 + d_) + 60 ≤ 60 * (13 + d_); omega) (Nat.le_of_ble_eq_true rfl) dX18_holds_5 ?_
  refine xr_lstore_n (pc := 8) (loc' := [(2, .long r3), (0, .ref x0), (1, .ref x1)]) dX18_holds_8 rfl (by show 3 < 6; decide) rfl ?_
  refine xr_aload_n (pc := 9) 1 dX18_holds_9 rfl rfl ?_
  obtain ⟨b4, hb4, hf⟩ := xo_bind hf
  refine yc_getFs (pc := 10) 16 1 1601 (gKo ht1 (by decide)) (by decide) (by decide) (by decide) rfl rfl hb4 q1232 (ys_eq rfl) rfl dX18_holds_10 ?_
  refine xr_aload_n (pc := 13) 2 dX18_holds_13 rfl rfl ?_
  obtain ⟨r5, τ5, hτ5, hf⟩ := xo_bd hf
  refine call_d_at_X18_20 (pc := 14) Hat hτ5 rfl (by show 12 + d_ + 1 ≤ 13 + d_; omega) (by show 60 * (12 + d_) + 60 ≤ 60 * (13 + d_); omega) (Nat.le_of_ble_eq_true rfl) dX18_holds_14 ?_
  refine xr_lstore (pc := 17) (loc' := [(4, .long r5), (2, .long r3), (0, .ref x0), (1, .ref x1)]) dX18_holds_17 (by show 5 < 6; decide) rfl ?_
  refine xr_aload_n (pc := 19) 2 dX18_holds_19 rfl rfl ?_
  refine yc_getI (pc := 20) 16 2 1602 (gKo ht1 (by decide)) (by decide) (by decide) (by decide) rfl rfl q1233 (ys_eq rfl) rfl dX18_holds_20 ?_
  refine xr_bipush (pc := 23) dX18_holds_23 xcb_60 ?_
  refine xr_icmp_ne (pc := 25) 43 dX18_holds_25 (by decide) (fun c_ => ?_) (fun c_ => ?_)
  · have hf := xo_pos c_ hf
    refine xr_lload_n (pc := 28) 1 dX18_holds_28 rfl rfl ?_
    refine xr_lload (pc := 29) 0 dX18_holds_29 rfl ?_
    refine xr_lcmp (pc := 31) dX18_holds_31 ?_
    refine xr_if_ge (pc := 32) 39 dX18_holds_32 (by decide) (fun c_ => ?_) (fun c_ => ?_)
    · have hf := xo_pos c_ hf
      refine xr_iconst (pc := 39) dX18_holds_39 xci_0 ?_
      refine xr_goto (pc := 40) 79 dX18_holds_40 (by decide) ?_
      rw [kr _ (Option.some.inj hf).symm]
      exact xr_zret (pc := 79) dX18_holds_79 rfl xz_0
    · have hf := xo_neg c_ hf
      refine xr_iconst (pc := 35) dX18_holds_35 xci_1 ?_
      refine xr_goto (pc := 36) 79 dX18_holds_36 (by decide) ?_
      rw [kr _ (Option.some.inj hf).symm]
      exact xr_zret (pc := 79) dX18_holds_79 rfl xz_1
  · have hf := xo_neg c_ hf
    refine xr_aload_n (pc := 43) 2 dX18_holds_43 rfl rfl ?_
    refine yc_getI (pc := 44) 16 2 1602 (gKo ht1 (by decide)) (by decide) (by decide) (by decide) rfl rfl q1233 (ys_eq rfl) rfl dX18_holds_44 ?_
    refine xr_bipush (pc := 47) dX18_holds_47 xcb_62 ?_
    refine xr_icmp_ne (pc := 49) 67 dX18_holds_49 (by decide) (fun c_ => ?_) (fun c_ => ?_)
    · have hf := xo_pos c_ hf
      refine xr_lload_n (pc := 52) 1 dX18_holds_52 rfl rfl ?_
      refine xr_lload (pc := 53) 0 dX18_holds_53 rfl ?_
      refine xr_lcmp (pc := 55) dX18_holds_55 ?_
      refine xr_if_le (pc := 56) 63 dX18_holds_56 (by decide) (fun c_ => ?_) (fun c_ => ?_)
      · have hf := xo_pos c_ hf
        refine xr_iconst (pc := 63) dX18_holds_63 xci_0 ?_
        refine xr_goto (pc := 64) 79 dX18_holds_64 (by decide) ?_
        rw [kr _ (Option.some.inj hf).symm]
        exact xr_zret (pc := 79) dX18_holds_79 rfl xz_0
      · have hf := xo_neg c_ hf
        refine xr_iconst (pc := 59) dX18_holds_59 xci_1 ?_
        refine xr_goto (pc := 60) 79 dX18_holds_60 (by decide) ?_
        rw [kr _ (Option.some.inj hf).symm]
        exact xr_zret (pc := 79) dX18_holds_79 rfl xz_1
    · have hf := xo_neg c_ hf
      refine xr_lload_n (pc := 67) 1 dX18_holds_67 rfl rfl ?_
      refine xr_lload (pc := 68) 0 dX18_holds_68 rfl ?_
      refine xr_lcmp (pc := 70) dX18_holds_70 ?_
      refine xr_if_ne (pc := 71) 78 dX18_holds_71 (by decide) (fun c_ => ?_) (fun c_ => ?_)
      · have hf := xo_pos c_ hf
        refine xr_iconst (pc := 74) dX18_holds_74 xci_1 ?_
        refine xr_goto (pc := 75) 79 dX18_holds_75 (by decide) ?_
        rw [kr _ (Option.some.inj hf).symm]
        exact xr_zret (pc := 79) dX18_holds_79 rfl xz_1
      · have hf := xo_neg c_ hf
        refine xr_iconst (pc := 78) dX18_holds_78 xci_0 ?_
        rw [kr _ (Option.some.inj hf).symm]
        exact xr_zret (pc := 79) dX18_holds_79 rfl xz_0
theorem met_f_c_X18_holds (l : Launch) {D : CD} {P : CP} {d_ : Nat} {g : CG} {at_ : Nat → Nat → CG → CC → Option (Int64 × CC)} (Hat : DAT D P d_ at_) {x0 : Nat} {x1 : Nat} {τ : CC} {o_ : (Int32 × CC)} (hf : f_c_X18_holds g at_ x0 x1 τ = some o_) : xMet (wC D P) l yX18_holds (ws_ yX18_holds cX18_holds 6 (some .boolean)) (13 + d_) (60 * (13 + d_)) (grc g) (grs g) [.ref x0, .ref x1] (g, τ) (some (.int o_.1), (g, o_.2)) := 
  xMet_of (by decide) (Nat.le_of_ble_eq_true rfl) KC_moved RPC_of (fun K _ _ _ => ok_f_c_X18_holds (d_ := d_) Hat hf (fun _ h => by rw [h]))
theorem call_f_c_J2_size_X15_22 {D : CD} {P : CP} {K : xK} {M : xM} {Q : State → Prop} {g : CG} {c : CC} {x0 : Nat} {pc : Nat} {loc : List (Nat × Value)} {st : List Value} {r : Int32} {c1 : CC} (hf : f_c_J2_size g x0 c = some (r, c1)) (hr : gK g x0 = 18) (ho : M.2.2.1 = RX15) (hfr : 1 ≤ M.2.2.2.1) (hlo : 20 ≤ M.2.2.2.2.1) (hcat : (st.map fun v => v.category).sum ≤ 8) (d : decode M.1 pc = .ok (.invokeinterface 22 1, 5)) (k : xV (wC D P) K M Q (g, c1) (pc + 5) loc (.int r :: st)) : xV (wC D P) K M Q (g, c) pc loc (.ref x0 :: st) :=
  yc_callF (n := 0) (As := []) (rest := st) (z := yList_size) (met_f_c_J2_size K.2.1 hf) (lw_2 q1313 q804 (lw_2 q806 q178 (lw_meth q808))) (fun s h => h.2.2.2.2.2.1.1) (by decide +kernel) ho hfr hlo rfl hr rfl hcat d k
theorem call_f_c_J2_get_X15_28 {D : CD} {P : CP} {K : xK} {M : xM} {Q : State → Prop} {g : CG} {c : CC} {x0 : Nat} {x1 : Int32} {pc : Nat} {loc : List (Nat × Value)} {st : List Value} {r : Nat} {c1 : CC} (hf : f_c_J2_get g x0 x1 c = some (r, c1)) (hr : gK g x0 = 18) (ho : M.2.2.1 = RX15) (hfr : 3 ≤ M.2.2.2.1) (hlo : 141 ≤ M.2.2.2.2.1) (hcat : (st.map fun v => v.category).sum ≤ 8) (d : decode M.1 pc = .ok (.invokeinterface 28 2, 5)) (k : xV (wC D P) K M Q (g, c1) (pc + 5) loc (.ref r :: st)) : xV (wC D P) K M Q (g, c) pc loc (.int x1 :: .ref x0 :: st) :=
  yc_callF (n := 1) (As := [.int x1]) (rest := st) (z := yList_get) (met_f_c_J2_get K.2.1 hf) (lw_2 q1315 q841 (lw_2 q843 q178 (lw_meth q845))) (fun s h => h.2.2.2.2.2.1.2.1) (by decide +kernel) ho hfr hlo rfl hr rfl hcat d k
theorem chk_T_X15 {D : CD} {P : CP} {K : xK} {M : xM} {Q : State → Prop} {g : CG} {c : CC} {pc : Nat} {loc : List (Nat × Value)} {st : List Value} {a : Nat} (h : isT (gK g a) = true) (ho : M.2.2.1 = RX15) (d : decode M.1 pc = .ok (.checkcast 2, 3)) (kk : xV (wC D P) K M Q (g, c) (pc + 3) loc (.ref a :: st)) : xV (wC D P) K M Q (g, c) pc loc (.ref a :: st) := by
  unfold isT at h
  simp only [Bool.or_eq_true, beq_iff_eq] at h
  rcases h with ((h | h) | h) | h
  · exact yc_chk 13 h (by decide) (by decide) q1316 q2755 ho d kk
  · exact yc_chk 14 h (by decide) (by decide) q1316 q2756 ho d kk
  · exact yc_chk 15 h (by decide) (by decide) q1316 q2754 ho d kk
  · exact yc_chk 16 h (by decide) (by decide) q1316 q2757 ho d kk
theorem call_d_ho_X15_32 {D : CD} {P : CP} {K : xK} {M : xM} {Q : State → Prop} {g : CG} {c : CC} {a m d_ : Nat} {f_ : Nat → Nat → CG → CC → Option (Int32 × CC)} {pc : Nat} {loc : List (Nat × Value)} {st : List Value} {r : Int32} {c1 : CC} (H : DHO D P d_ f_) (hf : f_ a m g c = some (r, c1)) (ho : M.2.2.1 = RX15) (hfr : 12 + d_ + 1 ≤ M.2.2.2.1) (hlo : 60 * (12 + d_) + 60 ≤ M.2.2.2.2.1) (hcat : (st.map fun v => v.category).sum ≤ 8) (d : decode M.1 pc = .ok (.invokevirtual 32, 3)) (k : xV (wC D P) K M Q (g, c1) (pc + 3) loc (.int r :: st)) : xV (wC D P) K M Q (g, c) pc loc (.ref m :: .ref a :: st) := by
  rcases H K.2.1 a m g c r c1 hf with ⟨ht, hM⟩ | ⟨ht, hM⟩ | ⟨ht, hM⟩ | ⟨ht, hM⟩
  · exact yc_callA (n := 1) (As := [.ref m]) (rest := st) (z := ⟨"BentRiver$Test", "holds", "(LBentRiver$Moment;)Z"⟩) hM (lw_2 q1317 q1305 (lw_2 q1306 q1307 (lw_1 q208 (lw_meth q1308)))) q1304 (by decide +kernel) ho hfr (by omega) rfl ht (by decide) (by decide) rfl rfl hcat d k
  · exact yc_callA (n := 1) (As := [.ref m]) (rest := st) (z := ⟨"BentRiver$Test", "holds", "(LBentRiver$Moment;)Z"⟩) hM (lw_2 q1317 q1305 (lw_2 q1389 q1321 (lw_1 q209 (lw_meth q1322)))) q1304 (by decide +kernel) ho hfr (by omega) rfl ht (by decide) (by decide) rfl rfl hcat d k
  · exact yc_callA (n := 1) (As := [.ref m]) (rest := st) (z := ⟨"BentRiver$Test", "holds", "(LBentRiver$Moment;)Z"⟩) hM (lw_2 q1317 q1305 (lw_2 q1388 q1318 (lw_1 q207 (lw_meth q1319)))) q1304 (by decide +kernel) ho hfr (by omega) rfl ht (by decide) (by decide) rfl rfl hcat d k
  · exact yc_callA (n := 1) (As := [.ref m]) (rest := st) (z := ⟨"BentRiver$Test", "holds", "(LBentRiver$Moment;)Z"⟩) hM (lw_2 q1317 q1305 (lw_2 q1309 q1310 (lw_1 q206 (lw_meth q1311)))) q1304 (by decide +kernel) ho hfr (by omega) rfl ht (by decide) (by decide) rfl rfl hcat d k
abbrev mX15_holds (d_ : Nat) : xM := (cX15_holds, 3, RX15, 13 + d_, 60 * (13 + d_), (some .boolean), "holds")
def Bc_X15_holds_2 (g : CG) (ho_ : Nat → Nat → CG → CC → Option (Int32 × CC)) (x0 : Nat) (x1 : Nat) (x2 : Int32) (τ : CC) : Option ((Int32 × CC) ⊕ ((CC) ⊕ ((Int32 × CC)))) :=
  if gT g x0 = 13 then
  (gR g 1300 x0).bind fun b2 =>
  if gT g b2 = 18 then
  xbd (f_c_J2_size g b2 τ) fun r4 τ4 =>
  if r4 ≤ x2 then
  some (.inr (.inr ((cI τ4 1301 x0) &&& 1, τ4)))
  else
  xbd (f_c_J2_get g b2 x2 τ4) fun r5 τ5 =>
  if isT (gK g r5) = true then
  xbd (ho_ r5 x1 g τ5) fun r7 τ7 =>
  if r7 = (cI τ7 1301 x0) then
  some (.inl (x2 + 1, τ7))
  else
  some (.inr (.inl τ7))
  else none
  else none
  else none
theorem ok_Bc_X15_holds_2 {D : CD} {P : CP} {K : xK} {d_ : Nat} {g : CG} {ho_ : Nat → Nat → CG → CC → Option (Int32 × CC)} (Hho : DHO D P d_ ho_) {Z : Option Value × CS} {x0 : Nat} {x1 : Nat} {x2 : Int32} {τ : CC} {o_ : ((Int32 × CC) ⊕ ((CC) ⊕ ((Int32 × CC))))} (hf : Bc_X15_holds_2 g ho_ x0 x1 x2 τ = some o_) (kc : ∀ s_ : Int32 × CC, o_ = .inl s_ → xV (wC D P) K (mX15_holds d_) (xQ (wC D P) K Z) (g, s_.2) 2 [(0, .ref x0), (1, .ref x1), (2, .int s_.1)] []) (ke0 : ∀ e_ : CC, o_ = .inr (.inl e_) → xV (wC D P) K (mX15_holds d_) (xQ (wC D P) K Z) (g, e_) 39 [(0, .ref x0)] []) (kr : ∀ r_ : (Int32 × CC), o_ = .inr (.inr r_) → Z = (some (.int r_.1), (g, r_.2))) : xV (wC D P) K (mX15_holds d_) (xQ (wC D P) K Z) (g, τ) 2 [(0, .ref x0), (1, .ref x1), (2, .int x2)] [] := by
  unfold Bc_X15_holds_2 at hf
  refine xr_iload_n (pc := 2) 2 dX15_holds_2 rfl rfl ?_
  refine xr_aload_n (pc := 3) 0 dX15_holds_3 rfl rfl ?_
  obtain ⟨ht1, hf⟩ := xo_if hf
  obtain ⟨b2, hb2, hf⟩ := xo_bind hf
  refine yc_getFs (pc := 4) 13 0 1300 (gKo ht1 (by decide)) (by decide) (by decide) (by decide) rfl rfl hb2 q1186 (ys_eq rfl) rfl dX15_holds_4 ?_
  obtain ⟨ht3, hf⟩ := xo_if hf
  obtain ⟨r4, τ4, hτ4, hf⟩ := xo_bd hf
  refine call_f_c_J2_size_X15_22 (pc := 7) hτ4 (gKo ht3 (by decide)) rfl (by show 1 ≤ 13 + d_; omega) (by show 20 ≤ 60 * (13 + d_); omega) (Nat.le_of_ble_eq_true rfl) dX15_holds_7 ?_
  refine xr_icmp_ge (pc := 12) 58 dX15_holds_12 (by decide) (fun c_ => ?_) (fun c_ => ?_)
  · have hf := xo_pos c_ hf
    refine xr_aload_n (pc := 58) 0 dX15_holds_58 rfl rfl ?_
    refine yc_getI (pc := 59) 13 1 1301 (gKo ht1 (by decide)) (by decide) (by decide) (by decide) rfl rfl q1188 (ys_eq rfl) rfl dX15_holds_59 ?_
    rw [kr _ (Option.some.inj hf).symm]
    exact xr_zret (pc := 62) dX15_holds_62 rfl rfl
  · have hf := xo_neg c_ hf
    refine xr_aload_n (pc := 15) 0 dX15_holds_15 rfl rfl ?_
    refine yc_getFs (pc := 16) 13 0 1300 (gKo ht1 (by decide)) (by decide) (by decide) (by decide) rfl rfl hb2 q1186 (ys_eq rfl) rfl dX15_holds_16 ?_
    refine xr_iload_n (pc := 19) 2 dX15_holds_19 rfl rfl ?_
    obtain ⟨r5, τ5, hτ5, hf⟩ := xo_bd hf
    refine call_f_c_J2_get_X15_28 (pc := 20) hτ5 (gKo ht3 (by decide)) rfl (by show 3 ≤ 13 + d_; omega) (by show 141 ≤ 60 * (13 + d_); omega) (Nat.le_of_ble_eq_true rfl) dX15_holds_20 ?_
    obtain ⟨hc6, hf⟩ := xo_if hf
    refine chk_T_X15 (pc := 25) hc6 rfl dX15_holds_25 ?_
    refine xr_aload_n (pc := 28) 1 dX15_holds_28 rfl rfl ?_
    obtain ⟨r7, τ7, hτ7, hf⟩ := xo_bd hf
    refine call_d_ho_X15_32 (pc := 29) Hho hτ7 rfl (by show 12 + d_ + 1 ≤ 13 + d_; omega) (by show 60 * (12 + d_) + 60 ≤ 60 * (13 + d_); omega) (Nat.le_of_ble_eq_true rfl) dX15_holds_29 ?_
    refine xr_aload_n (pc := 32) 0 dX15_holds_32 rfl rfl ?_
    refine yc_getI (pc := 33) 13 1 1301 (gKo ht1 (by decide)) (by decide) (by decide) (by decide) rfl rfl q1188 (ys_eq rfl) rfl dX15_holds_33 ?_
    refine xr_icmp_eq (pc := 36) 52 dX15_holds_36 (by decide) (fun c_ => ?_) (fun c_ => ?_)
    · have hf := xo_pos c_ hf
      refine xr_iinc (pc := 52) (loc' := [(2, .int (x2 + 1)), (0, .ref x0), (1, .ref x1)]) 2 dX15_holds_52 rfl xci_1 (by show 2 < 3; decide) rfl ?_
      refine xr_goto (pc := 55) 2 dX15_holds_55 (by decide) ?_
      refine xV_sub [1, 2, 0] rfl ?_
      exact kc _ (Option.some.inj hf).symm
    · have hf := xo_neg c_ hf
      refine xV_sub [0] rfl ?_
      exact ke0 _ (Option.some.inj hf).symm
def f_c_X15_holds (g : CG) (ho_ : Nat → Nat → CG → CC → Option (Int32 × CC)) (x0 : Nat) (x1 : Nat) (τ : CC) : Option (Int32 × CC) :=
  (itr (fun s_ : Int32 × CC => Bc_X15_holds_2 g ho_ x0 x1 s_.1 s_.2) 4096 (0, τ)).bind fun b8 =>
  (Sum.elim (fun e9 => if gT g x0 = 13 then
  if (cI e9 1301 x0) = 0 then
  some ((1, e9))
  else
  some ((0, e9))
  else none) (fun r_ => some r_)) b8
theorem ok_f_c_X15_holds {D : CD} {P : CP} {K : xK} {d_ : Nat} {g : CG} {ho_ : Nat → Nat → CG → CC → Option (Int32 × CC)} (Hho : DHO D P d_ ho_) {Z : Option Value × CS} {x0 : Nat} {x1 : Nat} {τ : CC} {o_ : (Int32 × CC)} (hf : f_c_X15_holds g ho_ x0 x1 τ = some o_) (kr : ∀ r_ : (Int32 × CC), o_ = r_ → Z = (some (.int r_.1), (g, r_.2))) : xV (wC D P) K (mX15_holds d_) (xQ (wC D P) K Z) (g, τ) 0 [(0, .ref x0), (1, .ref x1)] [] := by
  unfold f_c_X15_holds at hf
  refine xr_iconst (pc := 0) dX15_holds_0 xci_0 ?_
  refine xr_istore_n (pc := 1) (loc' := [(2, .int 0), (0, .ref x0), (1, .ref x1)]) dX15_holds_1 rfl (by show 2 < 3; decide) rfl ?_
  refine xV_sub [1, 2, 0] rfl ?_
  obtain ⟨b8, hb8, hf⟩ := xo_bind hf
  refine itr_rule (P := fun s_ : Int32 × CC => xV (wC D P) K (mX15_holds d_) (xQ (wC D P) K Z) (g, s_.2) 2 [(0, .ref x0), (1, .ref x1), (2, .int s_.1)] []) (fun s_ o_ hB_ hc_ he_ => ok_Bc_X15_holds_2 (d_ := d_) Hho hB_ hc_ (fun e9 h_ => ?_) (fun r_ h_ => ?_)) 4096 _ hb8
  · have e9_ := he_ _ h_
    subst e9_
    have hf := xo_inl hf
    refine xr_aload_n (pc := 39) 0 dX15_holds_39 rfl rfl ?_
    obtain ⟨ht10, hf⟩ := xo_if hf
    refine yc_getI (pc := 40) 13 1 1301 (gKo ht10 (by decide)) (by decide) (by decide) (by decide) rfl rfl q1188 (ys_eq rfl) rfl dX15_holds_40 ?_
    refine xr_if_ne (pc := 43) 50 dX15_holds_43 (by decide) (fun c_ => ?_) (fun c_ => ?_)
    · have hf := xo_pos c_ hf
      refine xr_iconst (pc := 46) dX15_holds_46 xci_1 ?_
      refine xr_goto (pc := 47) 51 dX15_holds_47 (by decide) ?_
      rw [kr _ (Option.some.inj hf).symm]
      exact xr_zret (pc := 51) dX15_holds_51 rfl xz_1
    · have hf := xo_neg c_ hf
      refine xr_iconst (pc := 50) dX15_holds_50 xci_0 ?_
      rw [kr _ (Option.some.inj hf).symm]
      exact xr_zret (pc := 51) dX15_holds_51 rfl xz_0
  · have e9_ := he_ _ h_
    subst e9_
    have hf := xo_inr hf
    exact kr _ (Option.some.inj hf).symm
theorem met_f_c_X15_holds (l : Launch) {D : CD} {P : CP} {d_ : Nat} {g : CG} {ho_ : Nat → Nat → CG → CC → Option (Int32 × CC)} (Hho : DHO D P d_ ho_) {x0 : Nat} {x1 : Nat} {τ : CC} {o_ : (Int32 × CC)} (hf : f_c_X15_holds g ho_ x0 x1 τ = some o_) : xMet (wC D P) l yX15_holds (ws_ yX15_holds cX15_holds 3 (some .boolean)) (13 + d_) (60 * (13 + d_)) (grc g) (grs g) [.ref x0, .ref x1] (g, τ) (some (.int o_.1), (g, o_.2)) := 
  xMet_of (by decide) (Nat.le_of_ble_eq_true rfl) KC_moved RPC_of (fun K _ _ _ => ok_f_c_X15_holds (d_ := d_) Hho hf (fun _ h => by rw [h]))
theorem call_d_ho_X16_13 {D : CD} {P : CP} {K : xK} {M : xM} {Q : State → Prop} {g : CG} {c : CC} {a m d_ : Nat} {f_ : Nat → Nat → CG → CC → Option (Int32 × CC)} {pc : Nat} {loc : List (Nat × Value)} {st : List Value} {r : Int32} {c1 : CC} (H : DHO D P d_ f_) (hf : f_ a m g c = some (r, c1)) (ho : M.2.2.1 = RX16) (hfr : 12 + d_ + 1 ≤ M.2.2.2.1) (hlo : 60 * (12 + d_) + 60 ≤ M.2.2.2.2.1) (hcat : (st.map fun v => v.category).sum ≤ 8) (d : decode M.1 pc = .ok (.invokevirtual 13, 3)) (k : xV (wC D P) K M Q (g, c1) (pc + 3) loc (.int r :: st)) : xV (wC D P) K M Q (g, c) pc loc (.ref m :: .ref a :: st) := by
  rcases H K.2.1 a m g c r c1 hf with ⟨ht, hM⟩ | ⟨ht, hM⟩ | ⟨ht, hM⟩ | ⟨ht, hM⟩
  · exact yc_callA (n := 1) (As := [.ref m]) (rest := st) (z := ⟨"BentRiver$Test", "holds", "(LBentRiver$Moment;)Z"⟩) hM (lw_2 q1320 q1305 (lw_2 q1306 q1307 (lw_1 q208 (lw_meth q1308)))) q1304 (by decide +kernel) ho hfr (by omega) rfl ht (by decide) (by decide) rfl rfl hcat d k
  · exact yc_callA (n := 1) (As := [.ref m]) (rest := st) (z := ⟨"BentRiver$Test", "holds", "(LBentRiver$Moment;)Z"⟩) hM (lw_2 q1320 q1305 (lw_2 q1389 q1321 (lw_1 q209 (lw_meth q1322)))) q1304 (by decide +kernel) ho hfr (by omega) rfl ht (by decide) (by decide) rfl rfl hcat d k
  · exact yc_callA (n := 1) (As := [.ref m]) (rest := st) (z := ⟨"BentRiver$Test", "holds", "(LBentRiver$Moment;)Z"⟩) hM (lw_2 q1320 q1305 (lw_2 q1388 q1318 (lw_1 q207 (lw_meth q1319)))) q1304 (by decide +kernel) ho hfr (by omega) rfl ht (by decide) (by decide) rfl rfl hcat d k
  · exact yc_callA (n := 1) (As := [.ref m]) (rest := st) (z := ⟨"BentRiver$Test", "holds", "(LBentRiver$Moment;)Z"⟩) hM (lw_2 q1320 q1305 (lw_2 q1309 q1310 (lw_1 q206 (lw_meth q1311)))) q1304 (by decide +kernel) ho hfr (by omega) rfl ht (by decide) (by decide) rfl rfl hcat d k
abbrev mX16_holds (d_ : Nat) : xM := (cX16_holds, 2, RX16, 13 + d_, 60 * (13 + d_), (some .boolean), "holds")
def f_c_X16_holds (g : CG) (ho_ : Nat → Nat → CG → CC → Option (Int32 × CC)) (x0 : Nat) (x1 : Nat) (τ : CC) : Option (Int32 × CC) :=
  if gT g x0 = 14 then
  (gR g 1400 x0).bind fun b2 =>
  xbd (ho_ b2 x1 g τ) fun r3 τ3 =>
  if r3 = 0 then
  some ((1, τ3))
  else
  some ((0, τ3))
  else none
theorem ok_f_c_X16_holds {D : CD} {P : CP} {K : xK} {d_ : Nat} {g : CG} {ho_ : Nat → Nat → CG → CC → Option (Int32 × CC)} (Hho : DHO D P d_ ho_) {Z : Option Value × CS} {x0 : Nat} {x1 : Nat} {τ : CC} {o_ : (Int32 × CC)} (hf : f_c_X16_holds g ho_ x0 x1 τ = some o_) (kr : ∀ r_ : (Int32 × CC), o_ = r_ → Z = (some (.int r_.1), (g, r_.2))) : xV (wC D P) K (mX16_holds d_) (xQ (wC D P) K Z) (g, τ) 0 [(0, .ref x0), (1, .ref x1)] [] := by
  unfold f_c_X16_holds at hf
  refine xr_aload_n (pc := 0) 0 dX16_holds_0 rfl rfl ?_
  obtain ⟨ht1, hf⟩ := xo_if hf
  obtain ⟨b2, hb2, hf⟩ := xo_bind hf
  refine yc_getFs (pc := 1) 14 0 1400 (gKo ht1 (by decide)) (by decide) (by decide) (by decide) rfl rfl hb2 q1213 (ys_eq rfl) rfl dX16_holds_1 ?_
  refine xr_aload_n (pc := 4) 1 dX16_holds_4 rfl rfl ?_
  obtain ⟨r3, τ3, hτ3, hf⟩ := xo_bd hf
  refine call_d_ho_X16_13 (pc := 5) Hho hτ3 rfl (by show 12 + d_ + 1 ≤ 13 + d_; omega) (by show 60 * (12 + d_) + 60 ≤ 60 * (13 + d_); omega) (Nat.le_of_ble_eq_true rfl) dX16_holds_5 ?_
  refine xr_if_ne (pc := 8) 15 dX16_holds_8 (by decide) (fun c_ => ?_) (fun c_ => ?_)
  · have hf := xo_pos c_ hf
    refine xr_iconst (pc := 11) dX16_holds_11 xci_1 ?_
    refine xr_goto (pc := 12) 16 dX16_holds_12 (by decide) ?_
    rw [kr _ (Option.some.inj hf).symm]
    exact xr_zret (pc := 16) dX16_holds_16 rfl xz_1
  · have hf := xo_neg c_ hf
    refine xr_iconst (pc := 15) dX16_holds_15 xci_0 ?_
    rw [kr _ (Option.some.inj hf).symm]
    exact xr_zret (pc := 16) dX16_holds_16 rfl xz_0
theorem met_f_c_X16_holds (l : Launch) {D : CD} {P : CP} {d_ : Nat} {g : CG} {ho_ : Nat → Nat → CG → CC → Option (Int32 × CC)} (Hho : DHO D P d_ ho_) {x0 : Nat} {x1 : Nat} {τ : CC} {o_ : (Int32 × CC)} (hf : f_c_X16_holds g ho_ x0 x1 τ = some o_) : xMet (wC D P) l yX16_holds (ws_ yX16_holds cX16_holds 2 (some .boolean)) (13 + d_) (60 * (13 + d_)) (grc g) (grs g) [.ref x0, .ref x1] (g, τ) (some (.int o_.1), (g, o_.2)) := 
  xMet_of (by decide) (Nat.le_of_ble_eq_true rfl) KC_moved RPC_of (fun K _ _ _ => ok_f_c_X16_holds (d_ := d_) Hho hf (fun _ h => by rw [h]))
def d_at : Nat → Nat → Nat → CG → CC → Option (Int64 × CC)
  | 0 => fun _ _ _ _ => none
  | d + 1 => fun a m g c => if gK g a = 10 then f_c_X11_at g a m c else if gK g a = 11 then f_c_X12_at g a m c else if gK g a = 9 then f_c_X10_at g (d_at d) a m c else if gK g a = 8 then f_c_X9_at g (d_at d) a m c else if gK g a = 12 then f_c_X13_at g (d_at d) a m c else none
theorem all_at {D : CD} {P : CP} : ∀ d, DAT D P d (d_at d)
  | 0 => fun l a m g c r c1 h => by cases h
  | d + 1 => fun l a m g c r c1 h => by
    have h : (if gK g a = 10 then f_c_X11_at g a m c else if gK g a = 11 then f_c_X12_at g a m c else if gK g a = 9 then f_c_X10_at g (d_at d) a m c else if gK g a = 8 then f_c_X9_at g (d_at d) a m c else if gK g a = 12 then f_c_X13_at g (d_at d) a m c else none) = some (r, c1) := h
    by_cases h0 : gK g a = 10
    · have h := xo_pos h0 h
      have hm := met_f_c_X11_at l (D := D) (P := P) (d_ := d) h
      rw [show 13 + d = 12 + (d + 1) by omega] at hm
      exact Or.inl ⟨h0, hm⟩
    have h := xo_neg h0 h
    by_cases h1 : gK g a = 11
    · have h := xo_pos h1 h
      have hm := met_f_c_X12_at l (D := D) (P := P) (d_ := d) h
      rw [show 13 + d = 12 + (d + 1) by omega] at hm
      exact Or.inr (Or.inl ⟨h1, hm⟩)
    have h := xo_neg h1 h
    by_cases h2 : gK g a = 9
    · have h := xo_pos h2 h
      have hm := met_f_c_X10_at l (D := D) (P := P) (d_ := d) (all_at d) h
      rw [show 13 + d = 12 + (d + 1) by omega] at hm
      exact Or.inr (Or.inr (Or.inl ⟨h2, hm⟩))
    have h := xo_neg h2 h
    by_cases h3 : gK g a = 8
    · have h := xo_pos h3 h
      have hm := met_f_c_X9_at l (D := D) (P := P) (d_ := d) (all_at d) h
      rw [show 13 + d = 12 + (d + 1) by omega] at hm
      exact Or.inr (Or.inr (Or.inr (Or.inl ⟨h3, hm⟩)))
    have h := xo_neg h3 h
    by_cases h4 : gK g a = 12
    · have h := xo_pos h4 h
      have hm := met_f_c_X13_at l (D := D) (P := P) (d_ := d) (all_at d) h
      rw [show 13 + d = 12 + (d + 1) by omega] at hm
      exact Or.inr (Or.inr (Or.inr (Or.inr (⟨h4, hm⟩))))
    have h := xo_neg h4 h
    cases h
def d_ho : Nat → Nat → Nat → CG → CC → Option (Int32 × CC)
  | 0 => fun _ _ _ _ => none
  | d + 1 => fun a m g c => if gK g a = 15 then f_c_X17_holds g a m c else if gK g a = 16 then f_c_X18_holds g (d_at d) a m c else if gK g a = 14 then f_c_X16_holds g (d_ho d) a m c else if gK g a = 13 then f_c_X15_holds g (d_ho d) a m c else none
theorem all_ho {D : CD} {P : CP} : ∀ d, DHO D P d (d_ho d)
  | 0 => fun l a m g c r c1 h => by cases h
  | d + 1 => fun l a m g c r c1 h => by
    have h : (if gK g a = 15 then f_c_X17_holds g a m c else if gK g a = 16 then f_c_X18_holds g (d_at d) a m c else if gK g a = 14 then f_c_X16_holds g (d_ho d) a m c else if gK g a = 13 then f_c_X15_holds g (d_ho d) a m c else none) = some (r, c1) := h
    by_cases h0 : gK g a = 15
    · have h := xo_pos h0 h
      have hm := met_f_c_X17_holds l (D := D) (P := P) (d_ := d) h
      rw [show 13 + d = 12 + (d + 1) by omega] at hm
      exact Or.inl ⟨h0, hm⟩
    have h := xo_neg h0 h
    by_cases h1 : gK g a = 16
    · have h := xo_pos h1 h
      have hm := met_f_c_X18_holds l (D := D) (P := P) (d_ := d) (all_at d) h
      rw [show 13 + d = 12 + (d + 1) by omega] at hm
      exact Or.inr (Or.inl ⟨h1, hm⟩)
    have h := xo_neg h1 h
    by_cases h2 : gK g a = 14
    · have h := xo_pos h2 h
      have hm := met_f_c_X16_holds l (D := D) (P := P) (d_ := d) (all_ho d) h
      rw [show 13 + d = 12 + (d + 1) by omega] at hm
      exact Or.inr (Or.inr (Or.inl ⟨h2, hm⟩))
    have h := xo_neg h2 h
    by_cases h3 : gK g a = 13
    · have h := xo_pos h3 h
      have hm := met_f_c_X15_holds l (D := D) (P := P) (d_ := d) (all_ho d) h
      rw [show 13 + d = 12 + (d + 1) by omega] at hm
      exact Or.inr (Or.inr (Or.inr (⟨h3, hm⟩)))
    have h := xo_neg h3 h
    cases h
