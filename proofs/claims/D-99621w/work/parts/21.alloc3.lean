set_option maxRecDepth 100000
abbrev mX2_more : xM := (cX2_more, 5, RX2, 131, 7860, none, "more")
def Jc_X2_more_173 (x0 : Nat) (x2 : Int32) (s0 : Int32) (s1 : Nat) (τ : CS) : Option ((Unit ⊕ Nat) × CS) :=
  if gT τ.1 s1 = 3 then
  xbx (f_x_X2_most s1 s0 x2 τ) (fun r15 τ15 =>
  if gT τ15.1 x0 = 3 then
  (cR (uI τ15.2 305 x0 783) 306 x0).bind fun b17 =>
  xbx (d_te 8 x0 (τ15.1, uI τ15.2 305 x0 783)) (fun r18 τ18 =>
  if gT τ18.1 b17 = 2 then
  some ((.inl (), (τ18.1, uR τ18.2 210 b17 (some r18))))
  else none) (fun q20 τ20 => some ((.inr q20, τ20)))
  else none) (fun q21 τ21 => some ((.inr q21, τ21)))
  else none
theorem ok_Jc_X2_more_173 {D : CD} {P : CP} {K : xK} (hno : xNoT K) {Z : (Option Value ⊕ Nat) × CS} {x0 : Nat} {x2 : Int32} {s0 : Int32} {s1 : Nat} {τ : CS} {o_ : ((Unit ⊕ Nat) × CS)} (hf : Jc_X2_more_173 x0 x2 s0 s1 τ = some o_) (kr : ∀ r_ : ((Unit ⊕ Nat) × CS), o_ = r_ → Z = (xzV r_.1, r_.2)) : xV (wC D P) K mX2_more (xQX (wC D P) K Z) τ 173 [(0, .ref x0), (2, .int x2)] [.int s0, .ref s1] := by
  unfold Jc_X2_more_173 at hf
  refine xr_iload_n (pc := 173) 1 dX2_more_173 rfl rfl ?_
  obtain ⟨ht14, hf⟩ := xo_if hf
  rcases xo_bx hf with ⟨r15, τ15, hτ15, hf⟩ | ⟨q21, τ21, hτ21, hf⟩
  · refine call_f_x_X2_most_X2_134_r (pc := 174) hτ15 (gKo ht14 (by decide)) rfl (Nat.le_of_ble_eq_true rfl) (Nat.le_of_ble_eq_true rfl) (Nat.le_of_ble_eq_true rfl) dX2_more_174 ?_
    refine xr_aload_n (pc := 177) 0 dX2_more_177 rfl rfl ?_
    refine xr_sipush (pc := 178) dX2_more_178 xcs_783 ?_
    obtain ⟨ht16, hf⟩ := xo_if hf
    refine yc_putI (pc := 181) 3 5 305 ht16 (by decide) (by decide) (by decide) rfl rfl rfl (ty := .int) (by decide +kernel) rfl rfl q393 (ys_eq rfl) rfl dX2_more_181 ?_
    refine xr_aload_n (pc := 184) 0 dX2_more_184 rfl rfl ?_
    obtain ⟨b17, hb17, hf⟩ := xo_bind hf
    refine yc_getRs (pc := 185) 3 6 306 (gKo ht16 (by decide)) (by decide) (by decide) (by decide) rfl rfl hb17 q394 (ys_eq rfl) rfl dX2_more_185 ?_
    refine xr_aload_n (pc := 188) 0 dX2_more_188 rfl rfl ?_
    rcases xo_bx hf with ⟨r18, τ18, hτ18, hf⟩ | ⟨q20, τ20, hτ20, hf⟩
    · refine call_p_te_X2_224_r (pc := 189) (all_te 8) hτ18 (gKo ht16 (by decide)) rfl (Nat.le_of_ble_eq_true rfl) (Nat.le_of_ble_eq_true rfl) (Nat.le_of_ble_eq_true rfl) dX2_more_189 ?_
      obtain ⟨ht19, hf⟩ := xo_if hf
      refine yc_putRsN (pc := 192) 2 10 210 ht19 (by decide) (by decide) (by decide) rfl rfl rfl (ty := (.object "BentRiver$Test")) (by decide +kernel) rfl q284 (ys_eq rfl) rfl dX2_more_192 ?_
      refine xr_goto (pc := 195) 222 dX2_more_195 (by decide) ?_
      rw [kr _ (Option.some.inj hf).symm]
      exact xV_ret (xr_vret (pc := 222) dX2_more_222 rfl)
    · refine call_p_te_X2_224_t (pc := 189) (all_te 8) hτ20 (gKo ht16 (by decide)) rfl (Nat.le_of_ble_eq_true rfl) (Nat.le_of_ble_eq_true rfl) (Nat.le_of_ble_eq_true rfl) dX2_more_189 ?_
      rw [kr _ (Option.some.inj hf).symm]
      exact xT_out hno
  · refine call_f_x_X2_most_X2_134_t (pc := 174) hτ21 (gKo ht14 (by decide)) rfl (Nat.le_of_ble_eq_true rfl) (Nat.le_of_ble_eq_true rfl) (Nat.le_of_ble_eq_true rfl) dX2_more_174 ?_
    rw [kr _ (Option.some.inj hf).symm]
    exact xT_out hno
def Jc_X2_more_132 (x0 : Nat) (x2 : Int32) (s0 : Int32) (s1 : Nat) (τ : CS) : Option ((Unit ⊕ Nat) × CS) :=
  if gT τ.1 s1 = 3 then
  xbx (f_x_X2_most s1 s0 x2 τ) (fun r26 τ26 =>
  if gT τ26.1 x0 = 3 then
  (cR (uI τ26.2 305 x0 255) 306 x0).bind fun b28 =>
  xbx (d_su 8 x0 (τ26.1, uI τ26.2 305 x0 255)) (fun r29 τ29 =>
  if gT τ29.1 b28 = 2 then
  some ((.inl (), (τ29.1, uR τ29.2 209 b28 (some r29))))
  else none) (fun q31 τ31 => some ((.inr q31, τ31)))
  else none) (fun q32 τ32 => some ((.inr q32, τ32)))
  else none
theorem ok_Jc_X2_more_132 {D : CD} {P : CP} {K : xK} (hno : xNoT K) {Z : (Option Value ⊕ Nat) × CS} {x0 : Nat} {x2 : Int32} {s0 : Int32} {s1 : Nat} {τ : CS} {o_ : ((Unit ⊕ Nat) × CS)} (hf : Jc_X2_more_132 x0 x2 s0 s1 τ = some o_) (kr : ∀ r_ : ((Unit ⊕ Nat) × CS), o_ = r_ → Z = (xzV r_.1, r_.2)) : xV (wC D P) K mX2_more (xQX (wC D P) K Z) τ 132 [(0, .ref x0), (2, .int x2)] [.int s0, .ref s1] := by
  unfold Jc_X2_more_132 at hf
  refine xr_iload_n (pc := 132) 1 dX2_more_132 rfl rfl ?_
  obtain ⟨ht25, hf⟩ := xo_if hf
  rcases xo_bx hf with ⟨r26, τ26, hτ26, hf⟩ | ⟨q32, τ32, hτ32, hf⟩
  · refine call_f_x_X2_most_X2_134_r (pc := 133) hτ26 (gKo ht25 (by decide)) rfl (Nat.le_of_ble_eq_true rfl) (Nat.le_of_ble_eq_true rfl) (Nat.le_of_ble_eq_true rfl) dX2_more_133 ?_
    refine xr_aload_n (pc := 136) 0 dX2_more_136 rfl rfl ?_
    refine xr_sipush (pc := 137) dX2_more_137 xcs_255 ?_
    obtain ⟨ht27, hf⟩ := xo_if hf
    refine yc_putI (pc := 140) 3 5 305 ht27 (by decide) (by decide) (by decide) rfl rfl rfl (ty := .int) (by decide +kernel) rfl rfl q393 (ys_eq rfl) rfl dX2_more_140 ?_
    refine xr_aload_n (pc := 143) 0 dX2_more_143 rfl rfl ?_
    obtain ⟨b28, hb28, hf⟩ := xo_bind hf
    refine yc_getRs (pc := 144) 3 6 306 (gKo ht27 (by decide)) (by decide) (by decide) (by decide) rfl rfl hb28 q394 (ys_eq rfl) rfl dX2_more_144 ?_
    refine xr_aload_n (pc := 147) 0 dX2_more_147 rfl rfl ?_
    rcases xo_bx hf with ⟨r29, τ29, hτ29, hf⟩ | ⟨q31, τ31, hτ31, hf⟩
    · refine call_p_su_X2_217_r (pc := 148) (all_su 8) hτ29 (gKo ht27 (by decide)) rfl (Nat.le_of_ble_eq_true rfl) (Nat.le_of_ble_eq_true rfl) (Nat.le_of_ble_eq_true rfl) dX2_more_148 ?_
      obtain ⟨ht30, hf⟩ := xo_if hf
      refine yc_putRsN (pc := 151) 2 9 209 ht30 (by decide) (by decide) (by decide) rfl rfl rfl (ty := (.object "BentRiver$Value")) (by decide +kernel) rfl q283 (ys_eq rfl) rfl dX2_more_151 ?_
      refine xr_goto (pc := 154) 222 dX2_more_154 (by decide) ?_
      rw [kr _ (Option.some.inj hf).symm]
      exact xV_ret (xr_vret (pc := 222) dX2_more_222 rfl)
    · refine call_p_su_X2_217_t (pc := 148) (all_su 8) hτ31 (gKo ht27 (by decide)) rfl (Nat.le_of_ble_eq_true rfl) (Nat.le_of_ble_eq_true rfl) (Nat.le_of_ble_eq_true rfl) dX2_more_148 ?_
      rw [kr _ (Option.some.inj hf).symm]
      exact xT_out hno
  · refine call_f_x_X2_most_X2_134_t (pc := 133) hτ32 (gKo ht25 (by decide)) rfl (Nat.le_of_ble_eq_true rfl) (Nat.le_of_ble_eq_true rfl) (Nat.le_of_ble_eq_true rfl) dX2_more_133 ?_
    rw [kr _ (Option.some.inj hf).symm]
    exact xT_out hno
def Jc_X2_more_86 (x0 : Nat) (x2 : Int32) (x4 : Int32) (τ : CS) : Option ((Unit ⊕ Nat) × CS) :=
  if x4 = 0 then
  if gT τ.1 x0 = 3 then
  (cR τ.2 306 x0).bind fun b23 =>
  if gT τ.1 b23 = 2 then
  if (cR τ.2 209 b23) = none then
  Jc_X2_more_132 x0 x2 0 x0 τ
  else
  Jc_X2_more_132 x0 x2 1 x0 τ
  else none
  else none
  else
  if x4 = 1 then
  if gT τ.1 x0 = 3 then
  (cR τ.2 306 x0).bind fun b12 =>
  if gT τ.1 b12 = 2 then
  if (cR τ.2 210 b12) = none then
  Jc_X2_more_173 x0 x2 0 x0 τ
  else
  Jc_X2_more_173 x0 x2 1 x0 τ
  else none
  else none
  else
  if x4 = 2 then
  if gT τ.1 x0 = 3 then
  (cR τ.2 306 x0).bind fun b7 =>
  xbx (f_x_X2_number x0 0 100 τ) (fun r8 τ8 =>
  if gT τ8.1 b7 = 2 then
  some ((.inl (), (τ8.1, uI τ8.2 204 b7 r8)))
  else none) (fun q10 τ10 => some ((.inr q10, τ10)))
  else none
  else
  if gT τ.1 x0 = 3 then
  xbd (f_c_X2_wrong τ.1 x0 1 x2 τ.2) fun r4 τ4 =>
  if gT τ.1 r4 = 4 then
  some ((.inr r4, (τ.1, τ4)))
  else none
  else none
theorem ok_Jc_X2_more_86 {D : CD} {P : CP} {K : xK} (hno : xNoT K) {Z : (Option Value ⊕ Nat) × CS} {x0 : Nat} {x2 : Int32} {x4 : Int32} {τ : CS} {o_ : ((Unit ⊕ Nat) × CS)} (hf : Jc_X2_more_86 x0 x2 x4 τ = some o_) (kr : ∀ r_ : ((Unit ⊕ Nat) × CS), o_ = r_ → Z = (xzV r_.1, r_.2)) : xV (wC D P) K mX2_more (xQX (wC D P) K Z) τ 86 [(0, .ref x0), (2, .int x2), (4, .int x4)] [] := by
  unfold Jc_X2_more_86 at hf
  refine xr_iload (pc := 86) 2 dX2_more_86 rfl ?_
  by_cases c0_ : x4 = 0
  · have hf := xo_pos c0_ hf
    refine xr_tsw_in (pc := 88) (v := 0) (off := 28) 116 dX2_more_88 c0_ (by decide) (by decide +kernel) (by decide) ?_
    refine xr_aload_n (pc := 116) 0 dX2_more_116 rfl rfl ?_
    refine xr_aload_n (pc := 117) 0 dX2_more_117 rfl rfl ?_
    obtain ⟨ht22, hf⟩ := xo_if hf
    obtain ⟨b23, hb23, hf⟩ := xo_bind hf
    refine yc_getRs (pc := 118) 3 6 306 (gKo ht22 (by decide)) (by decide) (by decide) (by decide) rfl rfl hb23 q394 (ys_eq rfl) rfl dX2_more_118 ?_
    obtain ⟨ht24, hf⟩ := xo_if hf
    refine yc_getRN (pc := 121) 2 9 209 (gKo ht24 (by decide)) (by decide) (by decide) (by decide) rfl rfl q283 (ys_eq rfl) rfl dX2_more_121 ?_
    refine xr_ifnull (pc := 124) 131 dX2_more_124 (by decide) (fun c_ => ?_) (fun c_ => ?_)
    · have hf := xo_pos c_ hf
      refine xr_iconst (pc := 131) dX2_more_131 xci_0 ?_
      refine xV_sub [0, 1] rfl ?_
      exact ok_Jc_X2_more_132 hno hf kr
    · have hf := xo_neg c_ hf
      refine xr_iconst (pc := 127) dX2_more_127 xci_1 ?_
      refine xr_goto (pc := 128) 132 dX2_more_128 (by decide) ?_
      refine xV_sub [0, 1] rfl ?_
      exact ok_Jc_X2_more_132 hno hf kr
  have hf := xo_neg c0_ hf
  by_cases c1_ : x4 = 1
  · have hf := xo_pos c1_ hf
    refine xr_tsw_in (pc := 88) (v := 1) (off := 69) 157 dX2_more_88 c1_ (by decide) (by decide +kernel) (by decide) ?_
    refine xr_aload_n (pc := 157) 0 dX2_more_157 rfl rfl ?_
    refine xr_aload_n (pc := 158) 0 dX2_more_158 rfl rfl ?_
    obtain ⟨ht11, hf⟩ := xo_if hf
    obtain ⟨b12, hb12, hf⟩ := xo_bind hf
    refine yc_getRs (pc := 159) 3 6 306 (gKo ht11 (by decide)) (by decide) (by decide) (by decide) rfl rfl hb12 q394 (ys_eq rfl) rfl dX2_more_159 ?_
    obtain ⟨ht13, hf⟩ := xo_if hf
    refine yc_getRN (pc := 162) 2 10 210 (gKo ht13 (by decide)) (by decide) (by decide) (by decide) rfl rfl q284 (ys_eq rfl) rfl dX2_more_162 ?_
    refine xr_ifnull (pc := 165) 172 dX2_more_165 (by decide) (fun c_ => ?_) (fun c_ => ?_)
    · have hf := xo_pos c_ hf
      refine xr_iconst (pc := 172) dX2_more_172 xci_0 ?_
      refine xV_sub [0, 1] rfl ?_
      exact ok_Jc_X2_more_173 hno hf kr
    · have hf := xo_neg c_ hf
      refine xr_iconst (pc := 168) dX2_more_168 xci_1 ?_
      refine xr_goto (pc := 169) 173 dX2_more_169 (by decide) ?_
      refine xV_sub [0, 1] rfl ?_
      exact ok_Jc_X2_more_173 hno hf kr
  have hf := xo_neg c1_ hf
  by_cases c2_ : x4 = 2
  · have hf := xo_pos c2_ hf
    refine xr_tsw_in (pc := 88) (v := 2) (off := 110) 198 dX2_more_88 c2_ (by decide) (by decide +kernel) (by decide) ?_
    refine xr_aload_n (pc := 198) 0 dX2_more_198 rfl rfl ?_
    obtain ⟨ht6, hf⟩ := xo_if hf
    obtain ⟨b7, hb7, hf⟩ := xo_bind hf
    refine yc_getRs (pc := 199) 3 6 306 (gKo ht6 (by decide)) (by decide) (by decide) (by decide) rfl rfl hb7 q394 (ys_eq rfl) rfl dX2_more_199 ?_
    refine xr_aload_n (pc := 202) 0 dX2_more_202 rfl rfl ?_
    refine xr_iconst (pc := 203) dX2_more_203 xci_0 ?_
    refine xr_bipush (pc := 204) dX2_more_204 xcb_100 ?_
    rcases xo_bx hf with ⟨r8, τ8, hτ8, hf⟩ | ⟨q10, τ10, hτ10, hf⟩
    · refine call_f_x_X2_number_X2_96_r (pc := 206) hτ8 (gKo ht6 (by decide)) rfl (Nat.le_of_ble_eq_true rfl) (Nat.le_of_ble_eq_true rfl) (Nat.le_of_ble_eq_true rfl) dX2_more_206 ?_
      obtain ⟨ht9, hf⟩ := xo_if hf
      refine yc_putIN (pc := 209) 2 4 204 ht9 (by decide) (by decide) (by decide) rfl rfl rfl (ty := .int) (by decide +kernel) rfl rfl q267 (ys_eq rfl) rfl dX2_more_209 ?_
      refine xr_goto (pc := 212) 222 dX2_more_212 (by decide) ?_
      rw [kr _ (Option.some.inj hf).symm]
      exact xV_ret (xr_vret (pc := 222) dX2_more_222 rfl)
    · refine call_f_x_X2_number_X2_96_t (pc := 206) hτ10 (gKo ht6 (by decide)) rfl (Nat.le_of_ble_eq_true rfl) (Nat.le_of_ble_eq_true rfl) (Nat.le_of_ble_eq_true rfl) dX2_more_206 ?_
      rw [kr _ (Option.some.inj hf).symm]
      exact xT_out hno
  have hf := xo_neg c2_ hf
  refine xr_tsw_out (pc := 88) 215 dX2_more_88 (xsw_out 0 2 [0, 1, 2] (by decide +kernel) (List.forall_mem_cons.mpr ⟨c0_, List.forall_mem_cons.mpr ⟨c1_, List.forall_mem_cons.mpr ⟨c2_, List.forall_mem_nil _⟩⟩⟩)) (by decide) ?_
  refine xr_aload_n (pc := 215) 0 dX2_more_215 rfl rfl ?_
  refine xr_iconst (pc := 216) dX2_more_216 xci_1 ?_
  refine xr_iload_n (pc := 217) 1 dX2_more_217 rfl rfl ?_
  obtain ⟨ht3, hf⟩ := xo_if hf
  obtain ⟨r4, τ4, hτ4, hf⟩ := xo_bd hf
  refine call_f_c_X2_wrong_X2_47 (pc := 218) hτ4 (gKo ht3 (by decide)) rfl (Nat.le_of_ble_eq_true rfl) (Nat.le_of_ble_eq_true rfl) (Nat.le_of_ble_eq_true rfl) dX2_more_218 ?_
  obtain ⟨ht5, hf⟩ := xo_if hf
  rw [kr _ (Option.some.inj hf).symm]
  exact yc_athrow (pc := 221) (gKo ht5 (by decide)) (by decide) (by decide) rfl dX2_more_221 (xT_out hno)
def f_x_X2_more (x0 : Nat) (x1 : Nat) (x2 : Int32) (τ : CS) : Option ((Unit ⊕ Nat) × CS) :=
  if gK τ.1 x1 = 19 then
  xbd (f_c_J6_hashCode τ.1 x1 τ.2) fun r2 τ2 =>
  if r2 = 3020089 then
  xbd (f_c_J6_equals τ.1 x1 (gA τ.1 0 113) τ2) fun r35 τ35 =>
  if r35 = 0 then
  Jc_X2_more_86 x0 x2 (-1) (τ.1, τ35)
  else
  Jc_X2_more_86 x0 x2 1 (τ.1, τ35)
  else
  if r2 = 3105819 then
  xbd (f_c_J6_equals τ.1 x1 (gA τ.1 0 112) τ2) fun r34 τ34 =>
  if r34 = 0 then
  Jc_X2_more_86 x0 x2 (-1) (τ.1, τ34)
  else
  Jc_X2_more_86 x0 x2 0 (τ.1, τ34)
  else
  if r2 = 109638421 then
  xbd (f_c_J6_equals τ.1 x1 (gA τ.1 0 114) τ2) fun r33 τ33 =>
  if r33 = 0 then
  Jc_X2_more_86 x0 x2 (-1) (τ.1, τ33)
  else
  Jc_X2_more_86 x0 x2 2 (τ.1, τ33)
  else
  Jc_X2_more_86 x0 x2 (-1) (τ.1, τ2)
  else none
theorem ok_f_x_X2_more {D : CD} {P : CP} {K : xK} (hno : xNoT K) {Z : (Option Value ⊕ Nat) × CS} {x0 : Nat} {x1 : Nat} {x2 : Int32} {τ : CS} {o_ : ((Unit ⊕ Nat) × CS)} (hf : f_x_X2_more x0 x1 x2 τ = some o_) (kr : ∀ r_ : ((Unit ⊕ Nat) × CS), o_ = r_ → Z = (xzV r_.1, r_.2)) : xV (wC D P) K mX2_more (xQX (wC D P) K Z) τ 0 [(0, .ref x0), (1, .ref x1), (2, .int x2)] [] := by
  unfold f_x_X2_more at hf
  refine xr_aload_n (pc := 0) 1 dX2_more_0 rfl rfl ?_
  refine xr_astore_n (pc := 1) (loc' := [(3, .ref x1), (0, .ref x0), (1, .ref x1), (2, .int x2)]) dX2_more_1 rfl (by decide) rfl ?_
  refine xr_iconst (pc := 2) dX2_more_2 xci_m1 ?_
  refine xr_istore (pc := 3) (loc' := [(4, .int (-1)), (3, .ref x1), (0, .ref x0), (1, .ref x1), (2, .int x2)]) dX2_more_3 (by decide) rfl ?_
  refine xr_aload_n (pc := 5) 1 dX2_more_5 rfl rfl ?_
  obtain ⟨ht1, hf⟩ := xo_if hf
  obtain ⟨r2, τ2, hτ2, hf⟩ := xo_bd hf
  refine call_f_c_J6_hashCode_X2_146 (pc := 6) hτ2 ht1 rfl (Nat.le_of_ble_eq_true rfl) (Nat.le_of_ble_eq_true rfl) (Nat.le_of_ble_eq_true rfl) dX2_more_6 ?_
  by_cases c0_ : r2 = 3020089
  · have hf := xo_pos c0_ hf
    refine xr_lsw (pc := 9) (off := 50) 59 dX2_more_9 (by decide) (by rw [c0_]; decide +kernel) (by decide) ?_
    refine xr_aload_n (pc := 59) 1 dX2_more_59 rfl rfl ?_
    refine yc_ldcS (pc := 60) 13 (by decide) rfl rfl dX2_more_60 ?_
    obtain ⟨r35, τ35, hτ35, hf⟩ := xo_bd hf
    refine call_f_c_J6_equals_X2_74 (pc := 62) hτ35 ht1 rfl (Nat.le_of_ble_eq_true rfl) (Nat.le_of_ble_eq_true rfl) (Nat.le_of_ble_eq_true rfl) dX2_more_62 ?_
    refine xr_if_eq (pc := 65) 86 dX2_more_65 (by decide) (fun c_ => ?_) (fun c_ => ?_)
    · have hf := xo_pos c_ hf
      refine xV_sub [2, 4, 0] rfl ?_
      exact ok_Jc_X2_more_86 hno hf kr
    · have hf := xo_neg c_ hf
      refine xr_iconst (pc := 68) dX2_more_68 xci_1 ?_
      refine xr_istore (pc := 69) (loc' := [(4, .int 1), (3, .ref x1), (0, .ref x0), (1, .ref x1), (2, .int x2)]) dX2_more_69 (by decide) rfl ?_
      refine xr_goto (pc := 71) 86 dX2_more_71 (by decide) ?_
      refine xV_sub [2, 4, 0] rfl ?_
      exact ok_Jc_X2_more_86 hno hf kr
  have hf := xo_neg c0_ hf
  by_cases c1_ : r2 = 3105819
  · have hf := xo_pos c1_ hf
    refine xr_lsw (pc := 9) (off := 35) 44 dX2_more_9 (by decide) (by rw [c1_]; decide +kernel) (by decide) ?_
    refine xr_aload_n (pc := 44) 1 dX2_more_44 rfl rfl ?_
    refine yc_ldcS (pc := 45) 12 (by decide) rfl rfl dX2_more_45 ?_
    obtain ⟨r34, τ34, hτ34, hf⟩ := xo_bd hf
    refine call_f_c_J6_equals_X2_74 (pc := 47) hτ34 ht1 rfl (Nat.le_of_ble_eq_true rfl) (Nat.le_of_ble_eq_true rfl) (Nat.le_of_ble_eq_true rfl) dX2_more_47 ?_
    refine xr_if_eq (pc := 50) 86 dX2_more_50 (by decide) (fun c_ => ?_) (fun c_ => ?_)
    · have hf := xo_pos c_ hf
      refine xV_sub [2, 4, 0] rfl ?_
      exact ok_Jc_X2_more_86 hno hf kr
    · have hf := xo_neg c_ hf
      refine xr_iconst (pc := 53) dX2_more_53 xci_0 ?_
      refine xr_istore (pc := 54) (loc' := [(4, .int 0), (3, .ref x1), (0, .ref x0), (1, .ref x1), (2, .int x2)]) dX2_more_54 (by decide) rfl ?_
      refine xr_goto (pc := 56) 86 dX2_more_56 (by decide) ?_
      refine xV_sub [2, 4, 0] rfl ?_
      exact ok_Jc_X2_more_86 hno hf kr
  have hf := xo_neg c1_ hf
  by_cases c2_ : r2 = 109638421
  · have hf := xo_pos c2_ hf
    refine xr_lsw (pc := 9) (off := 65) 74 dX2_more_9 (by decide) (by rw [c2_]; decide +kernel) (by decide) ?_
    refine xr_aload_n (pc := 74) 1 dX2_more_74 rfl rfl ?_
    refine yc_ldcS (pc := 75) 14 (by decide) rfl rfl dX2_more_75 ?_
    obtain ⟨r33, τ33, hτ33, hf⟩ := xo_bd hf
    refine call_f_c_J6_equals_X2_74 (pc := 77) hτ33 ht1 rfl (Nat.le_of_ble_eq_true rfl) (Nat.le_of_ble_eq_true rfl) (Nat.le_of_ble_eq_true rfl) dX2_more_77 ?_
    refine xr_if_eq (pc := 80) 86 dX2_more_80 (by decide) (fun c_ => ?_) (fun c_ => ?_)
    · have hf := xo_pos c_ hf
      refine xV_sub [2, 4, 0] rfl ?_
      exact ok_Jc_X2_more_86 hno hf kr
    · have hf := xo_neg c_ hf
      refine xr_iconst (pc := 83) dX2_more_83 xci_2 ?_
      refine xr_istore (pc := 84) (loc' := [(4, .int 2), (3, .ref x1), (0, .ref x0), (1, .ref x1), (2, .int x2)]) dX2_more_84 (by decide) rfl ?_
      refine xV_sub [2, 4, 0] rfl ?_
      exact ok_Jc_X2_more_86 hno hf kr
  have hf := xo_neg c2_ hf
  refine xr_lsw (pc := 9) (off := 77) 86 dX2_more_9 (by decide) (by show Op.lookupswitch.offset _ _ _ = _; rw [lv_osw (k := 3020089) c0_ (by decide), lv_osw (k := 3105819) c1_ (by decide), lv_osw (k := 109638421) c2_ (by decide)]; rfl) (by decide) ?_
  refine xV_sub [2, 4, 0] rfl ?_
  exact ok_Jc_X2_more_86 hno hf kr
theorem met_f_x_X2_more (l : Launch) {D : CD} {P : CP} {x0 : Nat} {x1 : Nat} {x2 : Int32} {τ : CS} {o_ : ((Unit ⊕ Nat) × CS)} (hf : f_x_X2_more x0 x1 x2 τ = some o_) : xMetX (wC D P) l yX2_more (ws_ yX2_more cX2_more 5 none) 131 7860 (grc τ.1) (grs τ.1) [.ref x0, .ref x1, .int x2] τ (xzV o_.1, o_.2) := 
  xMetX_of (by decide) (Nat.le_of_ble_eq_true rfl) KC_moved (RPC_of (g := τ.1) (c := τ.2)) (fun K _ _ _ hno => ok_f_x_X2_more hno hf (fun _ h => by rw [h]))
theorem hd_f_a_X1_init : yX1_init.cls ≠ "java/lang/invoke/MethodHandle" ∧ yX1_init.cls ≠ "java/lang/invoke/VarHandle" ∧ (parseMethodDescriptor yX1_init.desc).map (fun d => d.parameters.length) = some 0 := by decide +kernel
theorem call_f_a_X1_init_X2_112 {D : CD} {P : CP} {K : xK} {M : xM} {Q : State → Prop} {τ τ1 : CS} {x0 : Nat} {pc : Nat} {loc : List (Nat × Value)} {st : List Value} (hf : f_a_X1_init x0 τ = some τ1) (ho : M.2.2.1 = RX2) (hfr : 5 ≤ M.2.2.2.1) (hlo : 262 ≤ M.2.2.2.2.1) (hcat : (st.map fun v => v.category).sum ≤ 8) (d : decode M.1 pc = .ok (.invokespecial 112, 3)) (k : xV (wC D P) K M Q τ1 (pc + 3) loc st) : xV (wC D P) K M Q τ pc loc (.ref x0 :: st) :=
  yc_callI (g := τ.1) (c := τ.2) (g1 := τ1.1) (c1 := τ1.2) (As := []) (rest := st) (met_f_a_X1_init K.2.1 hf) (lw_meth q224) q592 q223 q175 rfl hd_f_a_X1_init ho hfr hlo rfl rfl hcat d k
theorem hd_f_x_X2_laid : yX2_laid.cls ≠ "java/lang/invoke/MethodHandle" ∧ yX2_laid.cls ≠ "java/lang/invoke/VarHandle" ∧ (parseMethodDescriptor yX2_laid.desc).map (fun d => d.parameters.length) = some 2 := by decide +kernel
theorem call_f_x_X2_laid_X2_138_r {D : CD} {P : CP} {K : xK} {M : xM} {Q : State → Prop} {τ τ1 : CS} {x0 : Nat} {x1 : Nat} {x2 : Int32} {pc : Nat} {loc : List (Nat × Value)} {st : List Value} {r : Int32} (hf : f_x_X2_laid x0 x1 x2 τ = some (.inl r, τ1)) (hr : gK τ.1 x0 = 3) (ho : M.2.2.1 = RX2) (hfr : 13 ≤ M.2.2.2.1) (hlo : 749 ≤ M.2.2.2.2.1) (hcat : (st.map fun v => v.category).sum ≤ 8) (d : decode M.1 pc = .ok (.invokevirtual 138, 3)) (k : xV (wC D P) K M Q τ1 (pc + 3) loc (.int r :: st)) : xV (wC D P) K M Q τ pc loc (.int x2 :: .ref x1 :: .ref x0 :: st) :=
  yc_callVX (g := τ.1) (c := τ.2) (Z := (.inl (some (.int r)), τ1)) (As := [.ref x1, .int x2]) (rest := st) (met_f_x_X2_laid K.2.1 hf) (lw_V q730 q732 qs14 q179 q733) ⟨rfl, hd_f_x_X2_laid⟩ ho hfr hlo rfl hr (by decide) (by decide) rfl rfl hcat d (yx_ret (v := some (.int r)) k) yx_noT
theorem call_f_x_X2_laid_X2_138_t {D : CD} {P : CP} {K : xK} {M : xM} {Q : State → Prop} {τ τ1 : CS} {x0 : Nat} {x1 : Nat} {x2 : Int32} {pc : Nat} {loc : List (Nat × Value)} {st : List Value} {q : Nat} (hf : f_x_X2_laid x0 x1 x2 τ = some (.inr q, τ1)) (hr : gK τ.1 x0 = 3) (ho : M.2.2.1 = RX2) (hfr : 13 ≤ M.2.2.2.1) (hlo : 749 ≤ M.2.2.2.2.1) (hcat : (st.map fun v => v.category).sum ≤ 8) (d : decode M.1 pc = .ok (.invokevirtual 138, 3)) (k : xT (wC D P) K M Q τ1 pc loc q) : xV (wC D P) K M Q τ pc loc (.int x2 :: .ref x1 :: .ref x0 :: st) :=
  yc_callVX (g := τ.1) (c := τ.2) (Z := (.inr q, τ1)) (As := [.ref x1, .int x2]) (rest := st) (met_f_x_X2_laid K.2.1 hf) (lw_V q730 q732 qs14 q179 q733) ⟨rfl, hd_f_x_X2_laid⟩ ho hfr hlo rfl hr (by decide) (by decide) rfl rfl hcat d yx_noR (yx_thr k)
theorem hd_f_x_X2_more : yX2_more.cls ≠ "java/lang/invoke/MethodHandle" ∧ yX2_more.cls ≠ "java/lang/invoke/VarHandle" ∧ (parseMethodDescriptor yX2_more.desc).map (fun d => d.parameters.length) = some 2 := by decide +kernel
theorem call_f_x_X2_more_X2_142_r {D : CD} {P : CP} {K : xK} {M : xM} {Q : State → Prop} {τ τ1 : CS} {x0 : Nat} {x1 : Nat} {x2 : Int32} {pc : Nat} {loc : List (Nat × Value)} {st : List Value} (hf : f_x_X2_more x0 x1 x2 τ = some (.inl (), τ1)) (hr : gK τ.1 x0 = 3) (ho : M.2.2.1 = RX2) (hfr : 132 ≤ M.2.2.2.1) (hlo : 7884 ≤ M.2.2.2.2.1) (hcat : (st.map fun v => v.category).sum ≤ 8) (d : decode M.1 pc = .ok (.invokevirtual 142, 3)) (k : xV (wC D P) K M Q τ1 (pc + 3) loc st) : xV (wC D P) K M Q τ pc loc (.int x2 :: .ref x1 :: .ref x0 :: st) :=
  yc_callVX (g := τ.1) (c := τ.2) (Z := (.inl none, τ1)) (As := [.ref x1, .int x2]) (rest := st) (met_f_x_X2_more K.2.1 hf) (lw_V q972 q974 qs22 q179 q975) ⟨rfl, hd_f_x_X2_more⟩ ho hfr hlo rfl hr (by decide) (by decide) rfl rfl hcat d (yx_ret (v := none) k) yx_noT
theorem call_f_x_X2_more_X2_142_t {D : CD} {P : CP} {K : xK} {M : xM} {Q : State → Prop} {τ τ1 : CS} {x0 : Nat} {x1 : Nat} {x2 : Int32} {pc : Nat} {loc : List (Nat × Value)} {st : List Value} {q : Nat} (hf : f_x_X2_more x0 x1 x2 τ = some (.inr q, τ1)) (hr : gK τ.1 x0 = 3) (ho : M.2.2.1 = RX2) (hfr : 132 ≤ M.2.2.2.1) (hlo : 7884 ≤ M.2.2.2.2.1) (hcat : (st.map fun v => v.category).sum ≤ 8) (d : decode M.1 pc = .ok (.invokevirtual 142, 3)) (k : xT (wC D P) K M Q τ1 pc loc q) : xV (wC D P) K M Q τ pc loc (.int x2 :: .ref x1 :: .ref x0 :: st) :=
  yc_callVX (g := τ.1) (c := τ.2) (Z := (.inr q, τ1)) (As := [.ref x1, .int x2]) (rest := st) (met_f_x_X2_more K.2.1 hf) (lw_V q972 q974 qs22 q179 q975) ⟨rfl, hd_f_x_X2_more⟩ ho hfr hlo rfl hr (by decide) (by decide) rfl rfl hcat d yx_noR (yx_thr k)
abbrev mX2_all : xM := (cX2_all, 3, RX2, 132, 7920, (some (.object "BentRiver$Valley")), "all")
def Jc_X2_all_164 (x0 : Nat) (τ : CS) : Option ((CS) ⊕ ((CS) ⊕ (((Nat ⊕ Nat) × CS)))) :=
  if gT τ.1 x0 = 3 then
  xbx (f_x_X2_must x0 59 τ) (fun r38 τ38 =>
  some (.inl τ38)) (fun q39 τ39 => some (.inr (.inr (.inr q39, τ39))))
  else none
theorem ok_Jc_X2_all_164 {D : CD} {P : CP} {K : xK} (hno : xNoT K) {Z : (Option Value ⊕ Nat) × CS} {x0 : Nat} {τ : CS} {o_ : ((CS) ⊕ ((CS) ⊕ (((Nat ⊕ Nat) × CS))))} (hf : Jc_X2_all_164 x0 τ = some o_) (kc : ∀ s_ : CS, o_ = .inl s_ → xV (wC D P) K mX2_all (xQX (wC D P) K Z) s_ 92 [(0, .ref x0)] []) (ke0 : ∀ e_ : CS, o_ = .inr (.inl e_) → xV (wC D P) K mX2_all (xQX (wC D P) K Z) e_ 173 [(0, .ref x0)] []) (kr : ∀ r_ : ((Nat ⊕ Nat) × CS), o_ = .inr (.inr r_) → Z = (xzR r_.1, r_.2)) : xV (wC D P) K mX2_all (xQX (wC D P) K Z) τ 164 [(0, .ref x0)] [] := by
  unfold Jc_X2_all_164 at hf
  refine xr_aload_n (pc := 164) 0 dX2_all_164 rfl rfl ?_
  refine xr_bipush (pc := 165) dX2_all_165 xcb_59 ?_
  obtain ⟨ht37, hf⟩ := xo_if hf
  rcases xo_bx hf with ⟨r38, τ38, hτ38, hf⟩ | ⟨q39, τ39, hτ39, hf⟩
  · refine call_f_x_X2_must_X2_127_r (pc := 167) hτ38 (gKo ht37 (by decide)) rfl (Nat.le_of_ble_eq_true rfl) (Nat.le_of_ble_eq_true rfl) (Nat.le_of_ble_eq_true rfl) dX2_all_167 ?_
    refine xr_goto (pc := 170) 92 dX2_all_170 (by decide) ?_
    exact kc _ (Option.some.inj hf).symm
  · refine call_f_x_X2_must_X2_127_t (pc := 167) hτ39 (gKo ht37 (by decide)) rfl (Nat.le_of_ble_eq_true rfl) (Nat.le_of_ble_eq_true rfl) (Nat.le_of_ble_eq_true rfl) dX2_all_167 ?_
    rw [kr _ (Option.some.inj hf).symm]
    exact xT_out hno
def Jc_X2_all_118 (x0 : Nat) (s0 : Int32) (s1 : Nat) (τ : CS) : Option ((CS) ⊕ ((CS) ⊕ (((Nat ⊕ Nat) × CS)))) :=
  if gT τ.1 x0 = 3 then
  if gT τ.1 s1 = 3 then
  xbx (f_x_X2_most s1 s0 (cI τ.2 302 x0) τ) (fun r28 τ28 =>
  if gT τ28.1 x0 = 3 then
  (cR τ28.2 306 x0).bind fun b30 =>
  if gT τ28.1 b30 = 2 then
  xbx (f_x_X2_word_2 x0 (τ28.1, uI τ28.2 200 b30 ((cI τ28.2 200 b30) + 1))) (fun r32 τ32 =>
  if gT τ32.1 x0 = 3 then
  xbx (f_x_X2_laid x0 r32 (cI τ32.2 303 x0) τ32) (fun r34 τ34 =>
  if r34 = 0 then
  if gT τ34.1 x0 = 3 then
  xbx (f_x_X2_more x0 r32 (cI τ34.2 303 x0) τ34) (fun r36 τ36 =>
  Jc_X2_all_164 x0 τ36) (fun q40 τ40 => some (.inr (.inr (.inr q40, τ40))))
  else none
  else
  Jc_X2_all_164 x0 τ34) (fun q41 τ41 => some (.inr (.inr (.inr q41, τ41))))
  else none) (fun q42 τ42 => some (.inr (.inr (.inr q42, τ42))))
  else none
  else none) (fun q43 τ43 => some (.inr (.inr (.inr q43, τ43))))
  else none
  else none
theorem ok_Jc_X2_all_118 {D : CD} {P : CP} {K : xK} (hno : xNoT K) {Z : (Option Value ⊕ Nat) × CS} {x0 : Nat} {s0 : Int32} {s1 : Nat} {τ : CS} {o_ : ((CS) ⊕ ((CS) ⊕ (((Nat ⊕ Nat) × CS))))} (hf : Jc_X2_all_118 x0 s0 s1 τ = some o_) (kc : ∀ s_ : CS, o_ = .inl s_ → xV (wC D P) K mX2_all (xQX (wC D P) K Z) s_ 92 [(0, .ref x0)] []) (ke0 : ∀ e_ : CS, o_ = .inr (.inl e_) → xV (wC D P) K mX2_all (xQX (wC D P) K Z) e_ 173 [(0, .ref x0)] []) (kr : ∀ r_ : ((Nat ⊕ Nat) × CS), o_ = .inr (.inr r_) → Z = (xzR r_.1, r_.2)) : xV (wC D P) K mX2_all (xQX (wC D P) K Z) τ 118 [(0, .ref x0)] [.int s0, .ref s1] := by
  unfold Jc_X2_all_118 at hf
  refine xr_aload_n (pc := 118) 0 dX2_all_118 rfl rfl ?_
  obtain ⟨ht26, hf⟩ := xo_if hf
  refine yc_getI (pc := 119) 3 2 302 (gKo ht26 (by decide)) (by decide) (by decide) (by decide) rfl rfl q390 (ys_eq rfl) rfl dX2_all_119 ?_
  obtain ⟨ht27, hf⟩ := xo_if hf
  rcases xo_bx hf with ⟨r28, τ28, hτ28, hf⟩ | ⟨q43, τ43, hτ43, hf⟩
  · refine call_f_x_X2_most_X2_134_r (pc := 122) hτ28 (gKo ht27 (by decide)) rfl (Nat.le_of_ble_eq_true rfl) (Nat.le_of_ble_eq_true rfl) (Nat.le_of_ble_eq_true rfl) dX2_all_122 ?_
    refine xr_aload_n (pc := 125) 0 dX2_all_125 rfl rfl ?_
    obtain ⟨ht29, hf⟩ := xo_if hf
    obtain ⟨b30, hb30, hf⟩ := xo_bind hf
    refine yc_getRs (pc := 126) 3 6 306 (gKo ht29 (by decide)) (by decide) (by decide) (by decide) rfl rfl hb30 q394 (ys_eq rfl) rfl dX2_all_126 ?_
    refine xr_dup (pc := 129) dX2_all_129 rfl ?_
    obtain ⟨ht31, hf⟩ := xo_if hf
    refine yc_getIN (pc := 130) 2 0 200 (gKo ht31 (by decide)) (by decide) (by decide) (by decide) rfl rfl q258 (ys_eq rfl) rfl dX2_all_130 ?_
    refine xr_iconst (pc := 133) dX2_all_133 xci_1 ?_
    refine xr_iadd (pc := 134) dX2_all_134 ?_
    refine yc_putIN (pc := 135) 2 0 200 ht31 (by decide) (by decide) (by decide) rfl rfl rfl (ty := .int) (by decide +kernel) rfl rfl q258 (ys_eq rfl) rfl dX2_all_135 ?_
    refine xr_aload_n (pc := 138) 0 dX2_all_138 rfl rfl ?_
    rcases xo_bx hf with ⟨r32, τ32, hτ32, hf⟩ | ⟨q42, τ42, hτ42, hf⟩
    · refine call_f_x_X2_word_2_X2_70_r (pc := 139) hτ32 (gKo ht29 (by decide)) rfl (Nat.le_of_ble_eq_true rfl) (Nat.le_of_ble_eq_true rfl) (Nat.le_of_ble_eq_true rfl) dX2_all_139 ?_
      refine xr_astore_n (pc := 142) (loc' := [(2, .ref r32), (0, .ref x0)]) dX2_all_142 rfl (by decide) rfl ?_
      refine xr_aload_n (pc := 143) 1 dX2_all_143 rfl rfl ?_
      refine xr_aload_n (pc := 144) 0 dX2_all_144 rfl rfl ?_
      refine xr_aload_n (pc := 145) 1 dX2_all_145 rfl rfl ?_
      obtain ⟨ht33, hf⟩ := xo_if hf
      refine yc_getI (pc := 146) 3 3 303 (gKo ht33 (by decide)) (by decide) (by decide) (by decide) rfl rfl q391 (ys_eq rfl) rfl dX2_all_146 ?_
      rcases xo_bx hf with ⟨r34, τ34, hτ34, hf⟩ | ⟨q41, τ41, hτ41, hf⟩
      · refine call_f_x_X2_laid_X2_138_r (pc := 149) hτ34 (gKo ht33 (by decide)) rfl (Nat.le_of_ble_eq_true rfl) (Nat.le_of_ble_eq_true rfl) (Nat.le_of_ble_eq_true rfl) dX2_all_149 ?_
        refine xr_if_ne (pc := 152) 164 dX2_all_152 (by decide) (fun c_ => ?_) (fun c_ => ?_)
        · have hf := xo_pos c_ hf
          refine xr_aload_n (pc := 155) 1 dX2_all_155 rfl rfl ?_
          refine xr_aload_n (pc := 156) 0 dX2_all_156 rfl rfl ?_
          refine xr_aload_n (pc := 157) 1 dX2_all_157 rfl rfl ?_
          obtain ⟨ht35, hf⟩ := xo_if hf
          refine yc_getI (pc := 158) 3 3 303 (gKo ht35 (by decide)) (by decide) (by decide) (by decide) rfl rfl q391 (ys_eq rfl) rfl dX2_all_158 ?_
          rcases xo_bx hf with ⟨r36, τ36, hτ36, hf⟩ | ⟨q40, τ40, hτ40, hf⟩
          · refine call_f_x_X2_more_X2_142_r (pc := 161) hτ36 (gKo ht35 (by decide)) rfl (Nat.le_of_ble_eq_true rfl) (Nat.le_of_ble_eq_true rfl) (Nat.le_of_ble_eq_true rfl) dX2_all_161 ?_
            refine xV_sub [1] rfl ?_
            exact ok_Jc_X2_all_164 hno hf kc ke0 kr
          · refine call_f_x_X2_more_X2_142_t (pc := 161) hτ40 (gKo ht35 (by decide)) rfl (Nat.le_of_ble_eq_true rfl) (Nat.le_of_ble_eq_true rfl) (Nat.le_of_ble_eq_true rfl) dX2_all_161 ?_
            rw [kr _ (Option.some.inj hf).symm]
            exact xT_out hno
        · have hf := xo_neg c_ hf
          refine xV_sub [1] rfl ?_
          exact ok_Jc_X2_all_164 hno hf kc ke0 kr
      · refine call_f_x_X2_laid_X2_138_t (pc := 149) hτ41 (gKo ht33 (by decide)) rfl (Nat.le_of_ble_eq_true rfl) (Nat.le_of_ble_eq_true rfl) (Nat.le_of_ble_eq_true rfl) dX2_all_149 ?_
        rw [kr _ (Option.some.inj hf).symm]
        exact xT_out hno
    · refine call_f_x_X2_word_2_X2_70_t (pc := 139) hτ42 (gKo ht29 (by decide)) rfl (Nat.le_of_ble_eq_true rfl) (Nat.le_of_ble_eq_true rfl) (Nat.le_of_ble_eq_true rfl) dX2_all_139 ?_
      rw [kr _ (Option.some.inj hf).symm]
      exact xT_out hno
  · refine call_f_x_X2_most_X2_134_t (pc := 122) hτ43 (gKo ht27 (by decide)) rfl (Nat.le_of_ble_eq_true rfl) (Nat.le_of_ble_eq_true rfl) (Nat.le_of_ble_eq_true rfl) dX2_all_122 ?_
    rw [kr _ (Option.some.inj hf).symm]
    exact xT_out hno
def Bc_X2_all_92 (x0 : Nat) (τ : CS) : Option ((CS) ⊕ ((CS) ⊕ (((Nat ⊕ Nat) × CS)))) :=
  if gT τ.1 x0 = 3 then
  xbd (f_c_X2_here τ.1 x0 τ.2) fun r23 τ23 =>
  if r23 = (-1) then
  some (.inr (.inl (τ.1, τ23)))
  else
  (cR τ23 306 x0).bind fun b24 =>
  if gT τ.1 b24 = 2 then
  if (cI τ23 200 b24) = 80 then
  Jc_X2_all_118 x0 1 x0 (τ.1, τ23)
  else
  Jc_X2_all_118 x0 0 x0 (τ.1, τ23)
  else none
  else none
theorem ok_Bc_X2_all_92 {D : CD} {P : CP} {K : xK} (hno : xNoT K) {Z : (Option Value ⊕ Nat) × CS} {x0 : Nat} {τ : CS} {o_ : ((CS) ⊕ ((CS) ⊕ (((Nat ⊕ Nat) × CS))))} (hf : Bc_X2_all_92 x0 τ = some o_) (kc : ∀ s_ : CS, o_ = .inl s_ → xV (wC D P) K mX2_all (xQX (wC D P) K Z) s_ 92 [(0, .ref x0)] []) (ke0 : ∀ e_ : CS, o_ = .inr (.inl e_) → xV (wC D P) K mX2_all (xQX (wC D P) K Z) e_ 173 [(0, .ref x0)] []) (kr : ∀ r_ : ((Nat ⊕ Nat) × CS), o_ = .inr (.inr r_) → Z = (xzR r_.1, r_.2)) : xV (wC D P) K mX2_all (xQX (wC D P) K Z) τ 92 [(0, .ref x0)] [] := by
  unfold Bc_X2_all_92 at hf
  refine xr_aload_n (pc := 92) 0 dX2_all_92 rfl rfl ?_
  obtain ⟨ht22, hf⟩ := xo_if hf
  obtain ⟨r23, τ23, hτ23, hf⟩ := xo_bd hf
  refine call_f_c_X2_here_X2_43 (pc := 93) hτ23 (gKo ht22 (by decide)) rfl (Nat.le_of_ble_eq_true rfl) (Nat.le_of_ble_eq_true rfl) (Nat.le_of_ble_eq_true rfl) dX2_all_93 ?_
  refine xr_iconst (pc := 96) dX2_all_96 xci_m1 ?_
  refine xr_icmp_eq (pc := 97) 173 dX2_all_97 (by decide) (fun c_ => ?_) (fun c_ => ?_)
  · have hf := xo_pos c_ hf
    exact ke0 _ (Option.some.inj hf).symm
  · have hf := xo_neg c_ hf
    refine xr_aload_n (pc := 100) 0 dX2_all_100 rfl rfl ?_
    refine xr_aload_n (pc := 101) 0 dX2_all_101 rfl rfl ?_
    obtain ⟨b24, hb24, hf⟩ := xo_bind hf
    refine yc_getRs (pc := 102) 3 6 306 (gKo ht22 (by decide)) (by decide) (by decide) (by decide) rfl rfl hb24 q394 (ys_eq rfl) rfl dX2_all_102 ?_
    obtain ⟨ht25, hf⟩ := xo_if hf
    refine yc_getIN (pc := 105) 2 0 200 (gKo ht25 (by decide)) (by decide) (by decide) (by decide) rfl rfl q258 (ys_eq rfl) rfl dX2_all_105 ?_
    refine xr_bipush (pc := 108) dX2_all_108 xcb_80 ?_
    refine xr_icmp_ne (pc := 110) 117 dX2_all_110 (by decide) (fun c_ => ?_) (fun c_ => ?_)
    · have hf := xo_pos c_ hf
      refine xr_iconst (pc := 113) dX2_all_113 xci_1 ?_
      refine xr_goto (pc := 114) 118 dX2_all_114 (by decide) ?_
      exact ok_Jc_X2_all_118 hno hf kc ke0 kr
    · have hf := xo_neg c_ hf
      refine xr_iconst (pc := 117) dX2_all_117 xci_0 ?_
      exact ok_Jc_X2_all_118 hno hf kc ke0 kr
def f_x_X2_all (x0 : Nat) (x1 : Int32) (τ : CS) : Option ((Nat ⊕ Nat) × CS) :=
  xbd (aNew 2 τ) fun r1 τ1 =>
  (f_a_X1_init r1 τ1).bind fun τ2 =>
  if gT τ2.1 x0 = 3 then
  xbx (f_x_X2_word x0 (gA τ2.1 0 100) (τ2.1, uI (uI (uI (uR τ2.2 306 x0 (some r1)) 301 x0 x1) 302 x0 0) 304 x0 0)) (fun r4 τ4 =>
  if gT τ4.1 x0 = 3 then
  (cR τ4.2 306 x0).bind fun b6 =>
  xbx (f_x_X2_number x0 3 10 τ4) (fun r7 τ7 =>
  if gT τ7.1 b6 = 2 then
  if gT τ7.1 x0 = 3 then
  (cR (uI τ7.2 201 b6 r7) 306 x0).bind fun b10 =>
  xbx (f_x_X2_number_2 x0 (gA τ7.1 0 101) 2 8 (τ7.1, uI τ7.2 201 b6 r7)) (fun r11 τ11 =>
  if gT τ11.1 b10 = 2 then
  if gT τ11.1 x0 = 3 then
  (cR (uI τ11.2 202 b10 r11) 306 x0).bind fun b14 =>
  xbx (f_x_X2_number_2 x0 (gA τ11.1 0 102) 1 7 (τ11.1, uI τ11.2 202 b10 r11)) (fun r15 τ15 =>
  if gT τ15.1 b14 = 2 then
  if gT τ15.1 x0 = 3 then
  xbx (f_x_X2_must x0 59 (τ15.1, uI τ15.2 203 b14 r15)) (fun r18 τ18 =>
  if gT τ18.1 x0 = 3 then
  (cR τ18.2 306 x0).bind fun b20 =>
  if gT τ18.1 b20 = 2 then
  (itr (fun s_ : CS => Bc_X2_all_92 x0 s_) 4096 (τ18.1, uI τ18.2 200 b20 1)).bind fun b44 =>
  (Sum.elim (fun e45 => if gT e45.1 x0 = 3 then
  (cR e45.2 306 x0).bind fun b47 =>
  some ((.inl b47, e45))
  else none) (fun r_ => some r_)) b44
  else none
  else none) (fun q48 τ48 => some ((.inr q48, τ48)))
  else none
  else none) (fun q49 τ49 => some ((.inr q49, τ49)))
  else none
  else none) (fun q50 τ50 => some ((.inr q50, τ50)))
  else none
  else none) (fun q51 τ51 => some ((.inr q51, τ51)))
  else none) (fun q52 τ52 => some ((.inr q52, τ52)))
  else none
theorem ok_f_x_X2_all {D : CD} {P : CP} {K : xK} (hno : xNoT K) {Z : (Option Value ⊕ Nat) × CS} {x0 : Nat} {x1 : Int32} {τ : CS} {o_ : ((Nat ⊕ Nat) × CS)} (hf : f_x_X2_all x0 x1 τ = some o_) (kr : ∀ r_ : ((Nat ⊕ Nat) × CS), o_ = r_ → Z = (xzR r_.1, r_.2)) : xV (wC D P) K mX2_all (xQX (wC D P) K Z) τ 0 [(0, .ref x0), (1, .int x1)] [] := by
  unfold f_x_X2_all at hf
  refine xr_aload_n (pc := 0) 0 dX2_all_0 rfl rfl ?_
  obtain ⟨r1, τ1, hτ1, hf⟩ := xo_bd hf
  refine yc_aNew (pc := 1) 2 (by decide) (by decide) q591 q221 q175 hτ1 rfl dX2_all_1 ?_
  refine xr_dup (pc := 4) dX2_all_4 rfl ?_
  obtain ⟨τ2, hτ2, hf⟩ := xo_bind hf
  refine call_f_a_X1_init_X2_112 (pc := 5) hτ2 rfl (Nat.le_of_ble_eq_true rfl) (Nat.le_of_ble_eq_true rfl) (Nat.le_of_ble_eq_true rfl) dX2_all_5 ?_
  obtain ⟨ht3, hf⟩ := xo_if hf
  refine yc_putRs (pc := 8) 3 6 306 ht3 (by decide) (by decide) (by decide) rfl rfl rfl (ty := (.object "BentRiver$Valley")) (by decide +kernel) rfl q394 (ys_eq rfl) rfl dX2_all_8 ?_
  refine xr_aload_n (pc := 11) 0 dX2_all_11 rfl rfl ?_
  refine xr_iload_n (pc := 12) 1 dX2_all_12 rfl rfl ?_
  refine yc_putI (pc := 13) 3 1 301 ht3 (by decide) (by decide) (by decide) rfl rfl rfl (ty := .int) (by decide +kernel) rfl rfl q389 (ys_eq rfl) rfl dX2_all_13 ?_
  refine xr_aload_n (pc := 16) 0 dX2_all_16 rfl rfl ?_
  refine xr_iconst (pc := 17) dX2_all_17 xci_0 ?_
  refine yc_putI (pc := 18) 3 2 302 ht3 (by decide) (by decide) (by decide) rfl rfl rfl (ty := .int) (by decide +kernel) rfl rfl q390 (ys_eq rfl) rfl dX2_all_18 ?_
  refine xr_aload_n (pc := 21) 0 dX2_all_21 rfl rfl ?_
  refine xr_iconst (pc := 22) dX2_all_22 xci_0 ?_
  refine yc_putI (pc := 23) 3 4 304 ht3 (by decide) (by decide) (by decide) rfl rfl rfl (ty := .int) (by decide +kernel) rfl rfl q392 (ys_eq rfl) rfl dX2_all_23 ?_
  refine xr_aload_n (pc := 26) 0 dX2_all_26 rfl rfl ?_
  refine yc_ldcS (pc := 27) 0 (by decide) rfl rfl dX2_all_27 ?_
  rcases xo_bx hf with ⟨r4, τ4, hτ4, hf⟩ | ⟨q52, τ52, hτ52, hf⟩
  · refine call_f_x_X2_word_X2_93_r (pc := 29) hτ4 (gKo ht3 (by decide)) rfl (Nat.le_of_ble_eq_true rfl) (Nat.le_of_ble_eq_true rfl) (Nat.le_of_ble_eq_true rfl) dX2_all_29 ?_
    refine xr_aload_n (pc := 32) 0 dX2_all_32 rfl rfl ?_
    obtain ⟨ht5, hf⟩ := xo_if hf
    obtain ⟨b6, hb6, hf⟩ := xo_bind hf
    refine yc_getRs (pc := 33) 3 6 306 (gKo ht5 (by decide)) (by decide) (by decide) (by decide) rfl rfl hb6 q394 (ys_eq rfl) rfl dX2_all_33 ?_
    refine xr_aload_n (pc := 36) 0 dX2_all_36 rfl rfl ?_
    refine xr_iconst (pc := 37) dX2_all_37 xci_3 ?_
    refine xr_bipush (pc := 38) dX2_all_38 xcb_10 ?_
    rcases xo_bx hf with ⟨r7, τ7, hτ7, hf⟩ | ⟨q51, τ51, hτ51, hf⟩
    · refine call_f_x_X2_number_X2_96_r (pc := 40) hτ7 (gKo ht5 (by decide)) rfl (Nat.le_of_ble_eq_true rfl) (Nat.le_of_ble_eq_true rfl) (Nat.le_of_ble_eq_true rfl) dX2_all_40 ?_
      obtain ⟨ht8, hf⟩ := xo_if hf
      refine yc_putIN (pc := 43) 2 1 201 ht8 (by decide) (by decide) (by decide) rfl rfl rfl (ty := .int) (by decide +kernel) rfl rfl q259 (ys_eq rfl) rfl dX2_all_43 ?_
      refine xr_aload_n (pc := 46) 0 dX2_all_46 rfl rfl ?_
      obtain ⟨ht9, hf⟩ := xo_if hf
      obtain ⟨b10, hb10, hf⟩ := xo_bind hf
      refine yc_getRs (pc := 47) 3 6 306 (gKo ht9 (by decide)) (by decide) (by decide) (by decide) rfl rfl hb10 q394 (ys_eq rfl) rfl dX2_all_47 ?_
      refine xr_aload_n (pc := 50) 0 dX2_all_50 rfl rfl ?_
      refine yc_ldcS (pc := 51) 1 (by decide) rfl rfl dX2_all_51 ?_
      refine xr_iconst (pc := 53) dX2_all_53 xci_2 ?_
      refine xr_bipush (pc := 54) dX2_all_54 xcb_8 ?_
      rcases xo_bx hf with ⟨r11, τ11, hτ11, hf⟩ | ⟨q50, τ50, hτ50, hf⟩
      · refine call_f_x_X2_number_2_X2_120_r (pc := 56) hτ11 (gKo ht9 (by decide)) rfl (Nat.le_of_ble_eq_true rfl) (Nat.le_of_ble_eq_true rfl) (Nat.le_of_ble_eq_true rfl) dX2_all_56 ?_
        obtain ⟨ht12, hf⟩ := xo_if hf
        refine yc_putIN (pc := 59) 2 2 202 ht12 (by decide) (by decide) (by decide) rfl rfl rfl (ty := .int) (by decide +kernel) rfl rfl q262 (ys_eq rfl) rfl dX2_all_59 ?_
        refine xr_aload_n (pc := 62) 0 dX2_all_62 rfl rfl ?_
        obtain ⟨ht13, hf⟩ := xo_if hf
        obtain ⟨b14, hb14, hf⟩ := xo_bind hf
        refine yc_getRs (pc := 63) 3 6 306 (gKo ht13 (by decide)) (by decide) (by decide) (by decide) rfl rfl hb14 q394 (ys_eq rfl) rfl dX2_all_63 ?_
        refine xr_aload_n (pc := 66) 0 dX2_all_66 rfl rfl ?_
        refine yc_ldcS (pc := 67) 2 (by decide) rfl rfl dX2_all_67 ?_
        refine xr_iconst (pc := 69) dX2_all_69 xci_1 ?_
        refine xr_bipush (pc := 70) dX2_all_70 xcb_7 ?_
        rcases xo_bx hf with ⟨r15, τ15, hτ15, hf⟩ | ⟨q49, τ49, hτ49, hf⟩
        · refine call_f_x_X2_number_2_X2_120_r (pc := 72) hτ15 (gKo ht13 (by decide)) rfl (Nat.le_of_ble_eq_true rfl) (Nat.le_of_ble_eq_true rfl) (Nat.le_of_ble_eq_true rfl) dX2_all_72 ?_
          obtain ⟨ht16, hf⟩ := xo_if hf
          refine yc_putIN (pc := 75) 2 3 203 ht16 (by decide) (by decide) (by decide) rfl rfl rfl (ty := .int) (by decide +kernel) rfl rfl q265 (ys_eq rfl) rfl dX2_all_75 ?_
          refine xr_aload_n (pc := 78) 0 dX2_all_78 rfl rfl ?_
          refine xr_bipush (pc := 79) dX2_all_79 xcb_59 ?_
          obtain ⟨ht17, hf⟩ := xo_if hf
          rcases xo_bx hf with ⟨r18, τ18, hτ18, hf⟩ | ⟨q48, τ48, hτ48, hf⟩
          · refine call_f_x_X2_must_X2_127_r (pc := 81) hτ18 (gKo ht17 (by decide)) rfl (Nat.le_of_ble_eq_true rfl) (Nat.le_of_ble_eq_true rfl) (Nat.le_of_ble_eq_true rfl) dX2_all_81 ?_
            refine xr_aload_n (pc := 84) 0 dX2_all_84 rfl rfl ?_
            obtain ⟨ht19, hf⟩ := xo_if hf
            obtain ⟨b20, hb20, hf⟩ := xo_bind hf
            refine yc_getRs (pc := 85) 3 6 306 (gKo ht19 (by decide)) (by decide) (by decide) (by decide) rfl rfl hb20 q394 (ys_eq rfl) rfl dX2_all_85 ?_
            refine xr_iconst (pc := 88) dX2_all_88 xci_1 ?_
            obtain ⟨ht21, hf⟩ := xo_if hf
            refine yc_putIN (pc := 89) 2 0 200 ht21 (by decide) (by decide) (by decide) rfl rfl rfl (ty := .int) (by decide +kernel) rfl rfl q258 (ys_eq rfl) rfl dX2_all_89 ?_
            refine xV_sub [0] rfl ?_
            obtain ⟨b44, hb44, hf⟩ := xo_bind hf
            refine itr_rule (P := fun s_ : CS => xV (wC D P) K mX2_all (xQX (wC D P) K Z) s_ 92 [(0, .ref x0)] []) (fun s_ o_ hB_ hc_ he_ => ok_Bc_X2_all_92 hno hB_ hc_ (fun e45 h_ => ?_) (fun r_ h_ => ?_)) 4096 _ hb44
            · have e9_ := he_ _ h_
              subst e9_
              have hf := xo_inl hf
              refine xr_aload_n (pc := 173) 0 dX2_all_173 rfl rfl ?_
              obtain ⟨ht46, hf⟩ := xo_if hf
              obtain ⟨b47, hb47, hf⟩ := xo_bind hf
              refine yc_getRs (pc := 174) 3 6 306 (gKo ht46 (by decide)) (by decide) (by decide) (by decide) rfl rfl hb47 q394 (ys_eq rfl) rfl dX2_all_174 ?_
              rw [kr _ (Option.some.inj hf).symm]
              exact xV_ret (xr_aret (pc := 177) dX2_all_177 rfl (Or.inl ⟨_, rfl⟩))
            · have e9_ := he_ _ h_
              subst e9_
              have hf := xo_inr hf
              exact kr _ (Option.some.inj hf).symm
          · refine call_f_x_X2_must_X2_127_t (pc := 81) hτ48 (gKo ht17 (by decide)) rfl (Nat.le_of_ble_eq_true rfl) (Nat.le_of_ble_eq_true rfl) (Nat.le_of_ble_eq_true rfl) dX2_all_81 ?_
            rw [kr _ (Option.some.inj hf).symm]
            exact xT_out hno
        · refine call_f_x_X2_number_2_X2_120_t (pc := 72) hτ49 (gKo ht13 (by decide)) rfl (Nat.le_of_ble_eq_true rfl) (Nat.le_of_ble_eq_true rfl) (Nat.le_of_ble_eq_true rfl) dX2_all_72 ?_
          rw [kr _ (Option.some.inj hf).symm]
          exact xT_out hno
      · refine call_f_x_X2_number_2_X2_120_t (pc := 56) hτ50 (gKo ht9 (by decide)) rfl (Nat.le_of_ble_eq_true rfl) (Nat.le_of_ble_eq_true rfl) (Nat.le_of_ble_eq_true rfl) dX2_all_56 ?_
        rw [kr _ (Option.some.inj hf).symm]
        exact xT_out hno
    · refine call_f_x_X2_number_X2_96_t (pc := 40) hτ51 (gKo ht5 (by decide)) rfl (Nat.le_of_ble_eq_true rfl) (Nat.le_of_ble_eq_true rfl) (Nat.le_of_ble_eq_true rfl) dX2_all_40 ?_
      rw [kr _ (Option.some.inj hf).symm]
      exact xT_out hno
  · refine call_f_x_X2_word_X2_93_t (pc := 29) hτ52 (gKo ht3 (by decide)) rfl (Nat.le_of_ble_eq_true rfl) (Nat.le_of_ble_eq_true rfl) (Nat.le_of_ble_eq_true rfl) dX2_all_29 ?_
    rw [kr _ (Option.some.inj hf).symm]
    exact xT_out hno
theorem met_f_x_X2_all (l : Launch) {D : CD} {P : CP} {x0 : Nat} {x1 : Int32} {τ : CS} {o_ : ((Nat ⊕ Nat) × CS)} (hf : f_x_X2_all x0 x1 τ = some o_) : xMetX (wC D P) l yX2_all (ws_ yX2_all cX2_all 3 (some (.object "BentRiver$Valley"))) 132 7920 (grc τ.1) (grs τ.1) [.ref x0, .int x1] τ (xzR o_.1, o_.2) := 
  xMetX_of (by decide) (Nat.le_of_ble_eq_true rfl) KC_moved (RPC_of (g := τ.1) (c := τ.2)) (fun K _ _ _ hno => ok_f_x_X2_all hno hf (fun _ h => by rw [h]))
theorem hd_f_a_X19_init : yX19_init.cls ≠ "java/lang/invoke/MethodHandle" ∧ yX19_init.cls ≠ "java/lang/invoke/VarHandle" ∧ (parseMethodDescriptor yX19_init.desc).map (fun d => d.parameters.length) = some 3 := by decide +kernel
theorem call_f_a_X19_init_X2_332 {D : CD} {P : CP} {K : xK} {M : xM} {Q : State → Prop} {τ τ1 : CS} {x0 : Nat} {x1 : Int32} {x2 : Option Nat} {x3 : Option Nat} {pc : Nat} {loc : List (Nat × Value)} {st : List Value} (hf : f_a_X19_init x0 x1 x2 x3 τ = some τ1) (ho : M.2.2.1 = RX2) (hfr : 2 ≤ M.2.2.2.1) (hlo : 83 ≤ M.2.2.2.2.1) (hcat : (st.map fun v => v.category).sum ≤ 8) (d : decode M.1 pc = .ok (.invokespecial 332, 3)) (k : xV (wC D P) K M Q τ1 (pc + 3) loc st) : xV (wC D P) K M Q τ pc loc (va_rf x3 :: va_rf x2 :: .int x1 :: .ref x0 :: st) :=
  yc_callI (g := τ.1) (c := τ.2) (g1 := τ1.1) (c1 := τ1.2) (As := [.int x1, va_rf x2, va_rf x3]) (rest := st) (met_f_a_X19_init K.2.1 hf) (lw_meth q1673) q1671 q1672 q211 rfl hd_f_a_X19_init ho hfr hlo rfl rfl hcat d k
abbrev mX2_question : xM := (cX2_question, 4, RX2, 131, 7860, (some (.object "BentRiver$Question")), "question")
def Jc_X2_question_82 (x0 : Nat) (s0 : Nat) (τ : CS) : Option ((Nat ⊕ Nat) × CS) :=
  if gT τ.1 x0 = 3 then
  xbd (f_c_X2_here τ.1 x0 τ.2) fun r12 τ12 =>
  if r12 = (-1) then
  some ((.inl s0, (τ.1, τ12)))
  else
  xbd (f_c_X2_wrong τ.1 x0 1 (cI τ12 302 x0) τ12) fun r13 τ13 =>
  if gT τ.1 r13 = 4 then
  some ((.inr r13, (τ.1, τ13)))
  else none
  else none
theorem ok_Jc_X2_question_82 {D : CD} {P : CP} {K : xK} (hno : xNoT K) {Z : (Option Value ⊕ Nat) × CS} {x0 : Nat} {s0 : Nat} {τ : CS} {o_ : ((Nat ⊕ Nat) × CS)} (hf : Jc_X2_question_82 x0 s0 τ = some o_) (kr : ∀ r_ : ((Nat ⊕ Nat) × CS), o_ = r_ → Z = (xzR r_.1, r_.2)) : xV (wC D P) K mX2_question (xQX (wC D P) K Z) τ 82 [(0, .ref x0)] [.ref s0] := by
  unfold Jc_X2_question_82 at hf
  refine xr_astore_n (pc := 82) (loc' := [(3, .ref s0), (0, .ref x0)]) dX2_question_82 rfl (by decide) rfl ?_
  refine xr_aload_n (pc := 83) 1 dX2_question_83 rfl rfl ?_
  obtain ⟨ht11, hf⟩ := xo_if hf
  obtain ⟨r12, τ12, hτ12, hf⟩ := xo_bd hf
  refine call_f_c_X2_here_X2_43 (pc := 84) hτ12 (gKo ht11 (by decide)) rfl (Nat.le_of_ble_eq_true rfl) (Nat.le_of_ble_eq_true rfl) (Nat.le_of_ble_eq_true rfl) dX2_question_84 ?_
  refine xr_iconst (pc := 87) dX2_question_87 xci_m1 ?_
  refine xr_icmp_eq (pc := 88) 101 dX2_question_88 (by decide) (fun c_ => ?_) (fun c_ => ?_)
  · have hf := xo_pos c_ hf
    refine xr_aload_n (pc := 101) 0 dX2_question_101 rfl rfl ?_
    rw [kr _ (Option.some.inj hf).symm]
    exact xV_ret (xr_aret (pc := 102) dX2_question_102 rfl (Or.inl ⟨_, rfl⟩))
  · have hf := xo_neg c_ hf
    refine xr_aload_n (pc := 91) 1 dX2_question_91 rfl rfl ?_
    refine xr_iconst (pc := 92) dX2_question_92 xci_1 ?_
    refine xr_aload_n (pc := 93) 1 dX2_question_93 rfl rfl ?_
    refine yc_getI (pc := 94) 3 2 302 (gKo ht11 (by decide)) (by decide) (by decide) (by decide) rfl rfl q390 (ys_eq rfl) rfl dX2_question_94 ?_
    obtain ⟨r13, τ13, hτ13, hf⟩ := xo_bd hf
    refine call_f_c_X2_wrong_X2_47 (pc := 97) hτ13 (gKo ht11 (by decide)) rfl (Nat.le_of_ble_eq_true rfl) (Nat.le_of_ble_eq_true rfl) (Nat.le_of_ble_eq_true rfl) dX2_question_97 ?_
    obtain ⟨ht14, hf⟩ := xo_if hf
    rw [kr _ (Option.some.inj hf).symm]
    exact yc_athrow (pc := 100) (gKo ht14 (by decide)) (by decide) (by decide) rfl dX2_question_100 (xT_out hno)
def f_x_X2_question (x0 : Nat) (x1 : Int32) (τ : CS) : Option ((Nat ⊕ Nat) × CS) :=
  if gT τ.1 x0 = 3 then
  xbx (f_x_X2_word_2 x0 (τ.1, uI (uI (uI (uI τ.2 301 x0 x1) 302 x0 0) 304 x0 0) 305 x0 261128)) (fun r2 τ2 =>
  xbd (f_c_X0_find τ2.1 r2 (gA τ2.1 0 3) τ2.2) fun r3 τ3 =>
  if r3 = (-1) then
  if gT τ2.1 x0 = 3 then
  xbd (f_c_X2_wrong τ2.1 x0 1 (cI τ3 303 x0) τ3) fun r5 τ5 =>
  if gT τ2.1 r5 = 4 then
  some ((.inr r5, (τ2.1, τ5)))
  else none
  else none
  else
  if (3 : Int32) ≤ r3 then
  xbd (aNew 17 (τ2.1, τ3)) fun r7 τ7 =>
  if gT τ7.1 x0 = 3 then
  xbx (d_su 8 x0 τ7) (fun r9 τ9 =>
  (f_a_X19_init r7 r3 none (some r9) τ9).bind fun τ10 =>
  Jc_X2_question_82 x0 r7 τ10) (fun q15 τ15 => some ((.inr q15, τ15)))
  else none
  else
  xbd (aNew 17 (τ2.1, τ3)) fun r16 τ16 =>
  if gT τ16.1 x0 = 3 then
  xbx (d_te 8 x0 τ16) (fun r18 τ18 =>
  (f_a_X19_init r16 r3 (some r18) none τ18).bind fun τ19 =>
  Jc_X2_question_82 x0 r16 τ19) (fun q20 τ20 => some ((.inr q20, τ20)))
  else none) (fun q21 τ21 => some ((.inr q21, τ21)))
  else none
theorem ok_f_x_X2_question {D : CD} {P : CP} {K : xK} (hno : xNoT K) {Z : (Option Value ⊕ Nat) × CS} {x0 : Nat} {x1 : Int32} {τ : CS} {o_ : ((Nat ⊕ Nat) × CS)} (hf : f_x_X2_question x0 x1 τ = some o_) (kr : ∀ r_ : ((Nat ⊕ Nat) × CS), o_ = r_ → Z = (xzR r_.1, r_.2)) : xV (wC D P) K mX2_question (xQX (wC D P) K Z) τ 0 [(0, .ref x0), (1, .int x1)] [] := by
  unfold f_x_X2_question at hf
  refine xr_aload_n (pc := 0) 0 dX2_question_0 rfl rfl ?_
  refine xr_iload_n (pc := 1) 1 dX2_question_1 rfl rfl ?_
  obtain ⟨ht1, hf⟩ := xo_if hf
  refine yc_putI (pc := 2) 3 1 301 ht1 (by decide) (by decide) (by decide) rfl rfl rfl (ty := .int) (by decide +kernel) rfl rfl q389 (ys_eq rfl) rfl dX2_question_2 ?_
  refine xr_aload_n (pc := 5) 0 dX2_question_5 rfl rfl ?_
  refine xr_iconst (pc := 6) dX2_question_6 xci_0 ?_
  refine yc_putI (pc := 7) 3 2 302 ht1 (by decide) (by decide) (by decide) rfl rfl rfl (ty := .int) (by decide +kernel) rfl rfl q390 (ys_eq rfl) rfl dX2_question_7 ?_
  refine xr_aload_n (pc := 10) 0 dX2_question_10 rfl rfl ?_
  refine xr_iconst (pc := 11) dX2_question_11 xci_0 ?_
  refine yc_putI (pc := 12) 3 4 304 ht1 (by decide) (by decide) (by decide) rfl rfl rfl (ty := .int) (by decide +kernel) rfl rfl q392 (ys_eq rfl) rfl dX2_question_12 ?_
  refine xr_aload_n (pc := 15) 0 dX2_question_15 rfl rfl ?_
  refine xr_ldcw (pc := 16) q1081 dX2_question_16 ?_
  refine yc_putI (pc := 19) 3 5 305 ht1 (by decide) (by decide) (by decide) rfl rfl rfl (ty := .int) (by decide +kernel) rfl rfl q393 (ys_eq rfl) rfl dX2_question_19 ?_
  refine xr_aload_n (pc := 22) 0 dX2_question_22 rfl rfl ?_
  rcases xo_bx hf with ⟨r2, τ2, hτ2, hf⟩ | ⟨q21, τ21, hτ21, hf⟩
  · refine call_f_x_X2_word_2_X2_70_r (pc := 23) hτ2 (gKo ht1 (by decide)) rfl (Nat.le_of_ble_eq_true rfl) (Nat.le_of_ble_eq_true rfl) (Nat.le_of_ble_eq_true rfl) dX2_question_23 ?_
    refine yc_getsN (pc := 26) 3 (by decide) (by decide) q1667 rfl rfl dX2_question_26 ?_
    obtain ⟨r3, τ3, hτ3, hf⟩ := xo_bd hf
    refine call_f_c_X0_find_X2_82 (pc := 29) hτ3 rfl (Nat.le_of_ble_eq_true rfl) (Nat.le_of_ble_eq_true rfl) (Nat.le_of_ble_eq_true rfl) dX2_question_29 ?_
    refine xr_istore_n (pc := 32) (loc' := [(2, .int r3), (0, .ref x0), (1, .int x1)]) dX2_question_32 rfl (by decide) rfl ?_
    refine xr_iload_n (pc := 33) 0 dX2_question_33 rfl rfl ?_
    refine xr_iconst (pc := 34) dX2_question_34 xci_m1 ?_
    refine xr_icmp_ne (pc := 35) 48 dX2_question_35 (by decide) (fun c_ => ?_) (fun c_ => ?_)
    · have hf := xo_pos c_ hf
      refine xr_aload_n (pc := 38) 1 dX2_question_38 rfl rfl ?_
      refine xr_iconst (pc := 39) dX2_question_39 xci_1 ?_
      refine xr_aload_n (pc := 40) 1 dX2_question_40 rfl rfl ?_
      obtain ⟨ht4, hf⟩ := xo_if hf
      refine yc_getI (pc := 41) 3 3 303 (gKo ht4 (by decide)) (by decide) (by decide) (by decide) rfl rfl q391 (ys_eq rfl) rfl dX2_question_41 ?_
      obtain ⟨r5, τ5, hτ5, hf⟩ := xo_bd hf
      refine call_f_c_X2_wrong_X2_47 (pc := 44) hτ5 (gKo ht4 (by decide)) rfl (Nat.le_of_ble_eq_true rfl) (Nat.le_of_ble_eq_true rfl) (Nat.le_of_ble_eq_true rfl) dX2_question_44 ?_
      obtain ⟨ht6, hf⟩ := xo_if hf
      rw [kr _ (Option.some.inj hf).symm]
      exact yc_athrow (pc := 47) (gKo ht6 (by decide)) (by decide) (by decide) rfl dX2_question_47 (xT_out hno)
    · have hf := xo_neg c_ hf
      refine xr_iload_n (pc := 48) 0 dX2_question_48 rfl rfl ?_
      refine xr_iconst (pc := 49) dX2_question_49 xci_3 ?_
      refine xr_icmp_ge (pc := 50) 69 dX2_question_50 (by decide) (fun c_ => ?_) (fun c_ => ?_)
      · have hf := xo_pos c_ hf
        obtain ⟨r7, τ7, hτ7, hf⟩ := xo_bd hf
        refine yc_aNew (pc := 69) 17 (by decide) (by decide) q1669 q1670 q211 hτ7 rfl dX2_question_69 ?_
        refine xr_dup (pc := 72) dX2_question_72 rfl ?_
        refine xr_iload_n (pc := 73) 0 dX2_question_73 rfl rfl ?_
        refine xr_null (pc := 74) dX2_question_74 ?_
        refine xr_aload_n (pc := 75) 1 dX2_question_75 rfl rfl ?_
        obtain ⟨ht8, hf⟩ := xo_if hf
        rcases xo_bx hf with ⟨r9, τ9, hτ9, hf⟩ | ⟨q15, τ15, hτ15, hf⟩
        · refine call_p_su_X2_217_r (pc := 76) (all_su 8) hτ9 (gKo ht8 (by decide)) rfl (Nat.le_of_ble_eq_true rfl) (Nat.le_of_ble_eq_true rfl) (Nat.le_of_ble_eq_true rfl) dX2_question_76 ?_
          obtain ⟨τ10, hτ10, hf⟩ := xo_bind hf
          refine call_f_a_X19_init_X2_332 (pc := 79) hτ10 rfl (Nat.le_of_ble_eq_true rfl) (Nat.le_of_ble_eq_true rfl) (Nat.le_of_ble_eq_true rfl) dX2_question_79 ?_
          refine xV_sub [1] rfl ?_
          exact ok_Jc_X2_question_82 hno hf kr
        · refine call_p_su_X2_217_t (pc := 76) (all_su 8) hτ15 (gKo ht8 (by decide)) rfl (Nat.le_of_ble_eq_true rfl) (Nat.le_of_ble_eq_true rfl) (Nat.le_of_ble_eq_true rfl) dX2_question_76 ?_
          rw [kr _ (Option.some.inj hf).symm]
          exact xT_out hno
      · have hf := xo_neg c_ hf
        obtain ⟨r16, τ16, hτ16, hf⟩ := xo_bd hf
        refine yc_aNew (pc := 53) 17 (by decide) (by decide) q1669 q1670 q211 hτ16 rfl dX2_question_53 ?_
        refine xr_dup (pc := 56) dX2_question_56 rfl ?_
        refine xr_iload_n (pc := 57) 0 dX2_question_57 rfl rfl ?_
        refine xr_aload_n (pc := 58) 1 dX2_question_58 rfl rfl ?_
        obtain ⟨ht17, hf⟩ := xo_if hf
        rcases xo_bx hf with ⟨r18, τ18, hτ18, hf⟩ | ⟨q20, τ20, hτ20, hf⟩
        · refine call_p_te_X2_224_r (pc := 59) (all_te 8) hτ18 (gKo ht17 (by decide)) rfl (Nat.le_of_ble_eq_true rfl) (Nat.le_of_ble_eq_true rfl) (Nat.le_of_ble_eq_true rfl) dX2_question_59 ?_
          refine xr_null (pc := 62) dX2_question_62 ?_
          obtain ⟨τ19, hτ19, hf⟩ := xo_bind hf
          refine call_f_a_X19_init_X2_332 (pc := 63) hτ19 rfl (Nat.le_of_ble_eq_true rfl) (Nat.le_of_ble_eq_true rfl) (Nat.le_of_ble_eq_true rfl) dX2_question_63 ?_
          refine xr_goto (pc := 66) 82 dX2_question_66 (by decide) ?_
          refine xV_sub [1] rfl ?_
          exact ok_Jc_X2_question_82 hno hf kr
        · refine call_p_te_X2_224_t (pc := 59) (all_te 8) hτ20 (gKo ht17 (by decide)) rfl (Nat.le_of_ble_eq_true rfl) (Nat.le_of_ble_eq_true rfl) (Nat.le_of_ble_eq_true rfl) dX2_question_59 ?_
          rw [kr _ (Option.some.inj hf).symm]
          exact xT_out hno
  · refine call_f_x_X2_word_2_X2_70_t (pc := 23) hτ21 (gKo ht1 (by decide)) rfl (Nat.le_of_ble_eq_true rfl) (Nat.le_of_ble_eq_true rfl) (Nat.le_of_ble_eq_true rfl) dX2_question_23 ?_
    rw [kr _ (Option.some.inj hf).symm]
    exact xT_out hno
theorem met_f_x_X2_question (l : Launch) {D : CD} {P : CP} {x0 : Nat} {x1 : Int32} {τ : CS} {o_ : ((Nat ⊕ Nat) × CS)} (hf : f_x_X2_question x0 x1 τ = some o_) : xMetX (wC D P) l yX2_question (ws_ yX2_question cX2_question 4 (some (.object "BentRiver$Question"))) 131 7860 (grc τ.1) (grs τ.1) [.ref x0, .int x1] τ (xzR o_.1, o_.2) := 
  xMetX_of (by decide) (Nat.le_of_ble_eq_true rfl) KC_moved (RPC_of (g := τ.1) (c := τ.2)) (fun K _ _ _ hno => ok_f_x_X2_question hno hf (fun _ h => by rw [h]))
theorem call_f_a_X1_init_X0_30 {D : CD} {P : CP} {K : xK} {M : xM} {Q : State → Prop} {τ τ1 : CS} {x0 : Nat} {pc : Nat} {loc : List (Nat × Value)} {st : List Value} (hf : f_a_X1_init x0 τ = some τ1) (ho : M.2.2.1 = RX0) (hfr : 5 ≤ M.2.2.2.1) (hlo : 262 ≤ M.2.2.2.2.1) (hcat : (st.map fun v => v.category).sum ≤ 8) (d : decode M.1 pc = .ok (.invokespecial 30, 3)) (k : xV (wC D P) K M Q τ1 (pc + 3) loc st) : xV (wC D P) K M Q τ pc loc (.ref x0 :: st) :=
  yc_callI (g := τ.1) (c := τ.2) (g1 := τ1.1) (c1 := τ1.2) (As := []) (rest := st) (met_f_a_X1_init K.2.1 hf) (lw_meth q224) q222 q223 q175 rfl hd_f_a_X1_init ho hfr hlo rfl rfl hcat d k
theorem hd_f_a_X2_init : yX2_init.cls ≠ "java/lang/invoke/MethodHandle" ∧ yX2_init.cls ≠ "java/lang/invoke/VarHandle" ∧ (parseMethodDescriptor yX2_init.desc).map (fun d => d.parameters.length) = some 1 := by decide +kernel
theorem call_f_a_X2_init_X0_45 {D : CD} {P : CP} {K : xK} {M : xM} {Q : State → Prop} {τ τ1 : CS} {x0 : Nat} {x1 : Nat} {pc : Nat} {loc : List (Nat × Value)} {st : List Value} (hf : f_a_X2_init x0 x1 τ = some τ1) (ho : M.2.2.1 = RX0) (hfr : 6 ≤ M.2.2.2.1) (hlo : 321 ≤ M.2.2.2.2.1) (hcat : (st.map fun v => v.category).sum ≤ 8) (d : decode M.1 pc = .ok (.invokespecial 45, 3)) (k : xV (wC D P) K M Q τ1 (pc + 3) loc st) : xV (wC D P) K M Q τ pc loc (.ref x1 :: .ref x0 :: st) :=
  yc_callIN (g := τ.1) (c := τ.2) (g1 := τ1.1) (c1 := τ1.2) (As := [.ref x1]) (rest := st) (met_f_a_X2_init K.2.1 hf) (lw_meth q313) q311 q312 q179 rfl hd_f_a_X2_init ho hfr hlo rfl rfl hcat d k
theorem hd_f_a_X4_init : yX4_init.cls ≠ "java/lang/invoke/MethodHandle" ∧ yX4_init.cls ≠ "java/lang/invoke/VarHandle" ∧ (parseMethodDescriptor yX4_init.desc).map (fun d => d.parameters.length) = some 0 := by decide +kernel
theorem call_f_a_X4_init_X0_54 {D : CD} {P : CP} {K : xK} {M : xM} {Q : State → Prop} {τ τ1 : CS} {x0 : Nat} {pc : Nat} {loc : List (Nat × Value)} {st : List Value} (hf : f_a_X4_init x0 τ = some τ1) (ho : M.2.2.1 = RX0) (hfr : 2 ≤ M.2.2.2.1) (hlo : 80 ≤ M.2.2.2.2.1) (hcat : (st.map fun v => v.category).sum ≤ 8) (d : decode M.1 pc = .ok (.invokespecial 54, 3)) (k : xV (wC D P) K M Q τ1 (pc + 3) loc st) : xV (wC D P) K M Q τ pc loc (.ref x0 :: st) :=
  yc_callIN (g := τ.1) (c := τ.2) (g1 := τ1.1) (c1 := τ1.2) (As := []) (rest := st) (met_f_a_X4_init K.2.1 hf) (lw_meth q417) q415 q416 q184 rfl hd_f_a_X4_init ho hfr hlo rfl rfl hcat d k
theorem hd_f_a_X5_init : yX5_init.cls ≠ "java/lang/invoke/MethodHandle" ∧ yX5_init.cls ≠ "java/lang/invoke/VarHandle" ∧ (parseMethodDescriptor yX5_init.desc).map (fun d => d.parameters.length) = some 1 := by decide +kernel
theorem call_f_a_X5_init_X0_68 {D : CD} {P : CP} {K : xK} {M : xM} {Q : State → Prop} {τ τ1 : CS} {x0 : Nat} {x1 : Nat} {pc : Nat} {loc : List (Nat × Value)} {st : List Value} (hf : f_a_X5_init x0 x1 τ = some τ1) (ho : M.2.2.1 = RX0) (hfr : 2 ≤ M.2.2.2.1) (hlo : 81 ≤ M.2.2.2.2.1) (hcat : (st.map fun v => v.category).sum ≤ 8) (d : decode M.1 pc = .ok (.invokespecial 68, 3)) (k : xV (wC D P) K M Q τ1 (pc + 3) loc st) : xV (wC D P) K M Q τ pc loc (.ref x1 :: .ref x0 :: st) :=
  yc_callIN (g := τ.1) (c := τ.2) (g1 := τ1.1) (c1 := τ1.2) (As := [.ref x1]) (rest := st) (met_f_a_X5_init K.2.1 hf) (lw_meth q431) q429 q430 q185 rfl hd_f_a_X5_init ho hfr hlo rfl rfl hcat d k
abbrev mX0_init : xM := (cX0_init, 2, RX0, 6, 360, none, "<init>")
def Bc_X0_init_182 (x0 : Nat) (x1 : Int32) (τ : CS) : Option ((Int32 × CS) ⊕ ((CS))) :=
  if (20 : Int32) ≤ x1 then
  some (.inr τ)
  else
  if gT τ.1 x0 = 1 then
  (gR τ.1 120 x0).bind fun b42 =>
  xbd (aNew 6 τ) fun r43 τ43 =>
  (f_a_X5_init r43 x0 τ43).bind fun τ44 =>
  if gT τ44.1 b42 = 108 then
  if gT τ44.1 r43 = 6 then
  if xin x1 (gN τ44.1 b42) = true then
  some (.inl (x1 + 1, (τ44.1, uP τ44.2 b42 x1.toNatClampNeg (some r43))))
  else none
  else none
  else none
  else none
theorem ok_Bc_X0_init_182 {D : CD} {P : CP} {K : xK} {Z : Option Value × CS} {x0 : Nat} {x1 : Int32} {τ : CS} {o_ : ((Int32 × CS) ⊕ ((CS)))} (hf : Bc_X0_init_182 x0 x1 τ = some o_) (kc : ∀ s_ : Int32 × CS, o_ = .inl s_ → xV (wC D P) K mX0_init (xQ (wC D P) K Z) s_.2 182 [(0, .ref x0), (1, .int s_.1)] []) (ke0 : ∀ e_ : CS, o_ = .inr e_ → xV (wC D P) K mX0_init (xQ (wC D P) K Z) e_ 208 [(0, .ref x0)] []) : xV (wC D P) K mX0_init (xQ (wC D P) K Z) τ 182 [(0, .ref x0), (1, .int x1)] [] := by
  unfold Bc_X0_init_182 at hf
  refine xr_iload_n (pc := 182) 1 dX0_init_182 rfl rfl ?_
  refine xr_bipush (pc := 183) dX0_init_183 xcb_20 ?_
  refine xr_icmp_ge (pc := 185) 208 dX0_init_185 (by decide) (fun c_ => ?_) (fun c_ => ?_)
  · have hf := xo_pos c_ hf
    refine xV_sub [0] rfl ?_
    exact ke0 _ (Option.some.inj hf).symm
  · have hf := xo_neg c_ hf
    refine xr_aload_n (pc := 188) 0 dX0_init_188 rfl rfl ?_
    obtain ⟨ht41, hf⟩ := xo_if hf
    obtain ⟨b42, hb42, hf⟩ := xo_bind hf
    refine yc_getFs (pc := 189) 1 20 120 (gKo ht41 (by decide)) (by decide) (by decide) (by decide) rfl rfl hb42 q506 (ys_eq rfl) rfl dX0_init_189 ?_
    refine xr_iload_n (pc := 192) 1 dX0_init_192 rfl rfl ?_
    obtain ⟨r43, τ43, hτ43, hf⟩ := xo_bd hf
    refine yc_aNew (pc := 193) 6 (by decide) (by decide) q427 q428 q185 hτ43 rfl dX0_init_193 ?_
    refine xr_dup (pc := 196) dX0_init_196 rfl ?_
    refine xr_aload_n (pc := 197) 0 dX0_init_197 rfl rfl ?_
    obtain ⟨τ44, hτ44, hf⟩ := xo_bind hf
    refine call_f_a_X5_init_X0_68 (pc := 198) hτ44 rfl (Nat.le_of_ble_eq_true rfl) (Nat.le_of_ble_eq_true rfl) (Nat.le_of_ble_eq_true rfl) dX0_init_198 ?_
    obtain ⟨ht45, hf⟩ := xo_if hf
    obtain ⟨ht46, hf⟩ := xo_if hf
    obtain ⟨hi_, hf⟩ := xo_if hf
    refine yc_aast (pc := 201) 108 6 ht45 (by decide) (by decide) rfl rfl (gKo ht46 (by decide)) rfl hi_ dX0_init_201 ?_
    refine xr_iinc (pc := 202) (loc' := [(1, .int (x1 + 1)), (0, .ref x0)]) 1 dX0_init_202 rfl xci_1 (by decide) rfl ?_
    refine xr_goto (pc := 205) 182 dX0_init_205 (by decide) ?_
    refine xV_sub [1, 0] rfl ?_
    exact kc _ (Option.some.inj hf).symm
def Jc_X0_init_213 (x0 : Nat) (τ : CS) : Option CS :=
  xbd (aArr 103 (191 : Int32) τ) fun r49 τ49 =>
  if gT τ49.1 x0 = 1 then
  some ((vR τ49.1 123 x0 (some r49), τ49.2))
  else none
theorem ok_Jc_X0_init_213 {D : CD} {P : CP} {K : xK} {Z : Option Value × CS} {x0 : Nat} {τ : CS} {o_ : CS} (hf : Jc_X0_init_213 x0 τ = some o_) (kr : ∀ r_ : CS, o_ = r_ → Z = (none, r_)) : xV (wC D P) K mX0_init (xQ (wC D P) K Z) τ 213 [(0, .ref x0)] [] := by
  unfold Jc_X0_init_213 at hf
  refine xr_aload_n (pc := 213) 0 dX0_init_213 rfl rfl ?_
  refine xr_sipush (pc := 214) dX0_init_214 xcs_191 ?_
  obtain ⟨r49, τ49, hτ49, hf⟩ := xo_bd hf
  refine yc_aArr (pc := 217) 103 (by decide) (by decide) rfl (Or.inl rfl) (by decide +kernel) (by decide) q387 hτ49 dX0_init_217 ?_
  obtain ⟨ht50, hf⟩ := xo_if hf
  refine yc_putFRs (pc := 219) 1 23 123 ht50 (by decide) (by decide) (by decide) rfl rfl rfl (ty := (.array .byte)) (by decide +kernel) rfl q509 rfl rfl rfl dX0_init_219 ?_
  rw [kr _ (Option.some.inj hf).symm]
  exact xr_vret (pc := 222) dX0_init_222 rfl
def Jc_X0_init_127 (x0 : Nat) (τ : CS) : Option CS :=
  xbd (aArr 100 (10 : Int32) τ) fun r29 τ29 =>
  if gT τ29.1 x0 = 1 then
  xbd (aArr 100 (16 : Int32) (vR τ29.1 114 x0 (some r29), τ29.2)) fun r31 τ31 =>
  if gT τ31.1 x0 = 1 then
  xbd (aArr 100 (16 : Int32) (vR τ31.1 115 x0 (some r31), τ31.2)) fun r33 τ33 =>
  if gT τ33.1 x0 = 1 then
  xbd (aArr 100 (16 : Int32) (vR τ33.1 116 x0 (some r33), τ33.2)) fun r35 τ35 =>
  if gT τ35.1 x0 = 1 then
  xbd (aMul 105 (8 : Int32) (31 : Int32) (vR τ35.1 117 x0 (some r35), τ35.2)) fun r37 τ37 =>
  if gT τ37.1 x0 = 1 then
  xbd (aArr 108 (20 : Int32) (vR τ37.1 119 x0 (some r37), τ37.2)) fun r39 τ39 =>
  if gT τ39.1 x0 = 1 then
  (itr (fun s_ : Int32 × CS => Bc_X0_init_182 x0 s_.1 s_.2) 4096 (0, (vR τ39.1 120 x0 (some r39), τ39.2))).bind fun b47 =>
  if gT b47.1 x0 = 1 then
  Jc_X0_init_213 x0 (b47.1, uL b47.2 122 x0 1)
  else none
  else none
  else none
  else none
  else none
  else none
  else none
theorem ok_Jc_X0_init_127 {D : CD} {P : CP} {K : xK} {Z : Option Value × CS} {x0 : Nat} {τ : CS} {o_ : CS} (hf : Jc_X0_init_127 x0 τ = some o_) (kr : ∀ r_ : CS, o_ = r_ → Z = (none, r_)) : xV (wC D P) K mX0_init (xQ (wC D P) K Z) τ 127 [(0, .ref x0)] [] := by
  unfold Jc_X0_init_127 at hf
  refine xr_aload_n (pc := 127) 0 dX0_init_127 rfl rfl ?_
  refine xr_bipush (pc := 128) dX0_init_128 xcb_10 ?_
  obtain ⟨r29, τ29, hτ29, hf⟩ := xo_bd hf
  refine yc_aArr (pc := 130) 100 (by decide) (by decide) rfl (Or.inl rfl) (by decide +kernel) (by decide) q256 hτ29 dX0_init_130 ?_
  obtain ⟨ht30, hf⟩ := xo_if hf
  refine yc_putFRs (pc := 132) 1 14 114 ht30 (by decide) (by decide) (by decide) rfl rfl rfl (ty := (.array .int)) (by decide +kernel) rfl q500 rfl rfl rfl dX0_init_132 ?_
  refine xr_aload_n (pc := 135) 0 dX0_init_135 rfl rfl ?_
  refine xr_bipush (pc := 136) dX0_init_136 xcb_16 ?_
  obtain ⟨r31, τ31, hτ31, hf⟩ := xo_bd hf
  refine yc_aArr (pc := 138) 100 (by decide) (by decide) rfl (Or.inl rfl) (by decide +kernel) (by decide) q256 hτ31 dX0_init_138 ?_
  obtain ⟨ht32, hf⟩ := xo_if hf
  refine yc_putFRs (pc := 140) 1 15 115 ht32 (by decide) (by decide) (by decide) rfl rfl rfl (ty := (.array .int)) (by decide +kernel) rfl q501 rfl rfl rfl dX0_init_140 ?_
  refine xr_aload_n (pc := 143) 0 dX0_init_143 rfl rfl ?_
  refine xr_bipush (pc := 144) dX0_init_144 xcb_16 ?_
  obtain ⟨r33, τ33, hτ33, hf⟩ := xo_bd hf
  refine yc_aArr (pc := 146) 100 (by decide) (by decide) rfl (Or.inl rfl) (by decide +kernel) (by decide) q256 hτ33 dX0_init_146 ?_
  obtain ⟨ht34, hf⟩ := xo_if hf
  refine yc_putFRs (pc := 148) 1 16 116 ht34 (by decide) (by decide) (by decide) rfl rfl rfl (ty := (.array .int)) (by decide +kernel) rfl q502 rfl rfl rfl dX0_init_148 ?_
  refine xr_aload_n (pc := 151) 0 dX0_init_151 rfl rfl ?_
  refine xr_bipush (pc := 152) dX0_init_152 xcb_16 ?_
  obtain ⟨r35, τ35, hτ35, hf⟩ := xo_bd hf
  refine yc_aArr (pc := 154) 100 (by decide) (by decide) rfl (Or.inl rfl) (by decide +kernel) (by decide) q256 hτ35 dX0_init_154 ?_
  obtain ⟨ht36, hf⟩ := xo_if hf
  refine yc_putFRs (pc := 156) 1 17 117 ht36 (by decide) (by decide) (by decide) rfl rfl rfl (ty := (.array .int)) (by decide +kernel) rfl q503 rfl rfl rfl dX0_init_156 ?_
  refine xr_aload_n (pc := 159) 0 dX0_init_159 rfl rfl ?_
  refine xr_bipush (pc := 160) dX0_init_160 xcb_8 ?_
  refine xr_bipush (pc := 162) dX0_init_162 xcb_31 ?_
  obtain ⟨r37, τ37, hτ37, hf⟩ := xo_bd hf
  refine yc_aMul (pc := 164) 105 (by decide) q479 q256 hτ37 rfl dX0_init_164 ?_
  obtain ⟨ht38, hf⟩ := xo_if hf
  refine yc_putFRs (pc := 168) 1 19 119 ht38 (by decide) (by decide) (by decide) rfl rfl rfl (ty := (.array (.array .int))) (by decide +kernel) rfl q505 rfl rfl rfl dX0_init_168 ?_
  refine xr_aload_n (pc := 171) 0 dX0_init_171 rfl rfl ?_
  refine xr_bipush (pc := 172) dX0_init_172 xcb_20 ?_
  obtain ⟨r39, τ39, hτ39, hf⟩ := xo_bd hf
  refine yc_aArrO (pc := 174) 108 (by decide) (by decide) rfl rfl q427 (by decide) hτ39 rfl dX0_init_174 ?_
  obtain ⟨ht40, hf⟩ := xo_if hf
  refine yc_putFRs (pc := 177) 1 20 120 ht40 (by decide) (by decide) (by decide) rfl rfl rfl (ty := (.array (.object "BentRiver$State"))) (by decide +kernel) rfl q506 rfl rfl rfl dX0_init_177 ?_
  refine xr_iconst (pc := 180) dX0_init_180 xci_0 ?_
  refine xr_istore_n (pc := 181) (loc' := [(1, .int 0), (0, .ref x0)]) dX0_init_181 rfl (by decide) rfl ?_
  refine xV_sub [1, 0] rfl ?_
  obtain ⟨b47, hb47, hf⟩ := xo_bind hf
  refine itr_rule (P := fun s_ : Int32 × CS => xV (wC D P) K mX0_init (xQ (wC D P) K Z) s_.2 182 [(0, .ref x0), (1, .int s_.1)] []) (fun s_ o_ hB_ hc_ he_ => ok_Bc_X0_init_182 hB_ hc_ (fun e_ h_ => ?_)) 4096 _ hb47
  · have e9_ := he_ _ h_
    rw [e9_]
    refine xr_aload_n (pc := 208) 0 dX0_init_208 rfl rfl ?_
    refine xr_lconst (pc := 209) dX0_init_209 (by decide : _ = (1 : Int64)) ?_
    obtain ⟨ht48, hf⟩ := xo_if hf
    refine yc_putL (pc := 210) 1 22 122 ht48 (by decide) (by decide) (by decide) rfl rfl rfl (by decide +kernel) q508 (ys_eq rfl) rfl dX0_init_210 ?_
    exact ok_Jc_X0_init_213 hf kr
def Jc_X0_init_63 (x0 : Nat) (τ : CS) : Option CS :=
  xbd (aArr 100 (6 : Int32) τ) fun r15 τ15 =>
  if gT τ15.1 x0 = 1 then
  xbd (aNew 6 (vR τ15.1 108 x0 (some r15), τ15.2)) fun r17 τ17 =>
  (f_a_X5_init r17 x0 τ17).bind fun τ18 =>
  if gT τ18.1 x0 = 1 then
  xbd (aNew 6 (vR τ18.1 109 x0 (some r17), τ18.2)) fun r20 τ20 =>
  (f_a_X5_init r20 x0 τ20).bind fun τ21 =>
  if gT τ21.1 x0 = 1 then
  xbd (aArr 100 (2 : Int32) (vR τ21.1 110 x0 (some r20), τ21.2)) fun r23 τ23 =>
  if gT τ23.1 x0 = 1 then
  xbd (aMul 105 (32 : Int32) (5 : Int32) (vR τ23.1 111 x0 (some r23), τ23.2)) fun r25 τ25 =>
  if gT τ25.1 x0 = 1 then
  xbd (aMul3 (10 : Int32) (8 : Int32) (8 : Int32) (vR τ25.1 112 x0 (some r25), τ25.2)) fun r27 τ27 =>
  if gT τ27.1 x0 = 1 then
  Jc_X0_init_127 x0 (vR τ27.1 113 x0 (some r27), τ27.2)
  else none
  else none
  else none
  else none
  else none
  else none
theorem ok_Jc_X0_init_63 {D : CD} {P : CP} {K : xK} {Z : Option Value × CS} {x0 : Nat} {τ : CS} {o_ : CS} (hf : Jc_X0_init_63 x0 τ = some o_) (kr : ∀ r_ : CS, o_ = r_ → Z = (none, r_)) : xV (wC D P) K mX0_init (xQ (wC D P) K Z) τ 63 [(0, .ref x0)] [] := by
  unfold Jc_X0_init_63 at hf
  refine xr_aload_n (pc := 63) 0 dX0_init_63 rfl rfl ?_
  refine xr_bipush (pc := 64) dX0_init_64 xcb_6 ?_
  obtain ⟨r15, τ15, hτ15, hf⟩ := xo_bd hf
  refine yc_aArr (pc := 66) 100 (by decide) (by decide) rfl (Or.inl rfl) (by decide +kernel) (by decide) q256 hτ15 dX0_init_66 ?_
  obtain ⟨ht16, hf⟩ := xo_if hf
  refine yc_putFRs (pc := 68) 1 8 108 ht16 (by decide) (by decide) (by decide) rfl rfl rfl (ty := (.array .int)) (by decide +kernel) rfl q494 rfl rfl rfl dX0_init_68 ?_
  refine xr_aload_n (pc := 71) 0 dX0_init_71 rfl rfl ?_
  obtain ⟨r17, τ17, hτ17, hf⟩ := xo_bd hf
  refine yc_aNew (pc := 72) 6 (by decide) (by decide) q427 q428 q185 hτ17 rfl dX0_init_72 ?_
  refine xr_dup (pc := 75) dX0_init_75 rfl ?_
  refine xr_aload_n (pc := 76) 0 dX0_init_76 rfl rfl ?_
  obtain ⟨τ18, hτ18, hf⟩ := xo_bind hf
  refine call_f_a_X5_init_X0_68 (pc := 77) hτ18 rfl (Nat.le_of_ble_eq_true rfl) (Nat.le_of_ble_eq_true rfl) (Nat.le_of_ble_eq_true rfl) dX0_init_77 ?_
  obtain ⟨ht19, hf⟩ := xo_if hf
  refine yc_putFRs (pc := 80) 1 9 109 ht19 (by decide) (by decide) (by decide) rfl rfl rfl (ty := (.object "BentRiver$State")) (by decide +kernel) rfl q495 rfl rfl rfl dX0_init_80 ?_
  refine xr_aload_n (pc := 83) 0 dX0_init_83 rfl rfl ?_
  obtain ⟨r20, τ20, hτ20, hf⟩ := xo_bd hf
  refine yc_aNew (pc := 84) 6 (by decide) (by decide) q427 q428 q185 hτ20 rfl dX0_init_84 ?_
  refine xr_dup (pc := 87) dX0_init_87 rfl ?_
  refine xr_aload_n (pc := 88) 0 dX0_init_88 rfl rfl ?_
  obtain ⟨τ21, hτ21, hf⟩ := xo_bind hf
  refine call_f_a_X5_init_X0_68 (pc := 89) hτ21 rfl (Nat.le_of_ble_eq_true rfl) (Nat.le_of_ble_eq_true rfl) (Nat.le_of_ble_eq_true rfl) dX0_init_89 ?_
  obtain ⟨ht22, hf⟩ := xo_if hf
  refine yc_putFRs (pc := 92) 1 10 110 ht22 (by decide) (by decide) (by decide) rfl rfl rfl (ty := (.object "BentRiver$State")) (by decide +kernel) rfl q496 rfl rfl rfl dX0_init_92 ?_
  refine xr_aload_n (pc := 95) 0 dX0_init_95 rfl rfl ?_
  refine xr_iconst (pc := 96) dX0_init_96 xci_2 ?_
  obtain ⟨r23, τ23, hτ23, hf⟩ := xo_bd hf
  refine yc_aArr (pc := 97) 100 (by decide) (by decide) rfl (Or.inl rfl) (by decide +kernel) (by decide) q256 hτ23 dX0_init_97 ?_
  obtain ⟨ht24, hf⟩ := xo_if hf
  refine yc_putFRs (pc := 99) 1 11 111 ht24 (by decide) (by decide) (by decide) rfl rfl rfl (ty := (.array .int)) (by decide +kernel) rfl q497 rfl rfl rfl dX0_init_99 ?_
  refine xr_aload_n (pc := 102) 0 dX0_init_102 rfl rfl ?_
  refine xr_bipush (pc := 103) dX0_init_103 xcb_32 ?_
  refine xr_iconst (pc := 105) dX0_init_105 xci_5 ?_
  obtain ⟨r25, τ25, hτ25, hf⟩ := xo_bd hf
  refine yc_aMul (pc := 106) 105 (by decide) q479 q256 hτ25 rfl dX0_init_106 ?_
  obtain ⟨ht26, hf⟩ := xo_if hf
  refine yc_putFRs (pc := 110) 1 12 112 ht26 (by decide) (by decide) (by decide) rfl rfl rfl (ty := (.array (.array .int))) (by decide +kernel) rfl q498 rfl rfl rfl dX0_init_110 ?_
  refine xr_aload_n (pc := 113) 0 dX0_init_113 rfl rfl ?_
  refine xr_bipush (pc := 114) dX0_init_114 xcb_10 ?_
  refine xr_bipush (pc := 116) dX0_init_116 xcb_8 ?_
  refine xr_bipush (pc := 118) dX0_init_118 xcb_8 ?_
  obtain ⟨r27, τ27, hτ27, hf⟩ := xo_bd hf
  refine yc_aMul3 (pc := 120) q480 q256 hτ27 rfl dX0_init_120 ?_
  obtain ⟨ht28, hf⟩ := xo_if hf
  refine yc_putFRs (pc := 124) 1 13 113 ht28 (by decide) (by decide) (by decide) rfl rfl rfl (ty := (.array (.array (.array .int)))) (by decide +kernel) rfl q499 rfl rfl rfl dX0_init_124 ?_
  exact ok_Jc_X0_init_127 hf kr
def f_a_X0_init (x0 : Nat) (τ : CS) : Option CS :=
  xbd (aNew 2 τ) fun r1 τ1 =>
  (f_a_X1_init r1 τ1).bind fun τ2 =>
  if gT τ2.1 x0 = 1 then
  xbd (aArr 103 (1600 : Int32) (τ2.1, uR τ2.2 100 x0 (some r1))) fun r4 τ4 =>
  if gT τ4.1 x0 = 1 then
  xbd (aNew 3 ((vR τ4.1 101 x0 (some r4)), uI τ4.2 104 x0 (-1))) fun r6 τ6 =>
  (f_a_X2_init r6 x0 τ6).bind fun τ7 =>
  if gT τ7.1 x0 = 1 then
  xbd (aNew 5 (vR τ7.1 105 x0 (some r6), τ7.2)) fun r9 τ9 =>
  (f_a_X4_init r9 τ9).bind fun τ10 =>
  if gT τ10.1 x0 = 1 then
  xbd (aNew 5 (vR τ10.1 106 x0 (some r9), τ10.2)) fun r12 τ12 =>
  (f_a_X4_init r12 τ12).bind fun τ13 =>
  if gT τ13.1 x0 = 1 then
  Jc_X0_init_63 x0 (vR τ13.1 107 x0 (some r12), τ13.2)
  else none
  else none
  else none
  else none
  else none
theorem ok_f_a_X0_init {D : CD} {P : CP} {K : xK} {Z : Option Value × CS} {x0 : Nat} {τ : CS} {o_ : CS} (hf : f_a_X0_init x0 τ = some o_) (kr : ∀ r_ : CS, o_ = r_ → Z = (none, r_)) : xV (wC D P) K mX0_init (xQ (wC D P) K Z) τ 0 [(0, .ref x0)] [] := by
  unfold f_a_X0_init at hf
  refine xr_aload_n (pc := 0) 0 dX0_init_0 rfl rfl ?_
  refine xr_objInit (pc := 1) q217 rfl (Nat.le_of_ble_eq_true rfl) (Nat.le_of_ble_eq_true rfl) (Nat.le_of_ble_eq_true rfl) dX0_init_1 ?_
  refine xr_aload_n (pc := 4) 0 dX0_init_4 rfl rfl ?_
  obtain ⟨r1, τ1, hτ1, hf⟩ := xo_bd hf
  refine yc_aNew (pc := 5) 2 (by decide) (by decide) q220 q221 q175 hτ1 rfl dX0_init_5 ?_
  refine xr_dup (pc := 8) dX0_init_8 rfl ?_
  obtain ⟨τ2, hτ2, hf⟩ := xo_bind hf
  refine call_f_a_X1_init_X0_30 (pc := 9) hτ2 rfl (Nat.le_of_ble_eq_true rfl) (Nat.le_of_ble_eq_true rfl) (Nat.le_of_ble_eq_true rfl) dX0_init_9 ?_
  obtain ⟨ht3, hf⟩ := xo_if hf
  refine yc_putRs (pc := 12) 1 0 100 ht3 (by decide) (by decide) (by decide) rfl rfl rfl (ty := (.object "BentRiver$Valley")) (by decide +kernel) rfl q484 (ys_eq rfl) rfl dX0_init_12 ?_
  refine xr_aload_n (pc := 15) 0 dX0_init_15 rfl rfl ?_
  refine xr_sipush (pc := 16) dX0_init_16 xcs_1600 ?_
  obtain ⟨r4, τ4, hτ4, hf⟩ := xo_bd hf
  refine yc_aArr (pc := 19) 103 (by decide) (by decide) rfl (Or.inl rfl) (by decide +kernel) (by decide) q387 hτ4 dX0_init_19 ?_
  obtain ⟨ht5, hf⟩ := xo_if hf
  refine yc_putFRs (pc := 21) 1 1 101 ht5 (by decide) (by decide) (by decide) rfl rfl rfl (ty := (.array .byte)) (by decide +kernel) rfl q486 rfl rfl rfl dX0_init_21 ?_
  refine xr_aload_n (pc := 24) 0 dX0_init_24 rfl rfl ?_
  refine xr_iconst (pc := 25) dX0_init_25 xci_m1 ?_
  refine yc_putI (pc := 26) 1 4 104 ht5 (by decide) (by decide) (by decide) rfl rfl rfl (ty := .int) (by decide +kernel) rfl rfl q489 (ys_eq rfl) rfl dX0_init_26 ?_
  refine xr_aload_n (pc := 29) 0 dX0_init_29 rfl rfl ?_
  obtain ⟨r6, τ6, hτ6, hf⟩ := xo_bd hf
  refine yc_aNew (pc := 30) 3 (by decide) (by decide) q309 q310 q179 hτ6 rfl dX0_init_30 ?_
  refine xr_dup (pc := 33) dX0_init_33 rfl ?_
  refine xr_aload_n (pc := 34) 0 dX0_init_34 rfl rfl ?_
  obtain ⟨τ7, hτ7, hf⟩ := xo_bind hf
  refine call_f_a_X2_init_X0_45 (pc := 35) hτ7 rfl (Nat.le_of_ble_eq_true rfl) (Nat.le_of_ble_eq_true rfl) (Nat.le_of_ble_eq_true rfl) dX0_init_35 ?_
  obtain ⟨ht8, hf⟩ := xo_if hf
  refine yc_putFRs (pc := 38) 1 5 105 ht8 (by decide) (by decide) (by decide) rfl rfl rfl (ty := (.object "BentRiver$Reader")) (by decide +kernel) rfl q490 rfl rfl rfl dX0_init_38 ?_
  refine xr_aload_n (pc := 41) 0 dX0_init_41 rfl rfl ?_
  obtain ⟨r9, τ9, hτ9, hf⟩ := xo_bd hf
  refine yc_aNew (pc := 42) 5 (by decide) (by decide) q413 q414 q184 hτ9 rfl dX0_init_42 ?_
  refine xr_dup (pc := 45) dX0_init_45 rfl ?_
  obtain ⟨τ10, hτ10, hf⟩ := xo_bind hf
  refine call_f_a_X4_init_X0_54 (pc := 46) hτ10 rfl (Nat.le_of_ble_eq_true rfl) (Nat.le_of_ble_eq_true rfl) (Nat.le_of_ble_eq_true rfl) dX0_init_46 ?_
  obtain ⟨ht11, hf⟩ := xo_if hf
  refine yc_putFRs (pc := 49) 1 6 106 ht11 (by decide) (by decide) (by decide) rfl rfl rfl (ty := (.object "BentRiver$Moment")) (by decide +kernel) rfl q491 rfl rfl rfl dX0_init_49 ?_
  refine xr_aload_n (pc := 52) 0 dX0_init_52 rfl rfl ?_
  obtain ⟨r12, τ12, hτ12, hf⟩ := xo_bd hf
  refine yc_aNew (pc := 53) 5 (by decide) (by decide) q413 q414 q184 hτ12 rfl dX0_init_53 ?_
  refine xr_dup (pc := 56) dX0_init_56 rfl ?_
  obtain ⟨τ13, hτ13, hf⟩ := xo_bind hf
  refine call_f_a_X4_init_X0_54 (pc := 57) hτ13 rfl (Nat.le_of_ble_eq_true rfl) (Nat.le_of_ble_eq_true rfl) (Nat.le_of_ble_eq_true rfl) dX0_init_57 ?_
  obtain ⟨ht14, hf⟩ := xo_if hf
  refine yc_putFRs (pc := 60) 1 7 107 ht14 (by decide) (by decide) (by decide) rfl rfl rfl (ty := (.object "BentRiver$Moment")) (by decide +kernel) rfl q493 rfl rfl rfl dX0_init_60 ?_
  exact ok_Jc_X0_init_63 hf kr
theorem met_f_a_X0_init (l : Launch) {D : CD} {P : CP} {x0 : Nat} {τ : CS} {o_ : CS} (hf : f_a_X0_init x0 τ = some o_) : xMet (wC D P) l yX0_init (ws_ yX0_init cX0_init 2 none) 6 360 (grc τ.1) (grs τ.1) [.ref x0] τ (none, o_) := 
  xMet_of (by decide) (Nat.le_of_ble_eq_true rfl) KC_moved (RPC_of (g := τ.1) (c := τ.2)) (fun K _ _ _ => ok_f_a_X0_init hf (fun _ h => by rw [h]))
theorem hd_f_x_X2_all : yX2_all.cls ≠ "java/lang/invoke/MethodHandle" ∧ yX2_all.cls ≠ "java/lang/invoke/VarHandle" ∧ (parseMethodDescriptor yX2_all.desc).map (fun d => d.parameters.length) = some 1 := by decide +kernel
theorem call_f_x_X2_all_X0_133_r {D : CD} {P : CP} {K : xK} {M : xM} {Q : State → Prop} {τ τ1 : CS} {x0 : Nat} {x1 : Int32} {pc : Nat} {loc : List (Nat × Value)} {st : List Value} {r : Nat} (hf : f_x_X2_all x0 x1 τ = some (.inl r, τ1)) (hr : gK τ.1 x0 = 3) (ho : M.2.2.1 = RX0) (hfr : 133 ≤ M.2.2.2.1) (hlo : 7942 ≤ M.2.2.2.2.1) (hcat : (st.map fun v => v.category).sum ≤ 8) (d : decode M.1 pc = .ok (.invokevirtual 133, 3)) (k : xV (wC D P) K M Q τ1 (pc + 3) loc (.ref r :: st)) : xV (wC D P) K M Q τ pc loc (.int x1 :: .ref x0 :: st) :=
  yc_callVX (g := τ.1) (c := τ.2) (Z := (.inl (some (.ref r)), τ1)) (As := [.int x1]) (rest := st) (met_f_x_X2_all K.2.1 hf) (lw_V q587 q588 q589 q179 q590) ⟨rfl, hd_f_x_X2_all⟩ ho hfr hlo rfl hr (by decide) (by decide) rfl rfl hcat d (yx_ret (v := some (.ref r)) k) yx_noT
theorem call_f_x_X2_all_X0_133_t {D : CD} {P : CP} {K : xK} {M : xM} {Q : State → Prop} {τ τ1 : CS} {x0 : Nat} {x1 : Int32} {pc : Nat} {loc : List (Nat × Value)} {st : List Value} {q : Nat} (hf : f_x_X2_all x0 x1 τ = some (.inr q, τ1)) (hr : gK τ.1 x0 = 3) (ho : M.2.2.1 = RX0) (hfr : 133 ≤ M.2.2.2.1) (hlo : 7942 ≤ M.2.2.2.2.1) (hcat : (st.map fun v => v.category).sum ≤ 8) (d : decode M.1 pc = .ok (.invokevirtual 133, 3)) (k : xT (wC D P) K M Q τ1 pc loc q) : xV (wC D P) K M Q τ pc loc (.int x1 :: .ref x0 :: st) :=
  yc_callVX (g := τ.1) (c := τ.2) (Z := (.inr q, τ1)) (As := [.int x1]) (rest := st) (met_f_x_X2_all K.2.1 hf) (lw_V q587 q588 q589 q179 q590) ⟨rfl, hd_f_x_X2_all⟩ ho hfr hlo rfl hr (by decide) (by decide) rfl rfl hcat d yx_noR (yx_thr k)
theorem hd_f_c_X5_begins : yX5_begins.cls ≠ "java/lang/invoke/MethodHandle" ∧ yX5_begins.cls ≠ "java/lang/invoke/VarHandle" ∧ (parseMethodDescriptor yX5_begins.desc).map (fun d => d.parameters.length) = some 0 := by decide +kernel
theorem call_f_c_X5_begins_X0_145 {D : CD} {P : CP} {K : xK} {M : xM} {Q : State → Prop} {g : CG} {c : CC} {x0 : Nat} {pc : Nat} {loc : List (Nat × Value)} {st : List Value} {c1 : CC} (hf : f_c_X5_begins g x0 c = some c1) (hr : gK g x0 = 6) (ho : M.2.2.1 = RX0) (hfr : 5 ≤ M.2.2.2.1) (hlo : 262 ≤ M.2.2.2.2.1) (hcat : (st.map fun v => v.category).sum ≤ 8) (d : decode M.1 pc = .ok (.invokevirtual 145, 3)) (k : xV (wC D P) K M Q (g, c1) (pc + 3) loc st) : xV (wC D P) K M Q (g, c) pc loc (.ref x0 :: st) :=
  yc_callV (As := []) (rest := st) (met_f_c_X5_begins K.2.1 hf) (lw_V q1243 q1244 q1245 q185 q1246) ⟨rfl, hd_f_c_X5_begins⟩ ho hfr hlo rfl hr (by decide) (by decide) rfl rfl hcat d k
abbrev mX0_valley : xM := (cX0_valley, 2, RX0, 133, 7980, (some .int), "valley")
def f_a_X0_valley (x0 : Nat) (τ : CS) : Option (Int32 × CS) :=
  if gT τ.1 x0 = 1 then
  (gR τ.1 105 x0).bind fun b2 =>
  xbd (f_c_X0_taken τ.1 x0 (uI (uI τ.2 103 x0 0) 104 x0 (-1))) fun r3 τ3 =>
  if gT τ.1 b2 = 3 then
  xbx (f_x_X2_all b2 r3 (τ.1, τ3)) (fun r5 τ5 =>
  if gT τ5.1 x0 = 1 then
  (gR τ5.1 109 x0).bind fun b7 =>
  if gT τ5.1 b7 = 6 then
  (f_c_X5_begins τ5.1 b7 (uR τ5.2 100 x0 (some r5))).bind fun τ9 =>
  (cR (uI (uI τ9 121 x0 0) 118 x0 0) 100 x0).bind fun b10 =>
  if gT τ5.1 b10 = 2 then
  some ((cI (uI (uI τ9 121 x0 0) 118 x0 0) 200 b10, (τ5.1, uI (uI τ9 121 x0 0) 118 x0 0)))
  else none
  else none
  else none) (fun q12 τ12 =>
  if gT τ12.1 q12 = 4 then
  if gT τ12.1 x0 = 1 then
  xbd (f_c_X0_refuses τ12.1 x0 1 (uI (uI τ12.2 103 x0 (cI τ12.2 406 q12)) 104 x0 (cI (uI τ12.2 103 x0 (cI τ12.2 406 q12)) 407 q12))) fun r15 τ15 =>
  some ((r15, (τ12.1, τ15)))
  else none
  else none)
  else none
  else none
theorem ok_f_a_X0_valley {D : CD} {P : CP} {K : xK} (htab : K.2.2.2.2.2.2.2.2.2.exceptionTable.toList = tableOf [(10, 25, 28, 137)]) {Z : Option Value × CS} {x0 : Nat} {τ : CS} {o_ : (Int32 × CS)} (hf : f_a_X0_valley x0 τ = some o_) (kr : ∀ r_ : (Int32 × CS), o_ = r_ → Z = (some (.int r_.1), r_.2)) : xV (wC D P) K mX0_valley (xQ (wC D P) K Z) τ 0 [(0, .ref x0)] [] := by
  unfold f_a_X0_valley at hf
  refine xr_aload_n (pc := 0) 0 dX0_valley_0 rfl rfl ?_
  refine xr_iconst (pc := 1) dX0_valley_1 xci_0 ?_
  obtain ⟨ht1, hf⟩ := xo_if hf
  refine yc_putI (pc := 2) 1 3 103 ht1 (by decide) (by decide) (by decide) rfl rfl rfl (ty := .int) (by decide +kernel) rfl rfl q488 (ys_eq rfl) rfl dX0_valley_2 ?_
  refine xr_aload_n (pc := 5) 0 dX0_valley_5 rfl rfl ?_
  refine xr_iconst (pc := 6) dX0_valley_6 xci_m1 ?_
  refine yc_putI (pc := 7) 1 4 104 ht1 (by decide) (by decide) (by decide) rfl rfl rfl (ty := .int) (by decide +kernel) rfl rfl q489 (ys_eq rfl) rfl dX0_valley_7 ?_
  refine xr_aload_n (pc := 10) 0 dX0_valley_10 rfl rfl ?_
  refine xr_aload_n (pc := 11) 0 dX0_valley_11 rfl rfl ?_
  obtain ⟨b2, hb2, hf⟩ := xo_bind hf
  refine yc_getFs (pc := 12) 1 5 105 (gKo ht1 (by decide)) (by decide) (by decide) (by decide) rfl rfl hb2 q490 (ys_eq rfl) rfl dX0_valley_12 ?_
  refine xr_aload_n (pc := 15) 0 dX0_valley_15 rfl rfl ?_
  obtain ⟨r3, τ3, hτ3, hf⟩ := xo_bd hf
  refine call_f_c_X0_taken_X0_129 (pc := 16) hτ3 (gKo ht1 (by decide)) rfl (Nat.le_of_ble_eq_true rfl) (Nat.le_of_ble_eq_true rfl) (Nat.le_of_ble_eq_true rfl) dX0_valley_16 ?_
  obtain ⟨ht4, hf⟩ := xo_if hf
  rcases xo_bx hf with ⟨r5, τ5, hτ5, hf⟩ | ⟨q12, τ12, hτ12, hf⟩
  · refine call_f_x_X2_all_X0_133_r (pc := 19) hτ5 (gKo ht4 (by decide)) rfl (Nat.le_of_ble_eq_true rfl) (Nat.le_of_ble_eq_true rfl) (Nat.le_of_ble_eq_true rfl) dX0_valley_19 ?_
    obtain ⟨ht6, hf⟩ := xo_if hf
    refine yc_putRs (pc := 22) 1 0 100 ht6 (by decide) (by decide) (by decide) rfl rfl rfl (ty := (.object "BentRiver$Valley")) (by decide +kernel) rfl q484 (ys_eq rfl) rfl dX0_valley_22 ?_
    refine xr_goto (pc := 25) 51 dX0_valley_25 (by decide) ?_
    refine xr_aload_n (pc := 51) 0 dX0_valley_51 rfl rfl ?_
    obtain ⟨b7, hb7, hf⟩ := xo_bind hf
    refine yc_getFs (pc := 52) 1 9 109 (gKo ht6 (by decide)) (by decide) (by decide) (by decide) rfl rfl hb7 q495 (ys_eq rfl) rfl dX0_valley_52 ?_
    obtain ⟨ht8, hf⟩ := xo_if hf
    obtain ⟨τ9, hτ9, hf⟩ := xo_bind hf
    refine call_f_c_X5_begins_X0_145 (pc := 55) hτ9 (gKo ht8 (by decide)) rfl (Nat.le_of_ble_eq_true rfl) (Nat.le_of_ble_eq_true rfl) (Nat.le_of_ble_eq_true rfl) dX0_valley_55 ?_
    refine xr_aload_n (pc := 58) 0 dX0_valley_58 rfl rfl ?_
    refine xr_iconst (pc := 59) dX0_valley_59 xci_0 ?_
    refine yc_putI (pc := 60) 1 21 121 ht6 (by decide) (by decide) (by decide) rfl rfl rfl (ty := .int) (by decide +kernel) rfl rfl q507 (ys_eq rfl) rfl dX0_valley_60 ?_
    refine xr_aload_n (pc := 63) 0 dX0_valley_63 rfl rfl ?_
    refine xr_iconst (pc := 64) dX0_valley_64 xci_0 ?_
    refine yc_putI (pc := 65) 1 18 118 ht6 (by decide) (by decide) (by decide) rfl rfl rfl (ty := .int) (by decide +kernel) rfl rfl q504 (ys_eq rfl) rfl dX0_valley_65 ?_
    refine xr_aload_n (pc := 68) 0 dX0_valley_68 rfl rfl ?_
    obtain ⟨b10, hb10, hf⟩ := xo_bind hf
    refine yc_getRs (pc := 69) 1 0 100 (gKo ht6 (by decide)) (by decide) (by decide) (by decide) rfl rfl hb10 q484 (ys_eq rfl) rfl dX0_valley_69 ?_
    obtain ⟨ht11, hf⟩ := xo_if hf
    refine yc_getIN (pc := 72) 2 0 200 (gKo ht11 (by decide)) (by decide) (by decide) (by decide) rfl rfl q257 (ys_eq rfl) rfl dX0_valley_72 ?_
    rw [kr _ (Option.some.inj hf).symm]
    exact xr_iret (pc := 75) dX0_valley_75 rfl
  · refine call_f_x_X2_all_X0_133_t (pc := 19) hτ12 (gKo ht4 (by decide)) rfl (Nat.le_of_ble_eq_true rfl) (Nat.le_of_ble_eq_true rfl) (Nat.le_of_ble_eq_true rfl) dX0_valley_19 ?_
    refine yc_catch [] ⟨10, 25, 28, 137⟩ [] (by rw [htab]; rfl) (fun z hz => by cases hz) (by decide) (by decide) q582 q317 ?_
    refine xr_astore_n (pc := 28) (loc' := [(1, .ref q12), (0, .ref x0)]) dX0_valley_28 rfl (by decide) rfl ?_
    refine xr_aload_n (pc := 29) 1 dX0_valley_29 rfl rfl ?_
    refine xr_aload_n (pc := 30) 0 dX0_valley_30 rfl rfl ?_
    obtain ⟨ht13, hf⟩ := xo_if hf
    refine yc_getIN (pc := 31) 4 6 406 (gKo ht13 (by decide)) (by decide) (by decide) (by decide) rfl rfl q367 (ys_eq rfl) rfl dX0_valley_31 ?_
    obtain ⟨ht14, hf⟩ := xo_if hf
    refine yc_putI (pc := 34) 1 3 103 ht14 (by decide) (by decide) (by decide) rfl rfl rfl (ty := .int) (by decide +kernel) rfl rfl q488 (ys_eq rfl) rfl dX0_valley_34 ?_
    refine xr_aload_n (pc := 37) 1 dX0_valley_37 rfl rfl ?_
    refine xr_aload_n (pc := 38) 0 dX0_valley_38 rfl rfl ?_
    refine yc_getIN (pc := 39) 4 7 407 (gKo ht13 (by decide)) (by decide) (by decide) (by decide) rfl rfl q369 (ys_eq rfl) rfl dX0_valley_39 ?_
    refine yc_putI (pc := 42) 1 4 104 ht14 (by decide) (by decide) (by decide) rfl rfl rfl (ty := .int) (by decide +kernel) rfl rfl q489 (ys_eq rfl) rfl dX0_valley_42 ?_
    refine xr_aload_n (pc := 45) 1 dX0_valley_45 rfl rfl ?_
    refine xr_iconst (pc := 46) dX0_valley_46 xci_1 ?_
    obtain ⟨r15, τ15, hτ15, hf⟩ := xo_bd hf
    refine call_f_c_X0_refuses_X0_118 (pc := 47) hτ15 (gKo ht14 (by decide)) rfl (Nat.le_of_ble_eq_true rfl) (Nat.le_of_ble_eq_true rfl) (Nat.le_of_ble_eq_true rfl) dX0_valley_47 ?_
    rw [kr _ (Option.some.inj hf).symm]
    exact xr_iret (pc := 50) dX0_valley_50 rfl
theorem met_f_a_X0_valley (l : Launch) {D : CD} {P : CP} {x0 : Nat} {τ : CS} {o_ : (Int32 × CS)} (hf : f_a_X0_valley x0 τ = some o_) : xMet (wC D P) l yX0_valley (ws_H yX0_valley cX0_valley 2 (some .int) [(10, 25, 28, 137)]) 133 7980 (grc τ.1) (grs τ.1) [.ref x0] τ (some (.int o_.1), o_.2) := 
  xMet_ofH (by decide) (Nat.le_of_ble_eq_true rfl) KC_moved (RPC_of (g := τ.1) (c := τ.2)) (fun K _ _ _ htab => ok_f_a_X0_valley htab hf (fun _ h => by rw [h]))
theorem hd_f_x_X2_question : yX2_question.cls ≠ "java/lang/invoke/MethodHandle" ∧ yX2_question.cls ≠ "java/lang/invoke/VarHandle" ∧ (parseMethodDescriptor yX2_question.desc).map (fun d => d.parameters.length) = some 1 := by decide +kernel
theorem call_f_x_X2_question_X0_388_r {D : CD} {P : CP} {K : xK} {M : xM} {Q : State → Prop} {τ τ1 : CS} {x0 : Nat} {x1 : Int32} {pc : Nat} {loc : List (Nat × Value)} {st : List Value} {r : Nat} (hf : f_x_X2_question x0 x1 τ = some (.inl r, τ1)) (hr : gK τ.1 x0 = 3) (ho : M.2.2.1 = RX0) (hfr : 132 ≤ M.2.2.2.1) (hlo : 7883 ≤ M.2.2.2.2.1) (hcat : (st.map fun v => v.category).sum ≤ 8) (d : decode M.1 pc = .ok (.invokevirtual 388, 3)) (k : xV (wC D P) K M Q τ1 (pc + 3) loc (.ref r :: st)) : xV (wC D P) K M Q τ pc loc (.int x1 :: .ref x0 :: st) :=
  yc_callVX (g := τ.1) (c := τ.2) (Z := (.inl (some (.ref r)), τ1)) (As := [.int x1]) (rest := st) (met_f_x_X2_question K.2.1 hf) (lw_V q1663 q1664 q1665 q179 q1666) ⟨rfl, hd_f_x_X2_question⟩ ho hfr hlo rfl hr (by decide) (by decide) rfl rfl hcat d (yx_ret (v := some (.ref r)) k) yx_noT
theorem call_f_x_X2_question_X0_388_t {D : CD} {P : CP} {K : xK} {M : xM} {Q : State → Prop} {τ τ1 : CS} {x0 : Nat} {x1 : Int32} {pc : Nat} {loc : List (Nat × Value)} {st : List Value} {q : Nat} (hf : f_x_X2_question x0 x1 τ = some (.inr q, τ1)) (hr : gK τ.1 x0 = 3) (ho : M.2.2.1 = RX0) (hfr : 132 ≤ M.2.2.2.1) (hlo : 7883 ≤ M.2.2.2.2.1) (hcat : (st.map fun v => v.category).sum ≤ 8) (d : decode M.1 pc = .ok (.invokevirtual 388, 3)) (k : xT (wC D P) K M Q τ1 pc loc q) : xV (wC D P) K M Q τ pc loc (.int x1 :: .ref x0 :: st) :=
  yc_callVX (g := τ.1) (c := τ.2) (Z := (.inr q, τ1)) (As := [.int x1]) (rest := st) (met_f_x_X2_question K.2.1 hf) (lw_V q1663 q1664 q1665 q179 q1666) ⟨rfl, hd_f_x_X2_question⟩ ho hfr hlo rfl hr (by decide) (by decide) rfl rfl hcat d yx_noR (yx_thr k)
theorem hd_f_c_X19_meets : yX19_meets.cls ≠ "java/lang/invoke/MethodHandle" ∧ yX19_meets.cls ≠ "java/lang/invoke/VarHandle" ∧ (parseMethodDescriptor yX19_meets.desc).map (fun d => d.parameters.length) = some 2 := by decide +kernel
theorem call_f_c_X19_meets_X0_392 {D : CD} {P : CP} {K : xK} {M : xM} {Q : State → Prop} {g : CG} {c : CC} {x0 : Nat} {x1 : Int32} {x2 : Nat} {pc : Nat} {loc : List (Nat × Value)} {st : List Value} {c1 : CC} (hf : f_c_X19_meets g x0 x1 x2 c = some c1) (hr : gK g x0 = 17) (ho : M.2.2.1 = RX0) (hfr : 79 ≤ M.2.2.2.1) (hlo : 4704 ≤ M.2.2.2.2.1) (hcat : (st.map fun v => v.category).sum ≤ 8) (d : decode M.1 pc = .ok (.invokevirtual 392, 3)) (k : xV (wC D P) K M Q (g, c1) (pc + 3) loc st) : xV (wC D P) K M Q (g, c) pc loc (.ref x2 :: .int x1 :: .ref x0 :: st) :=
  yc_callV (As := [.int x1, .ref x2]) (rest := st) (met_f_c_X19_meets K.2.1 hf) (lw_V q1692 q1693 q1694 q211 q1695) ⟨rfl, hd_f_c_X19_meets⟩ ho hfr hlo rfl hr (by decide) (by decide) rfl rfl hcat d k
theorem hd_f_c_X19_answer : yX19_answer.cls ≠ "java/lang/invoke/MethodHandle" ∧ yX19_answer.cls ≠ "java/lang/invoke/VarHandle" ∧ (parseMethodDescriptor yX19_answer.desc).map (fun d => d.parameters.length) = some 0 := by decide +kernel
theorem call_f_c_X19_answer_X0_398 {D : CD} {P : CP} {K : xK} {M : xM} {Q : State → Prop} {g : CG} {c : CC} {x0 : Nat} {pc : Nat} {loc : List (Nat × Value)} {st : List Value} {r : Int64} {c1 : CC} (hf : f_c_X19_answer g x0 c = some (r, c1)) (hr : gK g x0 = 17) (ho : M.2.2.1 = RX0) (hfr : 1 ≤ M.2.2.2.1) (hlo : 20 ≤ M.2.2.2.2.1) (hcat : (st.map fun v => v.category).sum ≤ 8) (d : decode M.1 pc = .ok (.invokevirtual 398, 3)) (k : xV (wC D P) K M Q (g, c1) (pc + 3) loc (.long r :: st)) : xV (wC D P) K M Q (g, c) pc loc (.ref x0 :: st) :=
  yc_callV (As := []) (rest := st) (met_f_c_X19_answer K.2.1 hf) (lw_V q1700 q1701 q1702 q211 q1703) ⟨rfl, hd_f_c_X19_answer⟩ ho hfr hlo rfl hr (by decide) (by decide) rfl rfl hcat d k
abbrev mX0_ask : xM := (cX0_ask, 4, RX0, 132, 7920, (some .long), "ask")
def Jc_X0_ask_220 (x0 : Nat) (x2 : Nat) (x3 : Int32) (s0 : Int64) (s1 : Int32) (s2 : Nat) (τ : CS) : Option ((Int32 × CS) ⊕ ((CS))) :=
  if gT τ.1 s2 = 101 then
  if xin s1 (gN τ.1 s2) = true then
  if gT τ.1 x0 = 1 then
  (gR τ.1 107 x0).bind fun b29 =>
  if gT τ.1 b29 = 5 then
  (gR τ.1 500 b29).bind fun b31 =>
  (gR τ.1 109 x0).bind fun b32 =>
  if gT τ.1 b32 = 6 then
  xbd (f_c_X5_bendsOf τ.1 b32 x3 (uM τ.2 s2 s1.toNatClampNeg s0)) fun r34 τ34 =>
  if gT τ.1 b31 = 101 then
  if xin 17 (gN τ.1 b31) = true then
  if gT τ.1 x2 = 17 then
  (f_c_X19_meets τ.1 x2 x3 b29 (uM τ34 b31 (17 : Int32).toNatClampNeg r34.toInt64)).bind fun τ37 =>
  some (.inl (x3 + 1, (τ.1, τ37)))
  else none
  else none
  else none
  else none
  else none
  else none
  else none
  else none
theorem ok_Jc_X0_ask_220 {D : CD} {P : CP} {K : xK} (htab : K.2.2.2.2.2.2.2.2.2.exceptionTable.toList = tableOf [(26, 35, 38, 137)]) {Z : Option Value × CS} {x0 : Nat} {x2 : Nat} {x3 : Int32} {s0 : Int64} {s1 : Int32} {s2 : Nat} {τ : CS} {o_ : ((Int32 × CS) ⊕ ((CS)))} (hf : Jc_X0_ask_220 x0 x2 x3 s0 s1 s2 τ = some o_) (kc : ∀ s_ : Int32 × CS, o_ = .inl s_ → xV (wC D P) K mX0_ask (xQ (wC D P) K Z) s_.2 61 [(0, .ref x0), (2, .ref x2), (3, .int s_.1)] []) (ke0 : ∀ e_ : CS, o_ = .inr e_ → xV (wC D P) K mX0_ask (xQ (wC D P) K Z) e_ 255 [(2, .ref x2)] []) : xV (wC D P) K mX0_ask (xQ (wC D P) K Z) τ 220 [(0, .ref x0), (2, .ref x2), (3, .int x3)] [.long s0, .int s1, .ref s2] := by
  unfold Jc_X0_ask_220 at hf
  obtain ⟨ht27, hf⟩ := xo_if hf
  obtain ⟨hi_, hf⟩ := xo_if hf
  refine yc_last (pc := 220) ht27 hi_ dX0_ask_220 ?_
  refine xr_aload_n (pc := 221) 0 dX0_ask_221 rfl rfl ?_
  obtain ⟨ht28, hf⟩ := xo_if hf
  obtain ⟨b29, hb29, hf⟩ := xo_bind hf
  refine yc_getFs (pc := 222) 1 7 107 (gKo ht28 (by decide)) (by decide) (by decide) (by decide) rfl rfl hb29 q493 (ys_eq rfl) rfl dX0_ask_222 ?_
  obtain ⟨ht30, hf⟩ := xo_if hf
  obtain ⟨b31, hb31, hf⟩ := xo_bind hf
  refine yc_getFsN (pc := 225) 5 0 500 (gKo ht30 (by decide)) (by decide) (by decide) (by decide) rfl rfl hb31 q422 (ys_eq rfl) rfl dX0_ask_225 ?_
  refine xr_bipush (pc := 228) dX0_ask_228 xcb_17 ?_
  refine xr_aload_n (pc := 230) 0 dX0_ask_230 rfl rfl ?_
  obtain ⟨b32, hb32, hf⟩ := xo_bind hf
  refine yc_getFs (pc := 231) 1 9 109 (gKo ht28 (by decide)) (by decide) (by decide) (by decide) rfl rfl hb32 q495 (ys_eq rfl) rfl dX0_ask_231 ?_
  refine xr_iload_n (pc := 234) 2 dX0_ask_234 rfl rfl ?_
  obtain ⟨ht33, hf⟩ := xo_if hf
  obtain ⟨r34, τ34, hτ34, hf⟩ := xo_bd hf
  refine call_f_c_X5_bendsOf_X0_280 (pc := 235) hτ34 (gKo ht33 (by decide)) rfl (Nat.le_of_ble_eq_true rfl) (Nat.le_of_ble_eq_true rfl) (Nat.le_of_ble_eq_true rfl) dX0_ask_235 ?_
  refine xr_i2l (pc := 238) dX0_ask_238 ?_
  obtain ⟨ht35, hf⟩ := xo_if hf
  obtain ⟨hi_, hf⟩ := xo_if hf
  refine yc_last (pc := 239) ht35 hi_ dX0_ask_239 ?_
  refine xr_aload_n (pc := 240) 1 dX0_ask_240 rfl rfl ?_
  refine xr_iload_n (pc := 241) 2 dX0_ask_241 rfl rfl ?_
  refine xr_aload_n (pc := 242) 0 dX0_ask_242 rfl rfl ?_
  refine yc_getFs (pc := 243) 1 7 107 (gKo ht28 (by decide)) (by decide) (by decide) (by decide) rfl rfl hb29 q493 (ys_eq rfl) rfl dX0_ask_243 ?_
  obtain ⟨ht36, hf⟩ := xo_if hf
  obtain ⟨τ37, hτ37, hf⟩ := xo_bind hf
  refine call_f_c_X19_meets_X0_392 (pc := 246) hτ37 (gKo ht36 (by decide)) rfl (Nat.le_of_ble_eq_true rfl) (Nat.le_of_ble_eq_true rfl) (Nat.le_of_ble_eq_true rfl) dX0_ask_246 ?_
  refine xr_iinc (pc := 249) (loc' := [(3, .int (x3 + 1)), (0, .ref x0), (2, .ref x2)]) 2 dX0_ask_249 rfl xci_1 (by decide) rfl ?_
  refine xr_goto (pc := 252) 61 dX0_ask_252 (by decide) ?_
  refine xV_sub [1, 2, 0] rfl ?_
  exact kc _ (Option.some.inj hf).symm
def Bc_X0_ask_61 (x0 : Nat) (x2 : Nat) (x3 : Int32) (τ : CS) : Option ((Int32 × CS) ⊕ ((CS))) :=
  if gT τ.1 x0 = 1 then
  xbd (f_c_X0_lords τ.1 x0 τ.2) fun r8 τ8 =>
  if r8 ≤ x3 then
  some (.inr (τ.1, τ8))
  else
  (gR τ.1 107 x0).bind fun b9 =>
  if gT τ.1 b9 = 5 then
  (gR τ.1 500 b9).bind fun b11 =>
  (gR τ.1 109 x0).bind fun b12 =>
  if gT τ.1 b12 = 6 then
  if gT τ.1 b11 = 101 then
  if xin 3 (gN τ.1 b11) = true then
  if xin 10 (gN τ.1 b11) = true then
  xbd (f_c_X0_lordOf τ.1 x0 x3 (uM (uM τ8 b11 (3 : Int32).toNatClampNeg ((cI τ8 600 b12).toInt64)) b11 (10 : Int32).toNatClampNeg x3.toInt64)) fun r15 τ15 =>
  if gT τ.1 r15 = 7 then
  if xin 11 (gN τ.1 b11) = true then
  xbd (f_c_X0_lordOf τ.1 x0 x3 (uM τ15 b11 (11 : Int32).toNatClampNeg ((cI τ15 701 r15).toInt64))) fun r17 τ17 =>
  if gT τ.1 r17 = 7 then
  if xin 12 (gN τ.1 b11) = true then
  xbd (f_c_X0_lordOf τ.1 x0 x3 (uM τ17 b11 (12 : Int32).toNatClampNeg ((cI τ17 702 r17).toInt64))) fun r19 τ19 =>
  if gT τ.1 r19 = 7 then
  if xin 13 (gN τ.1 b11) = true then
  xbd (f_c_X0_lordOf τ.1 x0 x3 (uM τ19 b11 (13 : Int32).toNatClampNeg ((cI τ19 703 r19).toInt64))) fun r21 τ21 =>
  if gT τ.1 r21 = 7 then
  if xin 14 (gN τ.1 b11) = true then
  (gR τ.1 604 b12).bind fun b23 =>
  if gT τ.1 b23 = 100 then
  if xin x3 (gN τ.1 b23) = true then
  if xin 15 (gN τ.1 b11) = true then
  (gR τ.1 605 b12).bind fun b25 =>
  if gT τ.1 b25 = 104 then
  if xin x3 (gN τ.1 b25) = true then
  if (cA (uM (uM τ21 b11 (14 : Int32).toNatClampNeg ((cI τ21 704 r21).toInt64)) b11 (15 : Int32).toNatClampNeg ((cA (uM τ21 b11 (14 : Int32).toNatClampNeg ((cI τ21 704 r21).toInt64)) b23 x3.toNatClampNeg).toInt64)) b25 x3.toNatClampNeg) = 0 then
  Jc_X0_ask_220 x0 x2 x3 0 16 b11 (τ.1, uM (uM τ21 b11 (14 : Int32).toNatClampNeg ((cI τ21 704 r21).toInt64)) b11 (15 : Int32).toNatClampNeg ((cA (uM τ21 b11 (14 : Int32).toNatClampNeg ((cI τ21 704 r21).toInt64)) b23 x3.toNatClampNeg).toInt64))
  else
  Jc_X0_ask_220 x0 x2 x3 1 16 b11 (τ.1, uM (uM τ21 b11 (14 : Int32).toNatClampNeg ((cI τ21 704 r21).toInt64)) b11 (15 : Int32).toNatClampNeg ((cA (uM τ21 b11 (14 : Int32).toNatClampNeg ((cI τ21 704 r21).toInt64)) b23 x3.toNatClampNeg).toInt64))
  else none
  else none
  else none
  else none
  else none
  else none
  else none
  else none
  else none
  else none
  else none
  else none
  else none
  else none
  else none
  else none
  else none
  else none
  else none
theorem ok_Bc_X0_ask_61 {D : CD} {P : CP} {K : xK} (htab : K.2.2.2.2.2.2.2.2.2.exceptionTable.toList = tableOf [(26, 35, 38, 137)]) {Z : Option Value × CS} {x0 : Nat} {x2 : Nat} {x3 : Int32} {τ : CS} {o_ : ((Int32 × CS) ⊕ ((CS)))} (hf : Bc_X0_ask_61 x0 x2 x3 τ = some o_) (kc : ∀ s_ : Int32 × CS, o_ = .inl s_ → xV (wC D P) K mX0_ask (xQ (wC D P) K Z) s_.2 61 [(0, .ref x0), (2, .ref x2), (3, .int s_.1)] []) (ke0 : ∀ e_ : CS, o_ = .inr e_ → xV (wC D P) K mX0_ask (xQ (wC D P) K Z) e_ 255 [(2, .ref x2)] []) : xV (wC D P) K mX0_ask (xQ (wC D P) K Z) τ 61 [(0, .ref x0), (2, .ref x2), (3, .int x3)] [] := by
  unfold Bc_X0_ask_61 at hf
  refine xr_iload_n (pc := 61) 2 dX0_ask_61 rfl rfl ?_
  refine xr_aload_n (pc := 62) 0 dX0_ask_62 rfl rfl ?_
  obtain ⟨ht7, hf⟩ := xo_if hf
  obtain ⟨r8, τ8, hτ8, hf⟩ := xo_bd hf
  refine call_f_c_X0_lords_X0_180 (pc := 63) hτ8 (gKo ht7 (by decide)) rfl (Nat.le_of_ble_eq_true rfl) (Nat.le_of_ble_eq_true rfl) (Nat.le_of_ble_eq_true rfl) dX0_ask_63 ?_
  refine xr_icmp_ge (pc := 66) 255 dX0_ask_66 (by decide) (fun c_ => ?_) (fun c_ => ?_)
  · have hf := xo_pos c_ hf
    refine xV_sub [1] rfl ?_
    exact ke0 _ (Option.some.inj hf).symm
  · have hf := xo_neg c_ hf
    refine xr_aload_n (pc := 69) 0 dX0_ask_69 rfl rfl ?_
    obtain ⟨b9, hb9, hf⟩ := xo_bind hf
    refine yc_getFs (pc := 70) 1 7 107 (gKo ht7 (by decide)) (by decide) (by decide) (by decide) rfl rfl hb9 q493 (ys_eq rfl) rfl dX0_ask_70 ?_
    obtain ⟨ht10, hf⟩ := xo_if hf
    obtain ⟨b11, hb11, hf⟩ := xo_bind hf
    refine yc_getFsN (pc := 73) 5 0 500 (gKo ht10 (by decide)) (by decide) (by decide) (by decide) rfl rfl hb11 q422 (ys_eq rfl) rfl dX0_ask_73 ?_
    refine xr_iconst (pc := 76) dX0_ask_76 xci_3 ?_
    refine xr_aload_n (pc := 77) 0 dX0_ask_77 rfl rfl ?_
    obtain ⟨b12, hb12, hf⟩ := xo_bind hf
    refine yc_getFs (pc := 78) 1 9 109 (gKo ht7 (by decide)) (by decide) (by decide) (by decide) rfl rfl hb12 q495 (ys_eq rfl) rfl dX0_ask_78 ?_
    obtain ⟨ht13, hf⟩ := xo_if hf
    refine yc_getIN (pc := 81) 6 0 600 (gKo ht13 (by decide)) (by decide) (by decide) (by decide) rfl rfl q435 (ys_eq rfl) rfl dX0_ask_81 ?_
    refine xr_i2l (pc := 84) dX0_ask_84 ?_
    obtain ⟨ht14, hf⟩ := xo_if hf
    obtain ⟨hi_, hf⟩ := xo_if hf
    refine yc_last (pc := 85) ht14 hi_ dX0_ask_85 ?_
    refine xr_aload_n (pc := 86) 0 dX0_ask_86 rfl rfl ?_
    refine yc_getFs (pc := 87) 1 7 107 (gKo ht7 (by decide)) (by decide) (by decide) (by decide) rfl rfl hb9 q493 (ys_eq rfl) rfl dX0_ask_87 ?_
    refine yc_getFsN (pc := 90) 5 0 500 (gKo ht10 (by decide)) (by decide) (by decide) (by decide) rfl rfl hb11 q422 (ys_eq rfl) rfl dX0_ask_90 ?_
    refine xr_bipush (pc := 93) dX0_ask_93 xcb_10 ?_
    refine xr_iload_n (pc := 95) 2 dX0_ask_95 rfl rfl ?_
    refine xr_i2l (pc := 96) dX0_ask_96 ?_
    obtain ⟨hi_, hf⟩ := xo_if hf
    refine yc_last (pc := 97) ht14 hi_ dX0_ask_97 ?_
    refine xr_aload_n (pc := 98) 0 dX0_ask_98 rfl rfl ?_
    refine yc_getFs (pc := 99) 1 7 107 (gKo ht7 (by decide)) (by decide) (by decide) (by decide) rfl rfl hb9 q493 (ys_eq rfl) rfl dX0_ask_99 ?_
    refine yc_getFsN (pc := 102) 5 0 500 (gKo ht10 (by decide)) (by decide) (by decide) (by decide) rfl rfl hb11 q422 (ys_eq rfl) rfl dX0_ask_102 ?_
    refine xr_bipush (pc := 105) dX0_ask_105 xcb_11 ?_
    refine xr_aload_n (pc := 107) 0 dX0_ask_107 rfl rfl ?_
    refine xr_iload_n (pc := 108) 2 dX0_ask_108 rfl rfl ?_
    obtain ⟨r15, τ15, hτ15, hf⟩ := xo_bd hf
    refine call_f_c_X0_lordOf_X0_231 (pc := 109) hτ15 (gKo ht7 (by decide)) rfl (Nat.le_of_ble_eq_true rfl) (Nat.le_of_ble_eq_true rfl) (Nat.le_of_ble_eq_true rfl) dX0_ask_109 ?_
    obtain ⟨ht16, hf⟩ := xo_if hf
    refine yc_getIN (pc := 112) 7 1 701 (gKo ht16 (by decide)) (by decide) (by decide) (by decide) rfl rfl q873 (ys_eq rfl) rfl dX0_ask_112 ?_
    refine xr_i2l (pc := 115) dX0_ask_115 ?_
    obtain ⟨hi_, hf⟩ := xo_if hf
    refine yc_last (pc := 116) ht14 hi_ dX0_ask_116 ?_
    refine xr_aload_n (pc := 117) 0 dX0_ask_117 rfl rfl ?_
    refine yc_getFs (pc := 118) 1 7 107 (gKo ht7 (by decide)) (by decide) (by decide) (by decide) rfl rfl hb9 q493 (ys_eq rfl) rfl dX0_ask_118 ?_
    refine yc_getFsN (pc := 121) 5 0 500 (gKo ht10 (by decide)) (by decide) (by decide) (by decide) rfl rfl hb11 q422 (ys_eq rfl) rfl dX0_ask_121 ?_
    refine xr_bipush (pc := 124) dX0_ask_124 xcb_12 ?_
    refine xr_aload_n (pc := 126) 0 dX0_ask_126 rfl rfl ?_
    refine xr_iload_n (pc := 127) 2 dX0_ask_127 rfl rfl ?_
    obtain ⟨r17, τ17, hτ17, hf⟩ := xo_bd hf
    refine call_f_c_X0_lordOf_X0_231 (pc := 128) hτ17 (gKo ht7 (by decide)) rfl (Nat.le_of_ble_eq_true rfl) (Nat.le_of_ble_eq_true rfl) (Nat.le_of_ble_eq_true rfl) dX0_ask_128 ?_
    obtain ⟨ht18, hf⟩ := xo_if hf
    refine yc_getIN (pc := 131) 7 2 702 (gKo ht18 (by decide)) (by decide) (by decide) (by decide) rfl rfl q876 (ys_eq rfl) rfl dX0_ask_131 ?_
    refine xr_i2l (pc := 134) dX0_ask_134 ?_
    obtain ⟨hi_, hf⟩ := xo_if hf
    refine yc_last (pc := 135) ht14 hi_ dX0_ask_135 ?_
    refine xr_aload_n (pc := 136) 0 dX0_ask_136 rfl rfl ?_
    refine yc_getFs (pc := 137) 1 7 107 (gKo ht7 (by decide)) (by decide) (by decide) (by decide) rfl rfl hb9 q493 (ys_eq rfl) rfl dX0_ask_137 ?_
    refine yc_getFsN (pc := 140) 5 0 500 (gKo ht10 (by decide)) (by decide) (by decide) (by decide) rfl rfl hb11 q422 (ys_eq rfl) rfl dX0_ask_140 ?_
    refine xr_bipush (pc := 143) dX0_ask_143 xcb_13 ?_
    refine xr_aload_n (pc := 145) 0 dX0_ask_145 rfl rfl ?_
    refine xr_iload_n (pc := 146) 2 dX0_ask_146 rfl rfl ?_
    obtain ⟨r19, τ19, hτ19, hf⟩ := xo_bd hf
    refine call_f_c_X0_lordOf_X0_231 (pc := 147) hτ19 (gKo ht7 (by decide)) rfl (Nat.le_of_ble_eq_true rfl) (Nat.le_of_ble_eq_true rfl) (Nat.le_of_ble_eq_true rfl) dX0_ask_147 ?_
    obtain ⟨ht20, hf⟩ := xo_if hf
    refine yc_getIN (pc := 150) 7 3 703 (gKo ht20 (by decide)) (by decide) (by decide) (by decide) rfl rfl q879 (ys_eq rfl) rfl dX0_ask_150 ?_
    refine xr_i2l (pc := 153) dX0_ask_153 ?_
    obtain ⟨hi_, hf⟩ := xo_if hf
    refine yc_last (pc := 154) ht14 hi_ dX0_ask_154 ?_
    refine xr_aload_n (pc := 155) 0 dX0_ask_155 rfl rfl ?_
    refine yc_getFs (pc := 156) 1 7 107 (gKo ht7 (by decide)) (by decide) (by decide) (by decide) rfl rfl hb9 q493 (ys_eq rfl) rfl dX0_ask_156 ?_
    refine yc_getFsN (pc := 159) 5 0 500 (gKo ht10 (by decide)) (by decide) (by decide) (by decide) rfl rfl hb11 q422 (ys_eq rfl) rfl dX0_ask_159 ?_
    refine xr_bipush (pc := 162) dX0_ask_162 xcb_14 ?_
    refine xr_aload_n (pc := 164) 0 dX0_ask_164 rfl rfl ?_
    refine xr_iload_n (pc := 165) 2 dX0_ask_165 rfl rfl ?_
    obtain ⟨r21, τ21, hτ21, hf⟩ := xo_bd hf
    refine call_f_c_X0_lordOf_X0_231 (pc := 166) hτ21 (gKo ht7 (by decide)) rfl (Nat.le_of_ble_eq_true rfl) (Nat.le_of_ble_eq_true rfl) (Nat.le_of_ble_eq_true rfl) dX0_ask_166 ?_
    obtain ⟨ht22, hf⟩ := xo_if hf
    refine yc_getIN (pc := 169) 7 4 704 (gKo ht22 (by decide)) (by decide) (by decide) (by decide) rfl rfl q882 (ys_eq rfl) rfl dX0_ask_169 ?_
    refine xr_i2l (pc := 172) dX0_ask_172 ?_
    obtain ⟨hi_, hf⟩ := xo_if hf
    refine yc_last (pc := 173) ht14 hi_ dX0_ask_173 ?_
    refine xr_aload_n (pc := 174) 0 dX0_ask_174 rfl rfl ?_
    refine yc_getFs (pc := 175) 1 7 107 (gKo ht7 (by decide)) (by decide) (by decide) (by decide) rfl rfl hb9 q493 (ys_eq rfl) rfl dX0_ask_175 ?_
    refine yc_getFsN (pc := 178) 5 0 500 (gKo ht10 (by decide)) (by decide) (by decide) (by decide) rfl rfl hb11 q422 (ys_eq rfl) rfl dX0_ask_178 ?_
    refine xr_bipush (pc := 181) dX0_ask_181 xcb_15 ?_
    refine xr_aload_n (pc := 183) 0 dX0_ask_183 rfl rfl ?_
    refine yc_getFs (pc := 184) 1 9 109 (gKo ht7 (by decide)) (by decide) (by decide) (by decide) rfl rfl hb12 q495 (ys_eq rfl) rfl dX0_ask_184 ?_
    obtain ⟨b23, hb23, hf⟩ := xo_bind hf
    refine yc_getFsN (pc := 187) 6 4 604 (gKo ht13 (by decide)) (by decide) (by decide) (by decide) rfl rfl hb23 q443 (ys_eq rfl) rfl dX0_ask_187 ?_
    refine xr_iload_n (pc := 190) 2 dX0_ask_190 rfl rfl ?_
    obtain ⟨ht24, hf⟩ := xo_if hf
    obtain ⟨hi_, hf⟩ := xo_if hf
    refine yc_iald (pc := 191) (gKo ht24 (by decide)) hi_ dX0_ask_191 ?_
    refine xr_i2l (pc := 192) dX0_ask_192 ?_
    obtain ⟨hi_, hf⟩ := xo_if hf
    refine yc_last (pc := 193) ht14 hi_ dX0_ask_193 ?_
    refine xr_aload_n (pc := 194) 0 dX0_ask_194 rfl rfl ?_
    refine yc_getFs (pc := 195) 1 7 107 (gKo ht7 (by decide)) (by decide) (by decide) (by decide) rfl rfl hb9 q493 (ys_eq rfl) rfl dX0_ask_195 ?_
    refine yc_getFsN (pc := 198) 5 0 500 (gKo ht10 (by decide)) (by decide) (by decide) (by decide) rfl rfl hb11 q422 (ys_eq rfl) rfl dX0_ask_198 ?_
    refine xr_bipush (pc := 201) dX0_ask_201 xcb_16 ?_
    refine xr_aload_n (pc := 203) 0 dX0_ask_203 rfl rfl ?_
    refine yc_getFs (pc := 204) 1 9 109 (gKo ht7 (by decide)) (by decide) (by decide) (by decide) rfl rfl hb12 q495 (ys_eq rfl) rfl dX0_ask_204 ?_
    obtain ⟨b25, hb25, hf⟩ := xo_bind hf
    refine yc_getFsN (pc := 207) 6 5 605 (gKo ht13 (by decide)) (by decide) (by decide) (by decide) rfl rfl hb25 q445 (ys_eq rfl) rfl dX0_ask_207 ?_
    refine xr_iload_n (pc := 210) 2 dX0_ask_210 rfl rfl ?_
    obtain ⟨ht26, hf⟩ := xo_if hf
    obtain ⟨hi_, hf⟩ := xo_if hf
    refine yc_zald (pc := 211) (gKo ht26 (by decide)) hi_ dX0_ask_211 ?_
    refine xr_if_eq (pc := 212) 219 dX0_ask_212 (by decide) (fun c_ => ?_) (fun c_ => ?_)
    · have hf := xo_pos c_ hf
      refine xr_lconst (pc := 219) dX0_ask_219 (by decide : _ = (0 : Int64)) ?_
      exact ok_Jc_X0_ask_220 htab hf kc ke0
    · have hf := xo_neg c_ hf
      refine xr_lconst (pc := 215) dX0_ask_215 (by decide : _ = (1 : Int64)) ?_
      refine xr_goto (pc := 216) 220 dX0_ask_216 (by decide) ?_
      exact ok_Jc_X0_ask_220 htab hf kc ke0
def f_a_X0_ask (x0 : Nat) (τ : CS) : Option (Int64 × CS) :=
  if gT τ.1 x0 = 1 then
  xbd (f_c_X0_taken τ.1 x0 τ.2) fun r2 τ2 =>
  xbd (f_c_X0_isValley τ.1 x0 τ2) fun r3 τ3 =>
  if r3 = 0 then
  some (((-1000000000000000), (τ.1, τ3)))
  else
  (gR τ.1 105 x0).bind fun b4 =>
  if gT τ.1 b4 = 3 then
  xbx (f_x_X2_question b4 r2 (τ.1, uI (uI τ3 103 x0 0) 104 x0 (-1))) (fun r6 τ6 =>
  (itr (fun s_ : Int32 × CS => Bc_X0_ask_61 x0 r6 s_.1 s_.2) 4096 (0, τ6)).bind fun b38 =>
  if gT b38.1 r6 = 17 then
  xbd (f_c_X19_answer b38.1 r6 b38.2) fun r40 τ40 =>
  some ((r40, (b38.1, τ40)))
  else none) (fun q41 τ41 =>
  if gT τ41.1 q41 = 4 then
  if gT τ41.1 x0 = 1 then
  some (((-1000000000000000), (τ41.1, uI (uI τ41.2 103 x0 (cI τ41.2 406 q41)) 104 x0 (cI (uI τ41.2 103 x0 (cI τ41.2 406 q41)) 407 q41))))
  else none
  else none)
  else none
  else none
theorem ok_f_a_X0_ask {D : CD} {P : CP} {K : xK} (htab : K.2.2.2.2.2.2.2.2.2.exceptionTable.toList = tableOf [(26, 35, 38, 137)]) {Z : Option Value × CS} {x0 : Nat} {τ : CS} {o_ : (Int64 × CS)} (hf : f_a_X0_ask x0 τ = some o_) (kr : ∀ r_ : (Int64 × CS), o_ = r_ → Z = (some (.long r_.1), r_.2)) : xV (wC D P) K mX0_ask (xQ (wC D P) K Z) τ 0 [(0, .ref x0)] [] := by
  unfold f_a_X0_ask at hf
  refine xr_aload_n (pc := 0) 0 dX0_ask_0 rfl rfl ?_
  obtain ⟨ht1, hf⟩ := xo_if hf
  obtain ⟨r2, τ2, hτ2, hf⟩ := xo_bd hf
  refine call_f_c_X0_taken_X0_129 (pc := 1) hτ2 (gKo ht1 (by decide)) rfl (Nat.le_of_ble_eq_true rfl) (Nat.le_of_ble_eq_true rfl) (Nat.le_of_ble_eq_true rfl) dX0_ask_1 ?_
  refine xr_istore_n (pc := 4) (loc' := [(1, .int r2), (0, .ref x0)]) dX0_ask_4 rfl (by decide) rfl ?_
  refine xr_aload_n (pc := 5) 1 dX0_ask_5 rfl rfl ?_
  obtain ⟨r3, τ3, hτ3, hf⟩ := xo_bd hf
  refine call_f_c_X0_isValley_X0_285 (pc := 6) hτ3 (gKo ht1 (by decide)) rfl (Nat.le_of_ble_eq_true rfl) (Nat.le_of_ble_eq_true rfl) (Nat.le_of_ble_eq_true rfl) dX0_ask_6 ?_
  refine xr_if_ne (pc := 9) 16 dX0_ask_9 (by decide) (fun c_ => ?_) (fun c_ => ?_)
  · have hf := xo_pos c_ hf
    refine xr_ldc2 (pc := 12) q1457 dX0_ask_12 ?_
    rw [kr _ (Option.some.inj hf).symm]
    exact xr_lret (pc := 15) dX0_ask_15 rfl
  · have hf := xo_neg c_ hf
    refine xr_aload_n (pc := 16) 1 dX0_ask_16 rfl rfl ?_
    refine xr_iconst (pc := 17) dX0_ask_17 xci_0 ?_
    refine yc_putI (pc := 18) 1 3 103 ht1 (by decide) (by decide) (by decide) rfl rfl rfl (ty := .int) (by decide +kernel) rfl rfl q488 (ys_eq rfl) rfl dX0_ask_18 ?_
    refine xr_aload_n (pc := 21) 1 dX0_ask_21 rfl rfl ?_
    refine xr_iconst (pc := 22) dX0_ask_22 xci_m1 ?_
    refine yc_putI (pc := 23) 1 4 104 ht1 (by decide) (by decide) (by decide) rfl rfl rfl (ty := .int) (by decide +kernel) rfl rfl q489 (ys_eq rfl) rfl dX0_ask_23 ?_
    refine xr_aload_n (pc := 26) 1 dX0_ask_26 rfl rfl ?_
    obtain ⟨b4, hb4, hf⟩ := xo_bind hf
    refine yc_getFs (pc := 27) 1 5 105 (gKo ht1 (by decide)) (by decide) (by decide) (by decide) rfl rfl hb4 q490 (ys_eq rfl) rfl dX0_ask_27 ?_
    refine xr_iload_n (pc := 30) 0 dX0_ask_30 rfl rfl ?_
    obtain ⟨ht5, hf⟩ := xo_if hf
    rcases xo_bx hf with ⟨r6, τ6, hτ6, hf⟩ | ⟨q41, τ41, hτ41, hf⟩
    · refine call_f_x_X2_question_X0_388_r (pc := 31) hτ6 (gKo ht5 (by decide)) rfl (Nat.le_of_ble_eq_true rfl) (Nat.le_of_ble_eq_true rfl) (Nat.le_of_ble_eq_true rfl) dX0_ask_31 ?_
      refine xr_astore_n (pc := 34) (loc' := [(2, .ref r6), (1, .int r2), (0, .ref x0)]) dX0_ask_34 rfl (by decide) rfl ?_
      refine xr_goto (pc := 35) 59 dX0_ask_35 (by decide) ?_
      refine xr_iconst (pc := 59) dX0_ask_59 xci_0 ?_
      refine xr_istore_n (pc := 60) (loc' := [(3, .int 0), (2, .ref r6), (1, .int r2), (0, .ref x0)]) dX0_ask_60 rfl (by decide) rfl ?_
      refine xV_sub [3, 1, 0] rfl ?_
      obtain ⟨b38, hb38, hf⟩ := xo_bind hf
      refine itr_rule (P := fun s_ : Int32 × CS => xV (wC D P) K mX0_ask (xQ (wC D P) K Z) s_.2 61 [(0, .ref x0), (2, .ref r6), (3, .int s_.1)] []) (fun s_ o_ hB_ hc_ he_ => ok_Bc_X0_ask_61 htab hB_ hc_ (fun e_ h_ => ?_)) 4096 _ hb38
      · have e9_ := he_ _ h_
        rw [e9_]
        refine xr_aload_n (pc := 255) 0 dX0_ask_255 rfl rfl ?_
        obtain ⟨ht39, hf⟩ := xo_if hf
        obtain ⟨r40, τ40, hτ40, hf⟩ := xo_bd hf
        refine call_f_c_X19_answer_X0_398 (pc := 256) hτ40 (gKo ht39 (by decide)) rfl (Nat.le_of_ble_eq_true rfl) (Nat.le_of_ble_eq_true rfl) (Nat.le_of_ble_eq_true rfl) dX0_ask_256 ?_
        rw [kr _ (Option.some.inj hf).symm]
        exact xr_lret (pc := 259) dX0_ask_259 rfl
    · refine call_f_x_X2_question_X0_388_t (pc := 31) hτ41 (gKo ht5 (by decide)) rfl (Nat.le_of_ble_eq_true rfl) (Nat.le_of_ble_eq_true rfl) (Nat.le_of_ble_eq_true rfl) dX0_ask_31 ?_
      refine yc_catch [] ⟨26, 35, 38, 137⟩ [] (by rw [htab]; rfl) (fun z hz => by cases hz) (by decide) (by decide) q582 q317 ?_
      refine xr_astore_n (pc := 38) (loc' := [(3, .ref q41), (1, .int r2), (0, .ref x0)]) dX0_ask_38 rfl (by decide) rfl ?_
      refine xr_aload_n (pc := 39) 2 dX0_ask_39 rfl rfl ?_
      refine xr_aload_n (pc := 40) 0 dX0_ask_40 rfl rfl ?_
      obtain ⟨ht42, hf⟩ := xo_if hf
      refine yc_getIN (pc := 41) 4 6 406 (gKo ht42 (by decide)) (by decide) (by decide) (by decide) rfl rfl q367 (ys_eq rfl) rfl dX0_ask_41 ?_
      obtain ⟨ht43, hf⟩ := xo_if hf
      refine yc_putI (pc := 44) 1 3 103 ht43 (by decide) (by decide) (by decide) rfl rfl rfl (ty := .int) (by decide +kernel) rfl rfl q488 (ys_eq rfl) rfl dX0_ask_44 ?_
      refine xr_aload_n (pc := 47) 2 dX0_ask_47 rfl rfl ?_
      refine xr_aload_n (pc := 48) 0 dX0_ask_48 rfl rfl ?_
      refine yc_getIN (pc := 49) 4 7 407 (gKo ht42 (by decide)) (by decide) (by decide) (by decide) rfl rfl q369 (ys_eq rfl) rfl dX0_ask_49 ?_
      refine yc_putI (pc := 52) 1 4 104 ht43 (by decide) (by decide) (by decide) rfl rfl rfl (ty := .int) (by decide +kernel) rfl rfl q489 (ys_eq rfl) rfl dX0_ask_52 ?_
      refine xr_ldc2 (pc := 55) q1457 dX0_ask_55 ?_
      rw [kr _ (Option.some.inj hf).symm]
      exact xr_lret (pc := 58) dX0_ask_58 rfl
theorem met_f_a_X0_ask (l : Launch) {D : CD} {P : CP} {x0 : Nat} {τ : CS} {o_ : (Int64 × CS)} (hf : f_a_X0_ask x0 τ = some o_) : xMet (wC D P) l yX0_ask (ws_H yX0_ask cX0_ask 4 (some .long) [(26, 35, 38, 137)]) 132 7920 (grc τ.1) (grs τ.1) [.ref x0] τ (some (.long o_.1), o_.2) := 
  xMet_ofH (by decide) (Nat.le_of_ble_eq_true rfl) KC_moved (RPC_of (g := τ.1) (c := τ.2)) (fun K _ _ _ htab => ok_f_a_X0_ask htab hf (fun _ h => by rw [h]))
