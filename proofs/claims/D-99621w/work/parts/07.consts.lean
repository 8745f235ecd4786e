set_option maxRecDepth 100000
theorem xz_0 : (0 : Int32) &&& 1 = 0 := by decide +kernel
theorem xz_1 : (1 : Int32) &&& 1 = 1 := by decide +kernel
theorem xo_pos {c : Prop} [Decidable c] {α : Type} {a b : Option α} {r : α} (hc : c) (h : (if c then a else b) = some r) : a = some r := by rw [if_pos hc] at h; exact h
theorem xo_neg {c : Prop} [Decidable c] {α : Type} {a b : Option α} {r : α} (hc : ¬ c) (h : (if c then a else b) = some r) : b = some r := by rw [if_neg hc] at h; exact h
theorem xo_inl {α β γ : Type} {f : α → Option γ} {g : β → Option γ} {a : α} {r : γ} (h : Sum.elim f g (.inl a) = some r) : f a = some r := h
theorem xo_inr {α β γ : Type} {f : α → Option γ} {g : β → Option γ} {b : β} {r : γ} (h : Sum.elim f g (.inr b) = some r) : g b = some r := h
def xbd {R S T : Type} (o : Option (R × S)) (f : R → S → Option T) : Option T := o.bind fun p => f p.1 p.2
theorem xo_bd {R S T : Type} {o : Option (R × S)} {f : R → S → Option T} {t : T} (h : xbd o f = some t) : ∃ r s, o = some (r, s) ∧ f r s = some t := by
  obtain ⟨p, h1, h2⟩ := xo_bind h
  exact ⟨p.1, p.2, h1, h2⟩
theorem xcb_6 : (Int8.ofInt 6).toInt32 = 6 := by decide +kernel
theorem xcb_7 : (Int8.ofInt 7).toInt32 = 7 := by decide +kernel
theorem xcb_8 : (Int8.ofInt 8).toInt32 = 8 := by decide +kernel
theorem xcb_9 : (Int8.ofInt 9).toInt32 = 9 := by decide +kernel
theorem xcb_10 : (Int8.ofInt 10).toInt32 = 10 := by decide +kernel
theorem xcb_11 : (Int8.ofInt 11).toInt32 = 11 := by decide +kernel
theorem xcb_12 : (Int8.ofInt 12).toInt32 = 12 := by decide +kernel
theorem xcb_13 : (Int8.ofInt 13).toInt32 = 13 := by decide +kernel
theorem xcb_14 : (Int8.ofInt 14).toInt32 = 14 := by decide +kernel
theorem xcb_15 : (Int8.ofInt 15).toInt32 = 15 := by decide +kernel
theorem xcb_16 : (Int8.ofInt 16).toInt32 = 16 := by decide +kernel
theorem xcb_17 : (Int8.ofInt 17).toInt32 = 17 := by decide +kernel
theorem xcb_18 : (Int8.ofInt 18).toInt32 = 18 := by decide +kernel
theorem xcb_19 : (Int8.ofInt 19).toInt32 = 19 := by decide +kernel
theorem xcb_20 : (Int8.ofInt 20).toInt32 = 20 := by decide +kernel
theorem xcb_21 : (Int8.ofInt 21).toInt32 = 21 := by decide +kernel
theorem xcb_22 : (Int8.ofInt 22).toInt32 = 22 := by decide +kernel
theorem xcb_23 : (Int8.ofInt 23).toInt32 = 23 := by decide +kernel
theorem xcb_24 : (Int8.ofInt 24).toInt32 = 24 := by decide +kernel
theorem xcb_25 : (Int8.ofInt 25).toInt32 = 25 := by decide +kernel
theorem xcb_26 : (Int8.ofInt 26).toInt32 = 26 := by decide +kernel
theorem xcb_27 : (Int8.ofInt 27).toInt32 = 27 := by decide +kernel
theorem xcb_28 : (Int8.ofInt 28).toInt32 = 28 := by decide +kernel
theorem xcb_30 : (Int8.ofInt 30).toInt32 = 30 := by decide +kernel
theorem xcb_31 : (Int8.ofInt 31).toInt32 = 31 := by decide +kernel
theorem xcb_32 : (Int8.ofInt 32).toInt32 = 32 := by decide +kernel
theorem xcb_40 : (Int8.ofInt 40).toInt32 = 40 := by decide +kernel
theorem xcb_41 : (Int8.ofInt 41).toInt32 = 41 := by decide +kernel
theorem xcb_42 : (Int8.ofInt 42).toInt32 = 42 := by decide +kernel
theorem xcb_43 : (Int8.ofInt 43).toInt32 = 43 := by decide +kernel
theorem xcb_44 : (Int8.ofInt 44).toInt32 = 44 := by decide +kernel
theorem xcb_45 : (Int8.ofInt 45).toInt32 = 45 := by decide +kernel
theorem xcb_47 : (Int8.ofInt 47).toInt32 = 47 := by decide +kernel
theorem xcb_48 : (Int8.ofInt 48).toInt32 = 48 := by decide +kernel
theorem xcb_57 : (Int8.ofInt 57).toInt32 = 57 := by decide +kernel
theorem xcb_59 : (Int8.ofInt 59).toInt32 = 59 := by decide +kernel
theorem xcb_60 : (Int8.ofInt 60).toInt32 = 60 := by decide +kernel
theorem xcb_61 : (Int8.ofInt 61).toInt32 = 61 := by decide +kernel
theorem xcb_62 : (Int8.ofInt 62).toInt32 = 62 := by decide +kernel
theorem xcb_64 : (Int8.ofInt 64).toInt32 = 64 := by decide +kernel
theorem xcb_80 : (Int8.ofInt 80).toInt32 = 80 := by decide +kernel
theorem xcb_91 : (Int8.ofInt 91).toInt32 = 91 := by decide +kernel
theorem xcb_92 : (Int8.ofInt 92).toInt32 = 92 := by decide +kernel
theorem xcb_93 : (Int8.ofInt 93).toInt32 = 93 := by decide +kernel
theorem xcb_97 : (Int8.ofInt 97).toInt32 = 97 := by decide +kernel
theorem xcb_99 : (Int8.ofInt 99).toInt32 = 99 := by decide +kernel
theorem xcb_100 : (Int8.ofInt 100).toInt32 = 100 := by decide +kernel
theorem xcb_122 : (Int8.ofInt 122).toInt32 = 122 := by decide +kernel
theorem xci_m1 : Int32.ofInt (-1) = (-1) := by decide +kernel
theorem xci_0 : Int32.ofInt 0 = 0 := by decide +kernel
theorem xci_1 : Int32.ofInt 1 = 1 := by decide +kernel
theorem xci_2 : Int32.ofInt 2 = 2 := by decide +kernel
theorem xci_3 : Int32.ofInt 3 = 3 := by decide +kernel
theorem xci_4 : Int32.ofInt 4 = 4 := by decide +kernel
theorem xci_5 : Int32.ofInt 5 = 5 := by decide +kernel
theorem xcs_172 : (Int16.ofInt 172).toInt32 = 172 := by decide +kernel
theorem xcs_179 : (Int16.ofInt 179).toInt32 = 179 := by decide +kernel
theorem xcs_182 : (Int16.ofInt 182).toInt32 = 182 := by decide +kernel
theorem xcs_183 : (Int16.ofInt 183).toInt32 = 183 := by decide +kernel
theorem xcs_251 : (Int16.ofInt 251).toInt32 = 251 := by decide +kernel
theorem xcs_255 : (Int16.ofInt 255).toInt32 = 255 := by decide +kernel
theorem xcs_256 : (Int16.ofInt 256).toInt32 = 256 := by decide +kernel
theorem xcs_300 : (Int16.ofInt 300).toInt32 = 300 := by decide +kernel
theorem xcs_303 : (Int16.ofInt 303).toInt32 = 303 := by decide +kernel
theorem xcs_999 : (Int16.ofInt 999).toInt32 = 999 := by decide +kernel
theorem xcs_1000 : (Int16.ofInt 1000).toInt32 = 1000 := by decide +kernel
theorem xcs_1600 : (Int16.ofInt 1600).toInt32 = 1600 := by decide +kernel
theorem xcs_9999 : (Int16.ofInt 9999).toInt32 = 9999 := by decide +kernel
