/-! PLAIN LAW: the component reads tests -/
set_option maxRecDepth 100000
section ZZN1
variable {kx X n h o : Nat} {B : Nat → Nat} {s : Nat → CS → Option ((Nat ⊕ Nat) × CS)}
theorem C_both (hs : SubT kx X n B h 9 o 40 400 0 s) : SubT kx X n B (h + 1) 7 o 20 200 1 (ftW s 119 1) :=
  ft_all (all := true) (iw := 19) (m := 9) (mr := 8) (mw := 7) (r1 := 20) (r2 := 200) (W := 0) (fl := 1) (by decide) (by omega) (by omega) (Or.inl rfl) hs (by decide)
    (fun p acc h1 h2 => Parse.step (Or.inr (Or.inr (Or.inr (Or.inr (Or.inr (Or.inr (Or.inr (Or.inr (Or.inl ⟨rfl, Or.inl ⟨h1, h2, rfl⟩⟩))))))))))
    (fun p acc r h1 h2 hr => Parse.step (Or.inr (Or.inr (Or.inr (Or.inr (Or.inr (Or.inr (Or.inr (Or.inr (Or.inl ⟨rfl, Or.inr (Or.inl ⟨h1, h2, hr⟩)⟩))))))))))
    (fun p acc h1 => Parse.step (Or.inr (Or.inr (Or.inr (Or.inr (Or.inr (Or.inr (Or.inr (Or.inr (Or.inl ⟨rfl, Or.inr (Or.inr ⟨h1, rfl⟩)⟩))))))))))
    (fun a r hr => Parse.step (Or.inr (Or.inr (Or.inr (Or.inr (Or.inr (Or.inr (Or.inr (Or.inl ⟨rfl, hr⟩)))))))))
theorem C_test (hs : SubT kx X n B h 7 o 20 200 1 s) : SubT kx X n B (h + 1) 5 o 0 0 2 (ftW s 120 0) :=
  ft_all (all := false) (iw := 20) (m := 7) (mr := 6) (mw := 5) (r1 := 0) (r2 := 0) (W := 1) (fl := 0) (by decide) (by omega) (by omega) (Or.inr rfl) hs (by decide)
    (fun p acc h1 h2 => Parse.step (Or.inr (Or.inr (Or.inr (Or.inr (Or.inr (Or.inr (Or.inl ⟨rfl, Or.inl ⟨h1, h2, rfl⟩⟩))))))))
    (fun p acc r h1 h2 hr => Parse.step (Or.inr (Or.inr (Or.inr (Or.inr (Or.inr (Or.inr (Or.inl ⟨rfl, Or.inr (Or.inl ⟨h1, h2, hr⟩)⟩))))))))
    (fun p acc h1 => Parse.step (Or.inr (Or.inr (Or.inr (Or.inr (Or.inr (Or.inr (Or.inl ⟨rfl, Or.inr (Or.inr ⟨h1, rfl⟩)⟩))))))))
    (fun a r hr => Parse.step (Or.inr (Or.inr (Or.inr (Or.inr (Or.inr (Or.inl ⟨rfl, hr⟩)))))))
theorem SubT.up {h2 m R1 R2 W : Nat} {f : Nat → CS → Option ((Nat ⊕ Nat) × CS)} (s : SubT kx X n B h m o R1 R2 W f) (hh : h ≤ h2) : SubT kx X n B h2 m o R1 R2 W f := fun τ a hp => by
  obtain ⟨r, e, p, w⟩ := s τ a hp
  refine ⟨r, e, p, ?_⟩
  rcases w with w | ⟨ev, cs, p', a', u1, u2, u3, u4, u5, u6⟩
  · exact Or.inl w
  · exact Or.inr ⟨ev, cs, p', a', u1, u2, u3, u4, u5.up hh (Nat.le_refl _) (Nat.le_refl _), u6⟩
/-- tests and facts, by depth -/
theorem C_tefa (hk2 : kx ≤ 2) : ∀ D o, 7 ≤ D + o → SubT kx X n B (29 + 3 * D) 5 o 0 0 2 (d_te D) ∧ SubT kx X n B (29 + 3 * D) 9 o 40 400 0 (d_fa D)
  | 0, o, h => ⟨fun τ a hp => absurd hp.1.le.2.2.2 (by omega), fun τ a hp => absurd hp.1.le.2.2.2 (by omega)⟩
  | D + 1, o, h => by
    obtain ⟨h1, h2⟩ := C_tefa hk2 D (o + 1) (by omega)
    have hf := C_fact hk2 (by omega) (C_sura hk2 8 o (by omega)).1 h1 h2
    have ht := C_test (C_both hf)
    exact ⟨ht.up (by omega), hf.up (by omega)⟩
end ZZN1
