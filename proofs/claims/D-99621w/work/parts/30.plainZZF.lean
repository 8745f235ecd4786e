/-! PLAIN LAW: how a text is read, as a relation: mode, open, place, codes so far, what comes -/
set_option maxRecDepth 100000
/-- a fault (kind, place), or codes and the place behind them -/
abbrev Res : Type := (Nat × Nat) ⊕ (List Nat × Nat)
abbrev PRel : Type := Nat → Nat → Nat → List Nat → Res → Prop
/-- which parts may be asked: 0 eats, 1 bend, 2 a question -/
def alw (kx k : Nat) : Bool := if kx = 0 then decide (k < 8) else if kx = 1 then decide (k < 4) || k == 8 || k == 9 else k == 3 || decide (9 < k)
/-- a part of the text is read: its fault is the fault; or go on with its codes, its end -/
def gon (R : PRel) (m o p : Nat) (r : Res) (K : List Nat → Nat → Prop) : Prop := (∃ f, R m o p [] (.inl f) ∧ r = .inl f) ∨ ∃ cs p1, R m o p [] (.inr (cs, p1)) ∧ K cs p1
theorem gon.mono {R R' : PRel} (h : ∀ m o p acc r, R m o p acc r → R' m o p acc r) {m o p : Nat} {r : Res} {K K' : List Nat → Nat → Prop} (hk : ∀ cs p1, K cs p1 → K' cs p1) (z : gon R m o p r K) : gon R' m o p r K' := by
  rcases z with ⟨f, a, b⟩ | ⟨cs, p1, a, b⟩
  · exact Or.inl ⟨f, h _ _ _ _ _ a, b⟩
  · exact Or.inr ⟨cs, p1, h _ _ _ _ _ a, hk _ _ b⟩
section PP
variable (B : Nat → Nat) (n kx : Nat)
/-- a sign must stand at a place; then K behind it -/
def mus (x p : Nat) (r : Res) (K : Nat → Prop) : Prop := (cur B n (sk B n p) = x ∧ K (sk B n p + 1)) ∨ (cur B n (sk B n p) ≠ x ∧ r = .inl (1, sk B n p))
/-- one more is opened -/
def opn (o pl : Nat) (r : Res) (K : Prop) : Prop := (o = 6 ∧ r = .inl (4, pl)) ∨ (o < 6 ∧ K)
/-- rest of a row of parts joined by signs -/
def rst (R : PRel) (m mr x y c1 c2 o p : Nat) (acc : List Nat) (r : Res) : Prop :=
  ((cur B n (sk B n p) = x ∨ cur B n (sk B n p) = y) ∧ gon R m o (sk B n p + 1) r (fun cs p1 => R mr o p1 (acc ++ cs ++ [if cur B n (sk B n p) = x then c1 else c2]) r)) ∨ (cur B n (sk B n p) ≠ x ∧ cur B n (sk B n p) ≠ y ∧ r = .inr (acc, sk B n p))
/-- rest of a row of tests joined by a word -/
def rsw (R : PRel) (m mr : Nat) (W : List Nat) (c o p : Nat) (acc : List Nat) (r : Res) : Prop :=
  (ltB (cur B n (sk B n p)) = true ∧ alB B (sk B n p) = true ∧ r = .inl (1, sk B n p)) ∨ (okW B n (sk B n p) = true ∧ wd B n (sk B n p) = W ∧ gon R m o (we B n (sk B n p)) r (fun cs p1 => R mr o p1 (acc ++ cs ++ [c]) r)) ∨ ((ltB (cur B n (sk B n p)) = false ∨ (okW B n (sk B n p) = true ∧ wd B n (sk B n p) ≠ W)) ∧ r = .inr (acc, sk B n p))
/-- a word begins an atom -/
def atW (R : PRel) (o q : Nat) (r : Res) : Prop :=
  (∃ k, k < 18 ∧ askL.getD k [] = wd B n q ∧ alw kx k = true ∧ r = .inr ([40 + k], we B n q)) ∨
  (kx = 2 ∧ ∃ j, j < 2 ∧ lookL.getD j [] = wd B n q ∧ opn o q r (gon R 4 (o + 1) (we B n q) r (fun cs p1 => r = .inr (cs ++ [60 + j], p1)))) ∨
  (∃ t, t < 2 ∧ wd B n q = txtL.getD (15 + t) [] ∧ ((cur B n (sk B n (we B n q)) ≠ 40 ∧ r = .inl (1, sk B n (we B n q))) ∨ (cur B n (sk B n (we B n q)) = 40 ∧ opn o (sk B n (we B n q)) r (gon R 0 (o + 1) (sk B n (we B n q) + 1) r (fun cs p1 => mus B n 44 p1 r (fun p2 => gon R 0 (o + 1) p2 r (fun cs2 p3 => mus B n 41 p3 r (fun p4 => r = .inr (cs ++ cs2 ++ [5 + t], p4))))))))) ∨
  ((∀ k, k < 18 → askL.getD k [] = wd B n q → alw kx k = false) ∧ (kx = 2 → ∀ j, j < 2 → lookL.getD j [] ≠ wd B n q) ∧ (∀ t, t < 2 → wd B n q ≠ txtL.getD (15 + t) []) ∧ r = .inl (1, q))
def numA (q : Nat) : Res := match numR B n q 0 9999 with
  | .inl f => .inl f
  | .inr (v, e) => .inr ([1000 + v], e)
def atS (R : PRel) (o q : Nat) (r : Res) : Prop :=
  (cur B n q = 40 ∧ opn o q r (gon R 0 (o + 1) (q + 1) r (fun cs p1 => mus B n 41 p1 r (fun p2 => r = .inr (cs, p2))))) ∨ (dgB (cur B n q) = true ∧ r = numA B n q) ∨ (cur B n q ≠ 40 ∧ dgB (cur B n q) = false ∧ okW B n q = false ∧ r = .inl (1, q)) ∨ (okW B n q = true ∧ atW B n kx R o q r)
def faS (R : PRel) (o q : Nat) (r : Res) : Prop :=
  (cur B n q = 91 ∧ opn o q r (gon R 5 (o + 1) (q + 1) r (fun cs p1 => mus B n 93 p1 r (fun p2 => r = .inr (cs, p2))))) ∨
  (ltB (cur B n q) = true ∧ alB B q = true ∧ r = .inl (1, q)) ∨
  (okW B n q = true ∧ wd B n q = txtL.getD 17 [] ∧ opn o q r (gon R 9 (o + 1) (we B n q) r (fun cs p1 => r = .inr (cs ++ [12], p1)))) ∨
  (okW B n q = true ∧ wd B n q = txtL.getD 18 [] ∧ r = .inr ([13], we B n q)) ∨
  (cur B n q ≠ 91 ∧ (ltB (cur B n q) = false ∨ (okW B n q = true ∧ wd B n q ≠ txtL.getD 17 [] ∧ wd B n q ≠ txtL.getD 18 [])) ∧ gon R 0 o q r (fun cs p1 =>
    (cur B n (sk B n p1) ≠ 60 ∧ cur B n (sk B n p1) ≠ 62 ∧ cur B n (sk B n p1) ≠ 61 ∧ r = .inl (1, sk B n p1)) ∨
    ((cur B n (sk B n p1) = 60 ∨ cur B n (sk B n p1) = 62 ∨ cur B n (sk B n p1) = 61) ∧ gon R 0 o (sk B n p1 + 1) r (fun cs2 p2 => r = .inr (cs ++ cs2 ++ [if cur B n (sk B n p1) = 60 then 7 else if cur B n (sk B n p1) = 62 then 8 else 9], p2)))))
/-- one step: 0 sum, 1 its rest, 2 product, 3 its rest, 4 atom, 5 test, 6 its rest, 7 both, 8 its rest, 9 fact -/
def PStp (R : PRel) (m o p : Nat) (acc : List Nat) (r : Res) : Prop :=
  (m = 0 ∧ gon R 2 o p r (fun cs p1 => R 1 o p1 cs r)) ∨ (m = 1 ∧ rst B n R 2 1 43 45 1 2 o p acc r) ∨ (m = 2 ∧ gon R 4 o p r (fun cs p1 => R 3 o p1 cs r)) ∨ (m = 3 ∧ rst B n R 4 3 42 47 3 4 o p acc r) ∨ (m = 4 ∧ atS B n kx R o (sk B n p) r) ∨
  (m = 5 ∧ gon R 7 o p r (fun cs p1 => R 6 o p1 cs r)) ∨ (m = 6 ∧ rsw B n R 7 6 (txtL.getD 20 []) 11 o p acc r) ∨ (m = 7 ∧ gon R 9 o p r (fun cs p1 => R 8 o p1 cs r)) ∨ (m = 8 ∧ rsw B n R 9 8 (txtL.getD 19 []) 10 o p acc r) ∨ (m = 9 ∧ faS B n R o (sk B n p) r)
/-- the least relation -/
def Parse (m o p : Nat) (acc : List Nat) (r : Res) : Prop := ∀ R : PRel, (∀ m o p acc r, PStp B n kx R m o p acc r → R m o p acc r) → R m o p acc r
end PP
section PM
variable {B : Nat → Nat} {n kx : Nat} {R R' : PRel}
theorem mus.mono {x p : Nat} {r : Res} {K K' : Nat → Prop} (hk : ∀ q, K q → K' q) (z : mus B n x p r K) : mus B n x p r K' := by
  rcases z with ⟨a, b⟩ | z
  · exact Or.inl ⟨a, hk _ b⟩
  · exact Or.inr z
theorem opn.mono {o pl : Nat} {r : Res} {K K' : Prop} (hk : K → K') (z : opn o pl r K) : opn o pl r K' := by
  rcases z with z | ⟨a, b⟩
  · exact Or.inl z
  · exact Or.inr ⟨a, hk b⟩
theorem PStp.mono (h : ∀ m o p acc r, R m o p acc r → R' m o p acc r) {m o p : Nat} {acc : List Nat} {r : Res} (z : PStp B n kx R m o p acc r) : PStp B n kx R' m o p acc r := by
  unfold PStp at z ⊢
  rcases z with ⟨e, z⟩ | ⟨e, z⟩ | ⟨e, z⟩ | ⟨e, z⟩ | ⟨e, z⟩ | ⟨e, z⟩ | ⟨e, z⟩ | ⟨e, z⟩ | ⟨e, z⟩ | ⟨e, z⟩
  · exact Or.inl ⟨e, z.mono h (fun cs p1 k => h _ _ _ _ _ k)⟩
  · refine Or.inr (Or.inl ⟨e, ?_⟩)
    rcases z with ⟨a, b⟩ | z
    · exact Or.inl ⟨a, b.mono h (fun cs p1 k => h _ _ _ _ _ k)⟩
    · exact Or.inr z
  · exact Or.inr (Or.inr (Or.inl ⟨e, z.mono h (fun cs p1 k => h _ _ _ _ _ k)⟩))
  · refine Or.inr (Or.inr (Or.inr (Or.inl ⟨e, ?_⟩)))
    rcases z with ⟨a, b⟩ | z
    · exact Or.inl ⟨a, b.mono h (fun cs p1 k => h _ _ _ _ _ k)⟩
    · exact Or.inr z
  · refine Or.inr (Or.inr (Or.inr (Or.inr (Or.inl ⟨e, ?_⟩))))
    rcases z with ⟨a, b⟩ | z | z | ⟨a, b⟩
    · exact Or.inl ⟨a, b.mono (fun k => k.mono h (fun _ _ k => k))⟩
    · exact Or.inr (Or.inl z)
    · exact Or.inr (Or.inr (Or.inl z))
    · refine Or.inr (Or.inr (Or.inr ⟨a, ?_⟩))
      rcases b with b | ⟨b1, j, b2, b3, b4⟩ | ⟨t, b1, b2, b3⟩ | b
      · exact Or.inl b
      · exact Or.inr (Or.inl ⟨b1, j, b2, b3, b4.mono (fun k => k.mono h (fun _ _ k => k))⟩)
      · refine Or.inr (Or.inr (Or.inl ⟨t, b1, b2, ?_⟩))
        rcases b3 with b3 | ⟨b3, b4⟩
        · exact Or.inl b3
        · exact Or.inr ⟨b3, b4.mono (fun k => k.mono h (fun cs p1 k => k.mono (fun p2 k => k.mono h (fun _ _ k => k))))⟩
      · exact Or.inr (Or.inr (Or.inr b))
  · exact Or.inr (Or.inr (Or.inr (Or.inr (Or.inr (Or.inl ⟨e, z.mono h (fun cs p1 k => h _ _ _ _ _ k)⟩)))))
  · refine Or.inr (Or.inr (Or.inr (Or.inr (Or.inr (Or.inr (Or.inl ⟨e, ?_⟩))))))
    rcases z with z | ⟨a, b, c⟩ | z
    · exact Or.inl z
    · exact Or.inr (Or.inl ⟨a, b, c.mono h (fun cs p1 k => h _ _ _ _ _ k)⟩)
    · exact Or.inr (Or.inr z)
  · exact Or.inr (Or.inr (Or.inr (Or.inr (Or.inr (Or.inr (Or.inr (Or.inl ⟨e, z.mono h (fun cs p1 k => h _ _ _ _ _ k)⟩)))))))
  · refine Or.inr (Or.inr (Or.inr (Or.inr (Or.inr (Or.inr (Or.inr (Or.inr (Or.inl ⟨e, ?_⟩))))))))
    rcases z with z | ⟨a, b, c⟩ | z
    · exact Or.inl z
    · exact Or.inr (Or.inl ⟨a, b, c.mono h (fun cs p1 k => h _ _ _ _ _ k)⟩)
    · exact Or.inr (Or.inr z)
  · refine Or.inr (Or.inr (Or.inr (Or.inr (Or.inr (Or.inr (Or.inr (Or.inr (Or.inr ⟨e, ?_⟩))))))))
    rcases z with ⟨a, b⟩ | z | ⟨a, b, c⟩ | z | ⟨a, b, c⟩
    · exact Or.inl ⟨a, b.mono (fun k => k.mono h (fun _ _ k => k))⟩
    · exact Or.inr (Or.inl z)
    · exact Or.inr (Or.inr (Or.inl ⟨a, b, c.mono (fun k => k.mono h (fun _ _ k => k))⟩))
    · exact Or.inr (Or.inr (Or.inr (Or.inl z)))
    · refine Or.inr (Or.inr (Or.inr (Or.inr ⟨a, b, c.mono h (fun cs p1 k => ?_)⟩)))
      rcases k with k | ⟨k1, k2⟩
      · exact Or.inl k
      · exact Or.inr ⟨k1, k2.mono h (fun _ _ k => k)⟩
/-- it is closed under steps -/
theorem Parse.step {m o p : Nat} {acc : List Nat} {r : Res} (z : PStp B n kx (Parse B n kx) m o p acc r) : Parse B n kx m o p acc r := fun R hR => hR _ _ _ _ _ (z.mono (fun _ _ _ _ _ k => k R hR))
/-- what holds by steps holds of all that is read -/
theorem Parse.ind {Q : PRel} (hQ : ∀ m o p acc r, PStp B n kx (fun m o p acc r => Parse B n kx m o p acc r ∧ Q m o p acc r) m o p acc r → Q m o p acc r) {m o p : Nat} {acc : List Nat} {r : Res} (z : Parse B n kx m o p acc r) : Q m o p acc r :=
  (z (fun m o p acc r => Parse B n kx m o p acc r ∧ Q m o p acc r) (fun m o p acc r k => ⟨Parse.step (k.mono (fun _ _ _ _ _ k => k.1)), hQ _ _ _ _ _ k⟩)).2
end PM
