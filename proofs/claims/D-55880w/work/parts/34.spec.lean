/-! what each order does to the numbers: the common ground of both sides -/
set_option maxRecDepth 100000
/-- a number changed -/
abbrev gu (g : Nat → Int32) (i : Nat) (x : Int32) : Nat → Int32 := upd g i x
theorem gu_s {g : Nat → Int32} {i : Nat} {x : Int32} : gu g i x i = x := by simp [gu, upd]
theorem gu_n {g : Nat → Int32} {i j : Nat} {x : Int32} (h : j ≠ i) : gu g i x j = g j := by simp [gu, upd, h]
/-- the first excuse of that kind and topic -/
def isF (g : Nat → Int32) (k t : Int32) (e : Nat) : Prop := e < cnt g ∧ g (6 + e) = k ∧ g (18 + e) = t ∧ ∀ j, j < e → ¬ (g (6 + j) = k ∧ g (18 + j) = t)
def noF (g : Nat → Int32) (k t : Int32) : Prop := ∀ j, j < cnt g → ¬ (g (6 + j) = k ∧ g (18 + j) = t)
theorem f_or (g : Nat → Int32) (k t : Int32) : (∃ e, isF g k t e) ∨ noF g k t := by
  have key : ∀ n, n ≤ cnt g → (∃ e, isF g k t e) ∨ ∀ j, j < n → ¬ (g (6 + j) = k ∧ g (18 + j) = t) := by
    intro n
    induction n with
    | zero => intro _; exact Or.inr fun j hj => absurd hj (Nat.not_lt_zero j)
    | succ n ih =>
      intro hn
      rcases ih (by omega) with h | h
      · exact Or.inl h
      · by_cases hm : g (6 + n) = k ∧ g (18 + n) = t
        · exact Or.inl ⟨n, by omega, hm.1, hm.2, h⟩
        · refine Or.inr fun j hj => ?_
          by_cases hj2 : j = n
          · subst hj2; exact hm
          · exact h j (by omega)
  exact (key (cnt g) (Nat.le_refl _)).imp id fun h => h
theorem f_un {g : Nat → Int32} {k t : Int32} {e e' : Nat} (h : isF g k t e) (h' : isF g k t e') : e = e' := by
  rcases Nat.lt_trichotomy e e' with q | q | q
  · exact absurd ⟨h.2.1, h.2.2.1⟩ (h'.2.2.2 e q)
  · exact q
  · exact absurd ⟨h'.2.1, h'.2.2.1⟩ (h.2.2.2 e' q)
/-- an order's end: refused (reason, detail), or done (answer, the numbers) -/
abbrev oR : Type := (Int32 × Int32) ⊕ (Int32 × (Nat → Int32))
def sEnter (g : Nat → Int32) (p k t q : Int32) (o : oR) : Prop :=
  (cnt g = 12 ∧ o = .inl (1, 12)) ∨ (cnt g ≠ 12 ∧ ∃ e, isF g k t e ∧ o = .inl (2, g (30 + e))) ∨
  (cnt g ≠ 12 ∧ noF g k t ∧ o = .inr (g 0 + 1, gu (gu (gu (gu (gu (gu g (6 + cnt g) k) (18 + cnt g) t) (30 + cnt g) q) (54 + cnt g) p) (66 + cnt g) p) 0 (g 0 + 1)))
def strG (g : Nat → Int32) (e : Nat) : Nat → Int32 := fun i => if i = 0 then g 0 - 1 else if 6 ≤ i ∧ i < 114 ∧ e ≤ (i - 6) % 12 then (if (i - 6) % 12 < 11 then g (i + 1) else 0) else g i
def sStrike (g : Nat → Int32) (k t : Int32) (o : oR) : Prop :=
  (noF g k t ∧ o = .inl (3, g 0)) ∨ ∃ e, isF g k t e ∧ ((¬ g (102 + e) ≤ 0 ∧ o = .inl (7, g (66 + e))) ∨ (g (102 + e) ≤ 0 ∧ o = .inr (g 0 - 1, strG g e)))
def lenG (g : Nat → Int32) (e to w : Nat) (fee : Int32) : Nat → Int32 :=
  gu (gu (gu (gu (gu g (114 + to) (g (114 + to) - fee)) (114 + w) (g (114 + w) + fee)) (66 + e) (Int32.ofNat to)) (102 + e) 1) 4 (g 4 + 1)
def sLend (g : Nat → Int32) (k t : Int32) (to : Nat) (fee : Int32) (o : oR) : Prop :=
  (noF g k t ∧ o = .inl (3, g 0)) ∨ ∃ e, isF g k t e ∧ ((¬ g (102 + e) ≤ 0 ∧ o = .inl (7, g (66 + e))) ∨ (g (102 + e) ≤ 0 ∧ ((to = oOf g e ∧ o = .inl (8, Int32.ofNat to)) ∨ (to ≠ oOf g e ∧ ((¬ fee ≤ g (114 + to) ∧ o = .inl (6, g (114 + to))) ∨ (fee ≤ g (114 + to) ∧ o = .inr (g (114 + oOf g e) + fee, lenG g e to (oOf g e) fee)))))))
def bakG (g : Nat → Int32) (e : Nat) : Nat → Int32 := gu (gu g (66 + e) (g (54 + e))) (102 + e) 0
def sBack (g : Nat → Int32) (k t : Int32) (o : oR) : Prop :=
  (noF g k t ∧ o = .inl (3, g 0)) ∨ ∃ e, isF g k t e ∧ ((¬ 0 ≤ g (102 + e) - 1 ∧ o = .inl (9, g (66 + e))) ∨ (0 ≤ g (102 + e) - 1 ∧ o = .inr (g (102 + e) - 1, bakG g e)))
def menG (g : Nat → Int32) (e h : Nat) (much : Int32) : Nat → Int32 := gu (gu (gu g (114 + h) (g (114 + h) - much)) 3 (g 3 + much)) (42 + e) (g (42 + e) - much)
def sMend (g : Nat → Int32) (k t much : Int32) (o : oR) : Prop :=
  (noF g k t ∧ o = .inl (3, g 0)) ∨ ∃ e, isF g k t e ∧ ((¬ much ≤ g (42 + e) ∧ o = .inl (10, g (42 + e))) ∨ (much ≤ g (42 + e) ∧ ((¬ much ≤ g (114 + dOf g e) ∧ o = .inl (6, g (114 + dOf g e))) ∨ (much ≤ g (114 + dOf g e) ∧ o = .inr (g (42 + e) - much, menG g e (dOf g e) much)))))
/-- an excuse is used: what is heard, its wear, the dogs, the counts -/
def weaG (g : Nat → Int32) (e : Nat) (d : Int32) : Nat → Int32 := gu g (42 + e) (if g (42 + e) + d ≤ 9 then g (42 + e) + d else 9)
def useG (g : Nat → Int32) (p k t s e : Nat) (d is : Int32) : Nat → Int32 :=
  let g1 := gu g (151 + (s * 6 + p) * 4 + k) (g (151 + (s * 6 + p) * 4 + k) ||| (1 <<< (Int32.ofNat t &&& 31)))
  let g2 := weaG g1 e d
  let g3 := gu g2 (141 + t) (g2 (141 + t) + (if k = 0 then 1 else 0))
  let g4 := gu g3 (78 + e) (g3 (78 + e) + 1)
  let g5 := gu g4 (90 + e) (g4 (90 + e) + is)
  let g6 := gu g5 (120 + p) (g5 (120 + p) + 1)
  let g7 := gu g6 (126 + p) (g6 (126 + p) + is)
  let g8 := gu g7 (135 + s) (g7 (135 + s) + 1)
  gu g8 (138 + s) (g8 (138 + s) + is)
def sUse (g : Nat → Int32) (p k t s : Nat) (o : oR) : Prop :=
  (noF g (Int32.ofNat k) (Int32.ofNat t) ∧ o = .inl (3, g 0)) ∨ ∃ e, isF g (Int32.ofNat k) (Int32.ofNat t) e ∧ ((dOf g e ≠ p ∧ o = .inl (4, g (66 + e))) ∨ (dOf g e = p ∧ ((ovw g e ∧ o = .inl (5, Int32.ofNat t)) ∨ (¬ ovw g e ∧ ∃ d is : Int32, ((tim g e ∧ d = 1) ∨ (¬ tim g e ∧ d = 2)) ∧ ((bel g p e s ∧ is = 1) ∨ (¬ bel g p e s ∧ is = 0)) ∧ o = .inr (is, useG g p k t s e d is)))))
def sStrict (g : Nat → Int32) (s : Nat) (x : Int32) (o : oR) : Prop := (g (132 + s) = x ∧ o = .inl (11, x)) ∨ (g (132 + s) ≠ x ∧ o = .inr (g (132 + s), gu g (132 + s) x))
def sWeather (g : Nat → Int32) (t : Int32) (o : oR) : Prop := (g 2 - 1 = t ∧ o = .inl (11, t)) ∨ (g 2 - 1 ≠ t ∧ o = .inr (g 2 - 1, gu g 2 (t + 1)))
/-- a day's end: the excuse e is a day older; a loan of three days ends -/
def payG (g : Nat → Int32) (h : Nat) : Nat → Int32 := let c : Int32 := if 2 ≤ g (114 + h) then 2 else g (114 + h); gu (gu g (114 + h) (g (114 + h) - c)) 3 (g 3 + c)
def agG (g : Nat → Int32) (e : Nat) : Nat → Int32 := gu g (102 + e) (g (102 + e) + (if g (102 + e) ≤ 0 then 0 else 1))
def dayE (p : (Nat → Int32) × Int32) (e : Nat) : (Nat → Int32) × Int32 := if agG p.1 e (102 + e) = 4 then (bakG (payG (agG p.1 e) (dOf (agG p.1 e) e)) e, p.2 + 1) else (agG p.1 e, p.2)
def dogG (g : Nat → Int32) (n : Nat) : Nat → Int32 := fun i => if 141 ≤ i ∧ i < 141 + n then 0 else g i
def day0 (g : Nat → Int32) : Nat → Int32 := gu (gu (dogG g 10) 2 0) 1 (dogG g 10 1 + 1)
def dayN (g : Nat → Int32) : Nat → (Nat → Int32) × Int32
  | 0 => (day0 g, 0)
  | n + 1 => dayE (dayN g n) n
def sDay (g : Nat → Int32) (o : oR) : Prop := o = .inr ((dayN g (cnt g)).2, gu (dayN g (cnt g)).1 5 ((dayN g (cnt g)).1 5 + (dayN g (cnt g)).2))
