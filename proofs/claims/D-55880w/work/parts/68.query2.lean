/-! the ledger is asked: counts, lists -/
set_option maxRecDepth 100000
/-- the address of the e-th excuse -/
def xa (es : List eT) (e : Nat) : Nat := ((es[e]?).bind fun q => q.2.2.2).getD 0
theorem xa_of {es : List eT} {e x : Nat} {q : eT} (hq : es[e]? = some q) (hx : q.2.2.2 = some x) : xa es e = x := by
  unfold xa
  rw [hq]
  show (q.2.2.2).getD 0 = x
  rw [hx]; rfl
/-- the places of those that are so -/
noncomputable def pl (p : Nat → Prop) : Nat → List Nat
  | 0 => []
  | n + 1 => pl p n ++ @ite _ (p n) (Classical.propDecidable _) [n] []
theorem pl_y {p : Nat → Prop} {n : Nat} (h : p n) : pl p (n + 1) = pl p n ++ [n] := by
  show pl p n ++ @ite _ (p n) (Classical.propDecidable _) [n] [] = _
  rw [@if_pos _ (Classical.propDecidable _) h]
theorem pl_n {p : Nat → Prop} {n : Nat} (h : ¬ p n) : pl p (n + 1) = pl p n := by
  show pl p n ++ @ite _ (p n) (Classical.propDecidable _) [n] [] = _
  rw [@if_neg _ (Classical.propDecidable _) h, List.append_nil]
theorem pl_in {p : Nat → Prop} {n i : Nat} : i ∈ pl p n ↔ i < n ∧ p i := by
  induction n with
  | zero => exact ⟨fun w => (nomatch w), fun w => by omega⟩
  | succ n ih =>
    by_cases h : p n
    · rw [pl_y h, List.mem_append, ih, List.mem_singleton]
      constructor
      · rintro (⟨h1, h2⟩ | rfl)
        · exact ⟨by omega, h2⟩
        · exact ⟨by omega, h⟩
      · rintro ⟨h1, h2⟩
        by_cases e : i = n
        · exact Or.inr e
        · exact Or.inl ⟨by omega, h2⟩
    · rw [pl_n h, ih]
      constructor
      · rintro ⟨h1, h2⟩; exact ⟨by omega, h2⟩
      · rintro ⟨h1, h2⟩
        have : i ≠ n := by rintro rfl; exact h h2
        exact ⟨by omega, h2⟩
theorem pl_le {p : Nat → Prop} {n : Nat} : (pl p n).length ≤ n := by
  induction n with
  | zero => exact Nat.le_refl _
  | succ n ih =>
    by_cases h : p n
    · rw [pl_y h, List.length_append, List.length_singleton]; omega
    · rw [pl_n h]; omega
theorem pl_all {n : Nat} : pl (fun _ => True) n = List.range n := by
  induction n with
  | zero => rfl
  | succ n ih => rw [pl_y trivial, ih, List.range_succ]
/-- a sum over a list of places -/
def lS (f : Nat → Int32) : List Nat → Int32 → Int32
  | [], s => s
  | e :: t, s => lS f t (s + f e)
theorem lS_app {f : Nat → Int32} {l l' : List Nat} {s : Int32} : lS f (l ++ l') s = lS f l' (lS f l s) := by
  induction l generalizing s with
  | nil => rfl
  | cons e t ih => exact ih
theorem lS_pl {p : Nat → Prop} {f : Nat → Int32} {n : Nat} : lS f (pl p n) 0 = sN (fun e => twl (p e) (f e)) n := by
  induction n with
  | zero => rfl
  | succ n ih =>
    rw [← sN_s]
    by_cases h : p n
    · rw [pl_y h, lS_app, ih, twl_1 h]; rfl
    · rw [pl_n h, ih, twl_0 h, Int32.add_zero]
theorem len_pl {p : Nat → Prop} {n : Nat} : Int32.ofNat (pl p n).length = sN (fun e => tw (p e)) n := by
  induction n with
  | zero => rfl
  | succ n ih =>
    rw [← sN_s, ← ih]
    by_cases h : p n
    · rw [pl_y h, tw_1 h, List.length_append, List.length_singleton, i_succ]
    · rw [pl_n h, tw_0 h, Int32.add_zero]
section QR2
variable {G : gE} {σ : hSt} {PX : Nat → Nat → hSt → Prop} {P : Int32 → hSt → Prop} {n0 : Nat} {o A : Nat → Nat} {md : Int32} {es : List eT} {g : Nat → Int32}
theorem tw_ne {p : Prop} {v : Int32} (h : v = tw p) : (v ≠ 0 → v = 1) ∧ (v = 0 → tw p = 0) := by
  by_cases hp : p
  · rw [tw_1 hp] at h
    exact ⟨fun _ => h, fun w => by rw [h] at w; exact absurd w (by decide)⟩
  · rw [tw_0 hp] at h
    exact ⟨fun w => absurd h w, fun _ => tw_0 hp⟩
theorem told_t {p : Prop} {v : Int32} (h : v = tw p) (hP : P (tw p) σ) : wX1_told G P PX v σ := by
  refine told_k (fun w => ?_) fun w => ?_
  · rw [← h, (tw_ne h).1 w] at hP; exact hP
  · rw [(tw_ne h).2 w] at hP; exact hP
theorem lent_k (hS : SI G σ) (h : LG G σ n0 o A md es g) (hb : bd G σ 9) (hP : ∀ τ, ev G W0 9 σ τ → P (nLent g) τ) (hpos : ∀ e, e < cnt g → (g (102 + e) ≤ 0 ↔ g (102 + e) = 0)) : wX2_lent G P PX (some (A 0)) σ := by
  unfold wX2_lent wX2_lentb0
  refine gR h.L (by decide) rfl (iter_k hS h.M hb fun z0 it e0 hit hi => ?_)
  refine each_k (fun b it z => (b, it, z)) (fun K b it z h => by dsimp only; unfold wX2_lentb15; exact h) (fun e b z => b = sN (fun e => tw (¬ g (102 + e) ≤ 0)) e) 0 h e0 hit hi rfl (fun e b z z' hJ _ => hJ) (fun e q x b z hq hx hJ ez hz _ K hK => ?_) fun b z hJ ez hz => ?_
  · subst hJ
    obtain ⟨q', -, -, hxc⟩ := hz.xcell hq hx
    have hp := hpos e (hz.lt hq)
    have go : ∀ v, v = tw (¬ g (102 + e) ≤ 0) → wX1_told G (fun x13 z12 => K (sN (fun e => tw (¬ g (102 + e) ≤ 0)) e + x13, some it, z12)) PX v z := fun v hv => told_t hv (by
      refine hK _ z W0 (ev.refl ez.t) (fun a k w => w.elim) ?_
      rw [← sN_s])
    refine ⟨cO hxc (by decide), rco hxc, ?_⟩
    unfold wX8_isLent wX8_isLentb0
    refine gI hxc (by decide) rfl ⟨fun w => ⟨ok_b0, go 0 (tw_0 fun u => u ?_).symm⟩, fun w => ⟨ok_b1, go 1 (tw_1 fun u => w ?_).symm⟩⟩
    · rw [hp] at u; rw [u]; rfl
    · rw [hp, i_sub1.mp w.symm]; rfl
  · subst hJ
    rw [h.len]
    exact hP z (ez.le' (by omega))
theorem owned_k {v : Int32} (hS : SI G σ) (h : LG G σ n0 o A md es g) (hb : bd G σ 9) (hP : ∀ τ, ev G W0 9 σ τ → P (nOwn g v) τ) : wX2_ownedBy G P PX (some (A 0)) v σ := by
  unfold wX2_ownedBy wX2_ownedByb0
  refine gR h.L (by decide) rfl (iter_k hS h.M hb fun z0 it e0 hit hi => ?_)
  refine each_k (fun b it z => (v, b, it, z)) (fun K b it z h => by dsimp only; unfold wX2_ownedByb15; exact h) (fun e b z => b = sN (fun e => tw (g (54 + e) = v)) e) 0 h e0 hit hi rfl (fun e b z z' hJ _ => hJ) (fun e q x b z hq hx hJ ez hz _ K hK => ?_) fun b z hJ ez hz => ?_
  · subst hJ
    obtain ⟨q', -, -, hxc⟩ := hz.xcell hq hx
    have go : ∀ u, u = tw (g (54 + e) = v) → wX2_ownedByb50 G P PX K v (some it) (sN (fun e => tw (g (54 + e) = v)) e) u z := fun u hu => by
      unfold wX2_ownedByb50
      refine told_t hu ?_
      refine hK _ z W0 (ev.refl ez.t) (fun a k w => w.elim) ?_
      rw [← sN_s]
    exact ⟨cO hxc (by decide), gI hxc (by decide) rfl ⟨fun w => go 0 (tw_0 w).symm, fun w => go 1 (tw_1 w).symm⟩⟩
  · subst hJ
    rw [h.len]
    exact hP z (ez.le' (by omega))
/-- a new list, filled with some of the excuses -/
theorem all_k {P : Option Nat → hSt → Prop} (hS : SI G σ) (h : LG G σ n0 o A md es g) (hb : bd G σ 600) (hP : ∀ τ a arr md', ev G W0 500 σ τ → σ.2.1 ≤ a → AL G τ a arr md' ((List.range (cnt g)).map (xa es)) → P (some a) τ) : wX2_all G P PX (some (A 0)) σ := by
  unfold wX2_all wX2_allb0
  refine nO hS (hb.mono (by omega)) (fun w => by omega) fun a τ n hX e1 => ⟨⟨a, rfl⟩, al_new e1.t n.2.1 rfl fun τ2 e2 hA => ?_⟩
  have ha : σ.2.1 ≤ a := by rw [n.1]; exact Nat.le_refl _
  have e02 : ev G W0 4 σ τ2 := (e1.f1 e2 ha).le' (by omega)
  have h2 := h.ev e02 W0_g
  refine gR h2.L (by decide) rfl (iter_k e02.t h2.M (e02.rm hb (by omega)) fun z0 it e3 hit hi => ?_)
  have hitσ : σ.2.1 ≤ it := Nat.le_trans e02.le hit
  refine each_k (fun (_ : Unit) it z => (some a, it, z)) (b0 := ()) (c0 := 13) (fun K b it z h => by dsimp only; unfold wX2_allb21; exact h) (fun e _ z => ∃ arr md', (¬ gX G arr → σ.2.1 ≤ arr) ∧ AL G z a arr md' ((List.range e).map (xa es))) 35 h ((e02.tr e3).le' (by omega)) hitσ hi ?_ (fun e b z z' hJ hw => ?_) (fun e q x b z hq hx hJ ez hz _ K hK => ?_) fun b z hJ ez hz => ?_
  · exact ⟨gA G 41, 0, fun w => absurd e02.t.2.2.2.2.1.1 w, hA.ev e3 (fun w => w) fun w => w⟩
  · obtain ⟨arr, md', ha', hJ⟩ := hJ
    exact ⟨arr, md', ha', hJ.ev hw (fun w => by have := w.2; omega) fun w => by have := w.2; omega⟩
  · obtain ⟨arr, md', ha', hJ⟩ := hJ
    obtain ⟨q', -, -, hxc⟩ := hz.xcell hq hx
    have he := hz.lt hq
    have h12 := h.ok.1.1
    refine ⟨cO hxc (by decide), hJ.rc, al_add ez.t hJ (by simp; omega) (Or.inr ⟨x, 7, _, rfl, hxc, by decide⟩) (ez.rm hb (by omega)) fun z' arr' e4 hA' hor => hK () z' _ (e4.le' (by simp; omega)) (fun b k w => ?_) ⟨arr', md' + 1, ?_, ?_⟩⟩
    · rcases w with ⟨rfl, rfl⟩ | ⟨rfl, rfl, hX⟩
      · exact ⟨ha, by omega⟩
      · exact ⟨ha' hX, by omega⟩
    · intro hX
      rcases hor with rfl | w
      · exact ha' hX
      · exact Nat.le_trans ez.le w
    · rw [List.range_succ, List.map_append, List.map_singleton, xa_of hq hx]
      exact hA'
  · obtain ⟨arr, md', ha', hJ⟩ := hJ
    rw [h.len] at hJ
    have := h.le12
    exact hP z a arr md' (ez.le' (by omega)) ha hJ
theorem held_k {P : Option Nat → hSt → Prop} {v : Int32} (hS : SI G σ) (h : LG G σ n0 o A md es g) (hb : bd G σ 600) (hP : ∀ τ a arr md', ev G W0 500 σ τ → σ.2.1 ≤ a → AL G τ a arr md' ((pl (fun e => g (66 + e) = v) (cnt g)).map (xa es)) → P (some a) τ) : wX2_heldBy G P PX (some (A 0)) v σ := by
  unfold wX2_heldBy wX2_heldByb0
  refine nO hS (hb.mono (by omega)) (fun w => by omega) fun a τ n hX e1 => ⟨⟨a, rfl⟩, al_new e1.t n.2.1 rfl fun τ2 e2 hA => ?_⟩
  have ha : σ.2.1 ≤ a := by rw [n.1]; exact Nat.le_refl _
  have e02 : ev G W0 4 σ τ2 := (e1.f1 e2 ha).le' (by omega)
  have h2 := h.ev e02 W0_g
  refine gR h2.L (by decide) rfl (iter_k e02.t h2.M (e02.rm hb (by omega)) fun z0 it e3 hit hi => ?_)
  have hitσ : σ.2.1 ≤ it := Nat.le_trans e02.le hit
  refine each_k (fun (_ : Unit) it z => (v, some a, it, z)) (b0 := ()) (c0 := 13) (fun K b it z h => by dsimp only; unfold wX2_heldByb21; exact h) (fun e _ z => ∃ arr md', (¬ gX G arr → σ.2.1 ≤ arr) ∧ AL G z a arr md' ((pl (fun e => g (66 + e) = v) e).map (xa es))) 35 h ((e02.tr e3).le' (by omega)) hitσ hi ?_ (fun e b z z' hJ hw => ?_) (fun e q x b z hq hx hJ ez hz _ K hK => ?_) fun b z hJ ez hz => ?_
  · exact ⟨gA G 41, 0, fun w => absurd e02.t.2.2.2.2.1.1 w, hA.ev e3 (fun w => w) fun w => w⟩
  · obtain ⟨arr, md', ha', hJ⟩ := hJ
    exact ⟨arr, md', ha', hJ.ev hw (fun w => by have := w.2; omega) fun w => by have := w.2; omega⟩
  · obtain ⟨arr, md', ha', hJ⟩ := hJ
    obtain ⟨q', -, -, hxc⟩ := hz.xcell hq hx
    have he := hz.lt hq
    have h12 := h.ok.1.1
    have hl := pl_le (p := fun e => g (66 + e) = v) (n := e)
    unfold wX2_heldByb57
    refine ⟨cO hxc (by decide), gI hxc (by decide) rfl ⟨fun w => ?_, fun w => ⟨hJ.rc, al_add ez.t hJ (by simp; omega) (Or.inr ⟨x, 7, _, rfl, hxc, by decide⟩) (ez.rm hb (by omega)) fun z' arr' e4 hA' hor => hK () z' _ (e4.le' (by simp; omega)) (fun b k w => ?_) ⟨arr', md' + 1, ?_, ?_⟩⟩⟩⟩
    · refine hK () z W0 ((ev.refl ez.t).le' (by omega)) (fun a k w => w.elim) ⟨arr, md', ha', ?_⟩
      rw [pl_n (p := fun e => g (66 + e) = v) w]
      exact hJ
    · rcases w with ⟨rfl, rfl⟩ | ⟨rfl, rfl, hX⟩
      · exact ⟨ha, by omega⟩
      · exact ⟨ha' hX, by omega⟩
    · intro hX
      rcases hor with rfl | w
      · exact ha' hX
      · exact Nat.le_trans ez.le w
    · rw [pl_y (p := fun e => g (66 + e) = v) w, List.map_append, List.map_singleton, xa_of hq hx]
      exact hA'
  · obtain ⟨arr, md', ha', hJ⟩ := hJ
    rw [h.len] at hJ
    have := h.le12
    exact hP z a arr md' (ez.le' (by omega)) ha hJ
/-- a list of excuses, one after another: the loop's shape -/
theorem lst_k {α β : Type} {F : (α → Prop) → α → Prop} {it a arr c0 : Nat} {mdl : Int32} {z0 : hSt} {b0 : β} {l : List Nat} (tup : β → Option Nat → hSt → α) {X : β → hSt → Prop} {BD : (α → Prop) → β → Option Nat → Option Nat → hSt → Prop}
    (hF : ∀ K b it z, (rcv z it 19 ∧ wJ19_hasNext G (fun x7 z6 => ((x7 = 0 → X b z6) ∧ (¬ x7 = 0 → (rcv z6 it 19 ∧ wJ19_next G (fun x9 z8 => BD K b it x9 z8) PX it z6)))) PX it z) → F K (tup b it z))
    (J : Nat → β → Prop) (cost : Nat) (h : LG G σ n0 o A md es g) (e0 : ev G W0 c0 σ z0) (hit : σ.2.1 ≤ it) (hi : LI z0 it a mdl 0) (hA : AL G z0 a arr mdl (l.map (xa es))) (hl : ∀ e ∈ l, e < cnt g)
    (h0 : J 0 b0)
    (hstep : ∀ j e q x b z, l[j]? = some e → es[e]? = some q → q.2.2.2 = some x → J j b → ev G W0 (c0 + cost * j) σ z → LG G z n0 o A md es g → ∀ K : α → Prop, (∀ b' z', ev G W0 cost z z' → J (j + 1) b' → K (tup b' (some it) z')) → BD K b (some it) (some x) z)
    (hX : ∀ b z, J l.length b → ev G W0 (c0 + cost * l.length) σ z → LG G z n0 o A md es g → X b z) : lpI F (tup b0 (some it) z0) := by
  refine lp_n (fun n y => ∃ j b z, j ≤ l.length ∧ n = l.length - j ∧ y = tup b (some it) z ∧ J j b ∧ ev G W0 (c0 + cost * j) σ z ∧ LI z it a mdl j ∧ AL G z a arr mdl (l.map (xa es))) l.length ⟨0, b0, z0, Nat.zero_le _, rfl, rfl, h0, e0, hi, hA⟩ ?_
  rintro n y ⟨j, b, z, hj, rfl, rfl, hJ, ez, hi, hA⟩ K hK
  have hz := h.ev ez W0_g
  refine hF K b (some it) z (li_step ez.t hi hA (by simp; exact hj) (fun hr => ?_) fun x hx υ eυ hi' => ?_)
  · have : j = l.length := by simpa using hr
    subst this
    exact hX b z hJ ez hz
  · have hlt : j < l.length := by
      have := (List.getElem?_eq_some_iff.mp hx).1
      simpa using this
    have he : l[j]? = some l[j] := List.getElem?_eq_getElem hlt
    have e1 : ev G W0 (c0 + cost * j) σ υ := (ez.f1 eυ hit).le' (by omega)
    have hυ := h.ev e1 W0_g
    obtain ⟨q, x', hq, hqx, -⟩ := hυ.xI (hl _ (List.mem_of_getElem? he))
    have hxx : x = x' := by
      rw [List.getElem?_map, he] at hx
      have : xa es l[j] = x := by injection hx
      rw [← this]
      exact xa_of hq hqx
    subst hxx
    refine hstep j l[j] q x b υ he hq hqx hJ e1 hυ K fun b' z' e2 hJ' => hK (l.length - (j + 1)) _ (by omega) ⟨j + 1, b', z', by omega, rfl, rfl, hJ', ?_, hi'.ev e2 fun w => w, (hA.ev eυ (fun w => by have := w.2; omega) fun w => by have := w.2; omega).ev e2 (fun w => w) fun w => w⟩
    refine (e1.tr e2).le' ?_
    rw [Nat.mul_add]; omega
theorem lS_take {f : Nat → Int32} {l : List Nat} {j e : Nat} {s : Int32} (h : l[j]? = some e) : lS f (l.take (j + 1)) s = lS f (l.take j) s + f e := by
  have hlt := (List.getElem?_eq_some_iff.mp h).1
  rw [List.take_succ, h, lS_app]
  rfl
theorem left_k {v : Int32} (hS : SI G σ) (h : LG G σ n0 o A md es g) (hb : bd G σ 600) (hP : ∀ τ, ev G W0 510 σ τ → P (nLeft g v) τ) : wX2_left G P PX (some (A 0)) v σ := by
  unfold wX2_left wX2_leftb0
  refine ⟨h.rc, held_k hS h hb fun τ a arr md' e1 ha hA => ⟨hA.rc, li_new e1.t hA (e1.rm hb (by omega)) fun z0 it e2 hit hi => ?_⟩⟩
  have e02 : ev G W0 505 σ z0 := (e1.tr e2).le' (by omega)
  refine lst_k (fun b it z => (b, it, z)) (fun K b it z h => by dsimp only; unfold wX2_leftb11; exact h) (fun j b => b = lS (lft g) ((pl (fun e => g (66 + e) = v) (cnt g)).take j) 0) 0 h e02 (Nat.le_trans e1.le hit) hi (hA.ev e2 (fun w => w) fun w => w) (fun e he => (pl_in.mp he).1) rfl (fun j e q x b z hj hq hx hJ ez hz K hK => ?_) fun b z hJ ez hz => ?_
  · subst hJ
    have hxE := hz.xcell hq hx
    obtain ⟨q', -, -, hxc⟩ := id hxE
    refine ⟨cO hxc (by decide), exL_k hxE (hK _ z (ev.refl ez.t) ?_)⟩
    rw [lS_take hj]
  · subst hJ
    rw [List.take_length, lS_pl]
    exact hP z (ez.le' (by omega))
theorem worn_k {a arr : Nat} {md' : Int32} {l : List Nat} {τ0 : hSt} (h : LG G σ n0 o A md es g) (e1 : ev G W0 500 σ τ0) (hA : AL G τ0 a arr md' (l.map (xa es))) (hl : ∀ e ∈ l, e < cnt g) (hb : bd G σ 600) (hP : ∀ τ, ev G W0 510 σ τ → P (lS (fun e => tw (lft g e = 0)) l 0) τ) : wX2_worn G P PX (some a) τ0 := by
  unfold wX2_worn wX2_wornb0
  refine ⟨hA.rc, li_new e1.t hA (e1.rm hb (by omega)) fun z0 it e2 hit hi => ?_⟩
  have e02 : ev G W0 505 σ z0 := (e1.tr e2).le' (by omega)
  refine lst_k (fun b it z => (b, it, z)) (fun K b it z h => by dsimp only; unfold wX2_wornb7; exact h) (fun j b => b = lS (fun e => tw (lft g e = 0)) (l.take j) 0) 0 h e02 (Nat.le_trans e1.le hit) hi (hA.ev e2 (fun w => w) fun w => w) hl rfl (fun j e q x b z hj hq hx hJ ez hz K hK => ?_) fun b z hJ ez hz => ?_
  · subst hJ
    have hxE := hz.xcell hq hx
    obtain ⟨q', -, -, hxc⟩ := id hxE
    have go : ∀ u, u = tw (lft g e = 0) → wX2_wornb39 G P PX K (some it) (lS (fun e => tw (lft g e = 0)) (l.take j) 0) u z := fun u hu => by
      unfold wX2_wornb39
      refine told_t hu (hK _ z (ev.refl ez.t) ?_)
      rw [lS_take hj]
    exact ⟨cO hxc (by decide), exL_k hxE ⟨fun w => go 0 (tw_0 w).symm, fun w => go 1 (tw_1 w).symm⟩⟩
  · subst hJ
    rw [List.take_length]
    exact hP z (ez.le' (by omega))
end QR2
