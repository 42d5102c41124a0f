/-! the object tells an excuse, a bag -/
set_option maxRecDepth 100000
section TX2
variable {G : gE} {σ : hSt} {PX : Nat → Nat → hSt → Prop} {P : Int32 → hSt → Prop} {n0 : Nat} {o A : Nat → Nat} {md : Int32} {es : List eT} {g : Nat → Int32} {x : Nat} {fs : List Value}
theorem writ7_k {s : Nat} {T : List Nat} (hS : SI G σ) (hx : σ.1 x = some (.inr (0, fs))) (h7 : fs.length = 7) {Q : Nat → Prop} (hT : STq σ s Q T) (hP : ∀ τ, ev G (W1 x 0) 0 σ τ → τ.1 x = some (.inr (0, fs.set 4 (va_rf (some s)))) → STq τ s Q T → P (Int32.ofNat T.length) τ) : wX1_writtenb7 G P PX (some x) (some x) (some s) σ := by
  unfold wX1_writtenb7
  refine pO hS hx (by decide) (by omega) (by decide) fun τ w1 e1 => ?_
  have hT2 : STq τ s Q T := hT.ev e1 (fun b w => by have := w.2; omega) fun b _ w => by have := w.2; omega
  exact gR w1.1 (by decide) (List.getElem?_set_self (by omega)) ⟨hT2.st.rc, st_len hT2.st (hP τ e1 w1.1 hT2)⟩
theorem writS_k {s : Nat} {T : List Nat} (hS : SI G σ) (hx : σ.1 x = some (.inr (0, fs))) (h7 : fs.length = 7) {Q : Nat → Prop} (hT : STq σ s Q T) (hP : ∀ τ, ev G (W1 x 0) 0 σ τ → τ.1 x = some (.inr (0, fs.set 4 (va_rf (some s)))) → STq τ s Q T → P (Int32.ofNat T.length) τ) : rcv σ (some x) 0 ∧ wX1_written G P PX (some x) (some s) σ := by
  unfold wX1_written wX1_writtenb0 wJ10_toString wJ10_toStringb0
  exact ⟨rco hx, Or.inl ⟨hT.st.rc, writ7_k hS hx h7 hT hP⟩⟩
theorem lnT_eq {e : Nat} {q : eT} (hg : gOK g) (he : e < cnt g) (hd : ∃ n, n ≤ 3 ∧ g (102 + e) = Int32.ofNat n) (hk : q.2.1 / 10 = kOf g e) (ht : q.2.1 % 10 = tOf g e) : lnT q.2.1 (g (30 + e)).toNatClampNeg (g (42 + e)).toNatClampNeg (dOf g e) (oOf g e) (g (102 + e) - 1) = linT g e := by
  obtain ⟨n, hn, hd⟩ := hd
  have hz : ∀ m, m ≤ 3 → ((Int32.ofNat m - 1 = -1) ↔ Int32.ofNat m ≤ 0) := by
    intro m hm
    have : m = 0 ∨ m = 1 ∨ m = 2 ∨ m = 3 := by omega
    rcases this with rfl | rfl | rfl | rfl <;> decide
  unfold lnT linT nmT
  rw [hk, ht, hd]
  by_cases w : Int32.ofNat n ≤ 0
  · rw [if_pos ((hz n hn).mpr w), if_pos w]
    rfl
  · rw [if_neg fun v => w ((hz n hn).mp v), if_neg w]
    rfl
theorem q_tell {k t : Int32} (hS : SI G σ) (hx : σ.1 x = some (.inr (0, fs))) (h7 : fs.length = 7) (h0 : fs[0]? = some (va_rf (some (A 0)))) (h : LG G σ n0 o A md es g) (hq : gQ g) (hd : dOK g) (hb : bd G σ 1600) (hX : ¬ isX k t → XC G σ PX 29) (hE : isX k t → noF g k t → ∀ τ q, ev G W0 10 σ τ → τ.1 q = some (.inr (28, [])) → PX 28 q τ) (hP : ∀ e τ s, isX k t → isF g k t e → ev G (W1 x 0) 1500 σ τ → LG G τ n0 o A md es g → τ.1 x = some (.inr (0, fs.set 4 (va_rf (some s)))) → STq τ s (fun a => σ.2.1 ≤ a) (linT g e) → P (Int32.ofNat (linT g e).length) τ) : wX1_tell G P PX (some x) k t σ := by
  unfold wX1_tell wX1_tellb0
  refine ⟨rco hx, cexc_k hS ⟨fs, hx, h7, h0⟩ h (hb.mono (by omega)) hX hE fun e τ hxx he e1 h1 hxE => ?_⟩
  obtain ⟨q, hqe, hqx, hc⟩ := id hxE
  have hlt := he.1
  obtain ⟨hnm, hk, ht, h40⟩ := h1.nm hqe
  obtain ⟨-, -, ⟨ho6, ho⟩, ⟨hd6, hdo⟩⟩ := h.ok.2 e hlt
  obtain ⟨⟨q1, q2⟩, ⟨q3, q4⟩⟩ := hq e hlt
  have hc' : τ.1 (xa es e) = some (.inr (7, [va_rf (some q.2.2.1), .int (Int32.ofNat (g (30 + e)).toNatClampNeg), .int (Int32.ofNat (oOf g e)), .int (Int32.ofNat (dOf g e)), .int (Int32.ofNat (g (42 + e)).toNatClampNeg), .int (g (78 + e)), .int (g (90 + e)), .int (g (102 + e) - 1)])) := by
    rw [← q2, ← ho, ← hdo, ← q4]
    exact hc
  refine line_k e1.t hc' hnm h40 q1 q3 (by omega) (by omega) (e1.rm hb (by omega)) fun τ2 s e2 hs => ?_
  rw [lnT_eq h.ok hlt (hd e hlt) hk ht] at hs
  have e02 := e1.tr e2
  refine writS_k e2.t (e02.o hx (fun w => w) (by decide) (by decide)) h7 (hs.mono fun a _ _ w => Nat.le_trans e1.le w) fun τ3 e3 hx3 hs3 => hP e τ3 s hxx he ((e02.up0.tr e3).le' (by omega)) ((h1.ev e2 W0_g).ev e3 (W1_g (a := x) (k := 0) (by decide))) hx3 hs3
/-- a bag's text: by the list of its excuses -/
def blS (g : Nat → Int32) (T : List Nat) (e : Nat) : List Nat := (if T.length = 0 then [] else T ++ [44]) ++ nmT g e
def blT (g : Nat → Int32) (l : List Nat) : List Nat := l.foldl (blS g) []
theorem blT_take {l : List Nat} {j e : Nat} (h : l[j]? = some e) : blT g (l.take (j + 1)) = blS g (blT g (l.take j)) e := by
  unfold blT
  rw [List.take_succ, h, List.foldl_append]
  rfl
theorem blS_len {T : List Nat} {e : Nat} : (blS g T e).length ≤ T.length + 3 := by
  unfold blS nmT
  by_cases h : T.length = 0
  · rw [if_pos h]; simp
  · rw [if_neg h]; simp
theorem blT_len {l : List Nat} : ∀ j, (blT g (l.take j)).length ≤ 3 * j := by
  intro j
  induction j with
  | zero => simp [blT]
  | succ j ih =>
    cases h : l[j]? with
    | none =>
      have := List.getElem?_eq_none_iff.mp h
      rw [List.take_of_length_le (by omega)]
      rw [List.take_of_length_le (by omega)] at ih
      omega
    | some e =>
      rw [blT_take h]
      have := blS_len (g := g) (T := blT g (l.take j)) (e := e)
      omega
theorem blT_bag {v : Int32} : ∀ n, blT g (pl (fun e => g (66 + e) = v) n) = bagT g v n := by
  intro n
  induction n with
  | zero => rfl
  | succ n ih =>
    by_cases h : g (66 + n) = v
    · rw [pl_y h, bagT_y h, ← ih]
      unfold blT
      rw [List.foldl_append]
      rfl
    · rw [pl_n h, bagT_n h, ih]
/-- a list of excuses, one after another, a builder filled -/
theorem lst2_k {α β : Type} {F : (α → Prop) → α → Prop} {it a arr c0 : Nat} {mdl : Int32} {z0 : hSt} {b0 : β} {l : List Nat} (tup : β → Option Nat → hSt → α) {X : β → hSt → Prop} {BD : (α → Prop) → β → Option Nat → Option Nat → hSt → Prop}
    (hF : ∀ K b it z, (rcv z it 19 ∧ wJ19_hasNext G (fun x7 z6 => ((x7 = 0 → X b z6) ∧ (¬ x7 = 0 → (rcv z6 it 19 ∧ wJ19_next G (fun x9 z8 => BD K b it x9 z8) PX it z6)))) PX it z) → F K (tup b it z))
    (J : Nat → β → hSt → Prop) (cost : Nat) (h : LG G σ n0 o A md es g) (e0 : ev G W0 c0 σ z0) (hit : σ.2.1 ≤ it) (hi : LI z0 it a mdl 0) (hA : AL G z0 a arr mdl (l.map (xa es))) (hl : ∀ e ∈ l, e < cnt g)
    (h0 : J 0 b0 z0) (hJn : ∀ j b z z', J j b z → ev G (W1 it 19) 0 z z' → J j b z')
    (hstep : ∀ j e q x b z, l[j]? = some e → es[e]? = some q → q.2.2.2 = some x → J j b z → ev G W0 (c0 + cost * j) σ z → LG G z n0 o A md es g → ∀ K : α → Prop, (∀ b' z' W', ev G W' cost z z' → (∀ a k, W' a k → σ.2.1 ≤ a ∧ (k = 16 ∨ k = 102)) → J (j + 1) b' z' → K (tup b' (some it) z')) → BD K b (some it) (some x) z)
    (hX : ∀ b z, J l.length b z → ev G W0 (c0 + cost * l.length) σ z → LG G z n0 o A md es g → X b z) : lpI F (tup b0 (some it) z0) := by
  refine lp_n (fun n y => ∃ j b z, j ≤ l.length ∧ n = l.length - j ∧ y = tup b (some it) z ∧ J j b z ∧ ev G W0 (c0 + cost * j) σ z ∧ LI z it a mdl j ∧ AL G z a arr mdl (l.map (xa es))) l.length ⟨0, b0, z0, Nat.zero_le _, rfl, rfl, h0, e0, hi, hA⟩ ?_
  rintro n y ⟨j, b, z, hj, rfl, rfl, hJ, ez, hi, hA⟩ K hK
  have hz := h.ev ez W0_g
  refine hF K b (some it) z (li_step ez.t hi hA (by simp; exact hj) (fun hr => ?_) fun x hx υ eυ hi' => ?_)
  · have : j = l.length := by simpa using hr
    subst this
    exact hX b z hJ ez hz
  · have hlt : j < l.length := by
      have := (List.getElem?_eq_some_iff.mp hx).1
      simpa using this
    have he : l[j]? = some l[j] := List.getElem?_eq_getElem hlt
    have e1 : ev G W0 (c0 + cost * j) σ υ := (ez.f1 eυ hit).le' (by omega)
    have hυ := h.ev e1 W0_g
    obtain ⟨q, x', hq, hqx, -⟩ := hυ.xI (hl _ (List.mem_of_getElem? he))
    have hxx : x = x' := by
      rw [List.getElem?_map, he] at hx
      have : xa es l[j] = x := by injection hx
      rw [← this]
      exact xa_of hq hqx
    subst hxx
    refine hstep j l[j] q x b υ he hq hqx (hJn _ _ _ _ hJ eυ) e1 hυ K fun b' z' W' e2 hW hJ' => hK (l.length - (j + 1)) _ (by omega) ⟨j + 1, b', z', by omega, rfl, rfl, hJ', ?_, hi'.ev e2 (fun w => by have := (hW _ _ w).2; omega), (hA.ev eυ (fun w => by have := w.2; omega) fun w => by have := w.2; omega).ev e2 (fun w => by have := (hW _ _ w).2; omega) fun w => by have := (hW _ _ w).2; omega⟩
    refine (e1.fr e2 fun a k w => (hW a k w).1).le' ?_
    rw [Nat.mul_add]; omega
theorem q_bag {v : Int32} (hS : SI G σ) (hx : σ.1 x = some (.inr (0, fs))) (h7 : fs.length = 7) (h0 : fs[0]? = some (va_rf (some (A 0)))) (h : LG G σ n0 o A md es g) (hb : bd G σ 8500) (hX : ¬ isP v → XC G σ PX 32) (hP : isP v → ∀ τ s, ev G (W1 x 0) 8000 σ τ → LG G τ n0 o A md es g → τ.1 x = some (.inr (0, fs.set 4 (va_rf (some s)))) → STq τ s (fun a => σ.2.1 ≤ a) (bagT g v (cnt g)) → P (Int32.ofNat (bagT g v (cnt g)).length) τ) : wX1_bag G P PX (some x) v σ := by
  have h12 := h.ok.1.1
  unfold wX1_bag wX1_bagb0
  refine isPup_k (fun c1 => chkI_k hS (hb.mono (by omega)) (fun _ => bl_new (ev.refl hS) (hb.mono (by omega)) fun b arr z1 h1 _ => ?_) fun u => absurd u n10) fun c1 => chkI_k hS (hb.mono (by omega)) (fun u => absurd rfl u) fun _ => hX c1
  have hO1 : OB z1 x (A 0) := ⟨fs, h1.1.o hx (fun w => w) (by decide) (by decide), h7, h0⟩
  have hg1 := h.ev h1.1 W0_g
  refine hO1.L ⟨hg1.rc, held_k h1.1.t hg1 (h1.1.rm hb (by omega)) fun τ a arrl md' e1 ha hA => ⟨hA.rc, li_new e1.t hA ((h1.1.tr e1).rm hb (by omega)) fun z0 it e2 hit hi => ?_⟩⟩
  have h3 := h1.ev (e1.tr e2)
  have e02 : ev G W0 527 σ z0 := h3.1.le' (by omega)
  have hlen : (pl (fun e => g (66 + e) = v) (cnt g)).length ≤ 12 := Nat.le_trans pl_le h12
  refine lst2_k (fun (_ : Unit) it z => (some x, some b, it, z)) (b0 := ()) (fun K b it z h => by dsimp only; unfold wX1_bagb27; exact h) (fun j _ z => ∃ arr, σ.2.1 ≤ arr ∧ SB G z b arr (blT g ((pl (fun e => g (66 + e) = v) (cnt g)).take j))) 600 h e02 (Nat.le_trans (h1.1.tr e1).le hit) hi (hA.ev e2 (fun w => w) fun w => w) (fun e he => (pl_in.mp he).1) ⟨arr, h3.2.2.1, h3.2.2.2⟩ (fun j b z z' hJ w => ?_) (fun j e q x' _ z hj hq hqx hJ ez hz K hK => ?_) fun _ z hJ ez hz => ?_
  · obtain ⟨ar, ha', hJ⟩ := hJ
    exact ⟨ar, ha', hJ.ev w (fun w => by have := w.2; omega) fun w => by have := w.2; omega⟩
  · obtain ⟨ar, ha', hJ⟩ := hJ
    have hj12 : j < 12 := Nat.lt_of_lt_of_le (List.getElem?_eq_some_iff.mp hj).1 hlen
    have hbz : bd G z 700 := ez.rm hb (by omega)
    have hlT := blT_len (g := g) (l := pl (fun e => g (66 + e) = v) (cnt g)) j
    have htk := blT_take (g := g) hj
    have hlS := blS_len (g := g) (T := blT g ((pl (fun e => g (66 + e) = v) (cnt g)).take j)) (e := e)
    generalize blT g ((pl (fun e => g (66 + e) = v) (cnt g)).take j) = T at *
    rw [htk] at hK
    obtain ⟨q', hq', hqx', hxc⟩ := hz.xcell hq hqx
    obtain ⟨hnm, hk, ht, h40⟩ := hz.nm hq
    rw [hq] at hq'
    cases hq'
    have go : ∀ kk U, kk < 17 → (kk = 0 ∨ 10 ≤ kk) → txt kk = U → U.length ≤ 1 → T ++ U = (if T.length = 0 then [] else T ++ [44]) → wX1_bagb63 G P PX K (some x) (some b) (some it) (some x') (some b) (some (gA G kk)) z := by
      intro kk U hk1 hk2 hU hU1 hTU
      have hUs := ST_c ez.t hk1 hk2
      rw [hU] at hUs
      unfold wX1_bagb63
      refine ⟨hJ.rc, sb_str ez.t hJ hUs (by omega) (by omega) (hbz.mono (by omega)) fun z2 ar2 e2 ha2 hs2 => gR (e2.o hxc (fun w => by rcases w with w | w <;> (have := w.2; omega)) (by decide) (by decide)) (by decide) rfl (ntold_k e2.t (e2.o hnm (fun w => by rcases w with w | w <;> (have := w.2; omega)) (by decide) (by decide)) h40 (e2.rm hbz (by omega)) fun z3 s e3 hs3 => ?_)⟩
      have hs2' := hs2.ev e3 (fun w => w) fun w => w
      have hbb : σ.2.1 ≤ b := h3.2.1
      have ha2' : σ.2.1 ≤ ar2 := by
        rcases ha2 with rfl | ha2
        · exact ha'
        · exact Nat.le_trans ez.le ha2
      have hTl : (T ++ U).length ≤ T.length + 1 := by rw [List.length_append]; omega
      refine ⟨hs2'.rc, sb_str e3.t hs2' hs3 (by show (T ++ U).length + 2 ≤ 70; omega) (by show (2 : Nat) ≤ 17; omega) ((e2.tr e3.up0).rm hbz (by omega)) fun z4 ar4 e4 ha4 hs4 => hK () z4 (fun a k => σ.2.1 ≤ a ∧ (k = 16 ∨ k = 102)) ?_ (fun a k w => w) ⟨ar4, ?_, ?_⟩⟩
      · refine ((e2.mono (fun a k _ w => ?_) (Nat.le_refl _)).tr (e3.up0.tr (e4.mono (fun a k _ w => ?_) (Nat.le_refl _)))).le' (by omega)
        · rcases w with w | w
          · exact ⟨by rw [w.1]; exact hbb, Or.inl w.2⟩
          · exact ⟨by rw [w.1]; exact ha', Or.inr w.2⟩
        · rcases w with w | w
          · exact ⟨by rw [w.1]; exact hbb, Or.inl w.2⟩
          · exact ⟨by rw [w.1]; exact ha2', Or.inr w.2⟩
      · rcases ha4 with rfl | ha4
        · exact ha2'
        · exact Nat.le_trans ez.le (Nat.le_trans e2.le (Nat.le_trans e3.le ha4))
      · unfold blS nmT
        rw [← hTU, ← hk, ← ht]
        exact hs4
    refine ⟨cO hxc (by decide), hJ.rc, sb_len hJ ⟨fun u => go 10 [44] (by omega) (by omega) rfl (by decide) ?_, fun u => go 0 [] (by omega) (by omega) rfl (by decide) ?_⟩⟩
    · rw [if_neg fun v => u (by rw [v]; rfl)]
    · have : T.length = 0 := (i_eq (by omega) (by omega)).mp (u.trans (show (0 : Int32) = Int32.ofNat 0 from rfl))
      rw [if_pos this, List.eq_nil_of_length_eq_zero this]
      rfl
  · obtain ⟨ar, ha', hJ⟩ := hJ
    rw [List.take_length, blT_bag] at hJ
    refine ⟨rco (ez.o hx (fun w => w) (by decide) (by decide)), ?_⟩
    unfold wX1_written wX1_writtenb0
    refine Or.inr ⟨hJ.rc, sb_string ez.t hJ (ez.rm hb (by omega)) fun τ2 s e3 _ hs => ?_⟩
    have e03 := ez.tr e3
    exact writ7_k e3.t (e03.o hx (fun w => w) (by decide) (by decide)) h7 (hs.mono fun a _ _ w => Nat.le_trans ez.le w) fun τ3 e4 hx3 hs3 => hP c1 τ3 s ((e03.up0.tr e4).le' (by omega)) ((h.ev e03 W0_g).ev e4 (W1_g (a := x) (k := 0) (by decide))) hx3 hs3
end TX2
