/-! the ledger is asked: chances, all pupils' lefts by the names -/
set_option maxRecDepth 100000
theorem sN_congr {f h : Nat → Int32} {n : Nat} (w : ∀ i, i < n → f i = h i) : sN f n = sN h n := by
  induction n with
  | zero => rfl
  | succ n ih => rw [← sN_s, ← sN_s, ih fun i hi => w i (by omega), w n (by omega)]
theorem sN_add {f h : Nat → Int32} {n : Nat} : sN (fun i => f i + h i) n = sN f n + sN h n := by
  induction n with
  | zero => rfl
  | succ n ih =>
    rw [← sN_s, ← sN_s, ← sN_s, ih, Int32.add_assoc, Int32.add_assoc]
    congr 1
    rw [← Int32.add_assoc, Int32.add_comm (sN h n), Int32.add_assoc]
theorem sN_z {f : Nat → Int32} {n : Nat} (w : ∀ i, i < n → f i = 0) : sN f n = 0 := by
  induction n with
  | zero => rfl
  | succ n ih => rw [← sN_s, ih fun i hi => w i (by omega), w n (by omega)]; rfl
theorem sN_1 {f : Nat → Int32} {n e : Nat} (he : e < n) (w : ∀ i, i < n → i ≠ e → f i = 0) : sN f n = f e := by
  induction n with
  | zero => omega
  | succ n ih =>
    rw [← sN_s]
    by_cases h : e = n
    · subst h
      rw [sN_z fun i hi => w i (by omega) (by omega), Int32.zero_add]
    · rw [ih (by omega) fun i hi => w i (by omega), w n (by omega) (by omega), Int32.add_zero]
theorem sN_sw {f : Nat → Nat → Int32} {n m : Nat} : sN (fun a => sN (fun b => f a b) m) n = sN (fun b => sN (fun a => f a b) n) m := by
  induction n with
  | zero => exact (sN_z fun i _ => rfl).symm
  | succ n ih =>
    rw [← sN_s, ih, ← sN_add]
    exact sN_congr fun i _ => rfl
section QR3
variable {G : gE} {σ : hSt} {PX : Nat → Nat → hSt → Prop} {P : Int32 → hSt → Prop} {n0 : Nat} {o A : Nat → Nat} {md : Int32} {es : List eT} {g : Nat → Int32}
/-- the excuse of that name -/
theorem LG.isF (h : LG G σ n0 o A md es g) {k t e : Nat} (hk : k < 4) (ht : t < 10) : isF g (Int32.ofNat k) (Int32.ofNat t) e ↔ ∃ q, es[e]? = some q ∧ q.2.1 = 10 * k + t := by
  have hnd : (es.map fun q => q.2.1).Nodup := by
    obtain ⟨t, th, -, -, -, h4, -⟩ := h.M
    exact h4
  have key : ∀ j q, es[j]? = some q → ((g (6 + j) = Int32.ofNat k ∧ g (18 + j) = Int32.ofNat t) ↔ q.2.1 = 10 * k + t) := by
    intro j q hq
    obtain ⟨-, n1, n2, -⟩ := h.nm hq
    obtain ⟨⟨a1, a2⟩, ⟨a3, a4⟩, -⟩ := h.ok.2 j (h.lt hq)
    rw [a2, a4, i_eq (by omega) (by omega), i_eq (by omega) (by omega)]
    omega
  constructor
  · rintro ⟨h1, h2, h3, -⟩
    have hq := List.getElem?_eq_getElem (show e < es.length by rw [h.len]; exact h1)
    exact ⟨_, hq, (key _ _ hq).mp ⟨h2, h3⟩⟩
  · rintro ⟨q, hq, hx⟩
    obtain ⟨h2, h3⟩ := (key _ _ hq).mpr hx
    refine ⟨h.lt hq, h2, h3, fun j hj w => ?_⟩
    have hel := (List.getElem?_eq_some_iff.mp hq).1
    have hqj := List.getElem?_eq_getElem (show j < es.length by omega)
    have hxj := (key _ _ hqj).mp w
    have := (List.getElem?_inj (i := j) (j := e) (by simp; omega) hnd).mp (by rw [List.getElem?_map, List.getElem?_map, hqj, hq]; simp [hxj, hx])
    omega
theorem LG.noF (h : LG G σ n0 o A md es g) {k t : Nat} (hk : k < 4) (ht : t < 10) (hn : ∀ q ∈ es, q.2.1 ≠ 10 * k + t) : noF g (Int32.ofNat k) (Int32.ofNat t) := by
  rcases f_or g (Int32.ofNat k) (Int32.ofNat t) with ⟨e, he⟩ | h'
  · obtain ⟨q, hq, hx⟩ := (h.isF hk ht).mp he
    exact absurd hx (hn q (List.mem_of_getElem? hq))
  · exact h'
theorem lk_k {P : Option Nat → hSt → Prop} {nm k t : Nat} (h : LG G σ n0 o A md es g) (hk : k < 4) (ht : t < 10) (hn : KY σ 5 nm (10 * k + t)) (h1 : ∀ e, isF g (Int32.ofNat k) (Int32.ofNat t) e → xE σ es g e (xa es e) → P (some (xa es e)) σ) (h0 : noF g (Int32.ofNat k) (Int32.ofNat t) → P none σ) : wJ2_get G P PX (some (A 1)) (some nm) σ := by
  refine lget_k h.M hn (fun q hq hx => ?_) fun hno => h0 (h.noF hk ht hno)
  obtain ⟨e, hel, he⟩ := List.getElem_of_mem hq
  have hq' : es[e]? = some q := by rw [List.getElem?_eq_getElem hel, he]
  obtain ⟨-, x, hx', -⟩ := h.exc hq'
  have := h.xcell hq' hx'
  rw [hx', ← xa_of hq' hx']
  rw [← xa_of hq' hx'] at this
  exact h1 e ((h.isF hk ht).mpr ⟨q, hq', hx⟩) this
theorem chances_k (hS : SI G σ) (h : LG G σ n0 o A md es g) (hb : bd G σ 120) (hP : ∀ τ, ev G W0 120 σ τ → P (nCh g) τ) : wX2_chances G P PX (some (A 0)) σ := by
  unfold wX2_chances wX2_chancesb0
  refine gR h.L (by decide) rfl (iter_k hS h.M (hb.mono (by omega)) fun z0 it e0 hit hi => ?_)
  have h12 := h.le12
  refine each_k (fun b it z => (some (A 0), b, it, z)) (fun K b it z h => by dsimp only; unfold wX2_chancesb15; exact h) (fun e b z => b = sN (fun e => sN (fun s => tw (¬ ovw g e ∧ bel g (dOf g e) e s)) 3) e) 9 h e0 hit hi rfl (fun e b z z' hJ _ => hJ) (fun e q x b z hq hx hJ ez hz _ K hK => ?_) fun b z hJ ez hz => ?_
  · subst hJ
    have hxE := hz.xcell hq hx
    obtain ⟨q', hq', -, hxc⟩ := id hxE
    rw [hq] at hq'
    cases hq'
    have he := hz.lt hq
    have hel : e < es.length := by rw [h.len]; exact he
    obtain ⟨hn, -, -, h40⟩ := hz.nm hq
    obtain ⟨-, -, -, hd, hd'⟩ := h.ok.2 e he
    have go : ∀ v τ, ev G W0 9 z τ → v = sN (fun s => tw (¬ ovw g e ∧ bel g (dOf g e) e s)) 3 → wX2_chancesb59 G P PX K (some (A 0)) (some it) (sN (fun e => sN (fun s => tw (¬ ovw g e ∧ bel g (dOf g e) e s)) 3) e) v τ := fun v τ e1 hv => by
      unfold wX2_chancesb59
      refine hK _ τ W0 e1 (fun a k w => w.elim) ?_
      rw [← sN_s, hv]
    refine ⟨cO hxc (by decide), gR hxc (by decide) rfl ⟨hz.rc, isOver_k ez.t hz h40 hn (fun u1 u2 => ⟨fun w => absurd w (by decide), fun _ => go 0 z ((ev.refl ez.t).le' (by omega)) ?_⟩) fun u => ⟨fun _ => gI hxc (by decide) rfl ⟨hz.rc, ?_⟩, fun w => absurd rfl w⟩⟩⟩
    · exact (sN_z fun i _ => tw_0 fun w => w.1 ((over_e h hq).mpr ⟨u1, u2⟩)).symm
    · have hno : ¬ ovw g e := fun w => u ((over_e h hq).mp w)
      rw [hd']
      refine believers_k ez.t hz hd hxE (ez.rm hb (by omega)) fun τ e1 => go _ τ e1 ?_
      unfold nBel
      refine sN_congr fun s _ => ?_
      by_cases w : bel g (dOf g e) e s
      · rw [tw_1 w, tw_1 ⟨hno, w⟩]
      · rw [tw_0 w, tw_0 fun w' => w w'.2]
  · subst hJ
    rw [h.len]
    exact hP z (ez.le' (by omega))
theorem chancesA_k (hS : SI G σ) (h : LG G σ n0 o A md es g) (hb : bd G σ 200) (hP : ∀ τ, ev G W0 200 σ τ → P (nCh g) τ) : wX2_chancesAgain G P PX (some (A 0)) σ := by
  unfold wX2_chancesAgain wX2_chancesAgainb0
  have h12 := h.le12
  refine lp_n (fun n y => ∃ s z, s ≤ 3 ∧ n = 3 - s ∧ y = (some (A 0), sN (fun s => sN (fun e => tw (¬ ovw g e ∧ bel g (dOf g e) e s)) (cnt g)) s, Int32.ofNat s, z) ∧ ev G W0 (60 * s) σ z) 3 ⟨0, σ, by omega, rfl, rfl, ev.refl hS⟩ ?_
  rintro n y ⟨s, z, hs, rfl, rfl, ez⟩ K hK
  unfold wX2_chancesAgainb4
  have hz := h.ev ez W0_g
  rw [show (3 : Int32) = Int32.ofNat 3 from rfl, i_le (by omega) (by omega)]
  refine ⟨fun w => ?_, fun w => gR hz.L (by decide) rfl (iter_k ez.t hz.M (ez.rm hb (by omega)) fun z0 it e0 hit hi => ?_)⟩
  · have : s = 3 := by omega
    subst this
    rw [sN_sw]
    exact hP z (ez.le' (by omega))
  · have hs3 : s < 3 := by omega
    refine each_k (fun b it z => (some (A 0), b, Int32.ofNat s, it, z)) (fun K' b it z h => by dsimp only; unfold wX2_chancesAgainb22; exact h) (fun e b z => b = sN (fun s => sN (fun e => tw (¬ ovw g e ∧ bel g (dOf g e) e s)) (cnt g)) s + sN (fun e => tw (¬ ovw g e ∧ bel g (dOf g e) e s)) e) 3 hz e0 hit hi (by rw [sN_0, Int32.add_zero]) (fun e b z z' hJ _ => hJ) (fun e q x b z1 hq hx hJ ez1 hz1 _ K' hK' => ?_) fun b z1 hJ ez1 hz1 => ?_
    · subst hJ
      have hxE := hz1.xcell hq hx
      obtain ⟨q', hq', -, hxc⟩ := id hxE
      rw [hq] at hq'
      cases hq'
      have he := hz1.lt hq
      have hel : e < es.length := by rw [h.len]; exact he
      obtain ⟨hn, -, -, h40⟩ := hz1.nm hq
      obtain ⟨-, -, -, hd, hd'⟩ := h.ok.2 e he
      have go : ∀ v τ, ev G W0 3 z1 τ → v = tw (¬ ovw g e ∧ bel g (dOf g e) e s) → wX2_chancesAgainb75 G P PX K K' (some (A 0)) (Int32.ofNat s) (some it) (sN (fun s => sN (fun e => tw (¬ ovw g e ∧ bel g (dOf g e) e s)) (cnt g)) s + sN (fun e => tw (¬ ovw g e ∧ bel g (dOf g e) e s)) e) v τ := fun v τ e1 hv => by
        unfold wX2_chancesAgainb75
        refine told_t hv (hK' _ τ W0 e1 (fun a k w => w.elim) ?_)
        rw [← sN_s, Int32.add_assoc]
      refine ⟨cO hxc (by decide), gR hxc (by decide) rfl ⟨hz1.rc, isOver_k ez1.t hz1 h40 hn (fun u1 u2 => ⟨fun _ => go 0 z1 ((ev.refl ez1.t).le' (by omega)) (tw_0 fun w => w.1 ((over_e h hq).mpr ⟨u1, u2⟩)).symm, fun w => absurd w (by decide)⟩) fun u => ⟨fun w => absurd rfl w, fun _ => gI hxc (by decide) rfl ⟨hz1.rc, ?_⟩⟩⟩⟩
      have hno : ¬ ovw g e := fun w => u ((over_e h hq).mp w)
      have e01 := ez.tr ez1
      rw [hd']
      exact would_k ez1.t hz1 hd hs3 hxE (e01.rm hb (by omega)) (fun w τ e1 => ⟨fun w => absurd w (by decide), fun _ => go 1 τ e1 (tw_1 ⟨hno, w⟩).symm⟩) fun w τ e1 => ⟨fun _ => go 0 τ e1 (tw_0 fun w' => w w'.2).symm, fun w => absurd rfl w⟩
    · subst hJ
      rw [hz.len, sN_s (f := fun s => sN (fun e => tw (¬ ovw g e ∧ bel g (dOf g e) e s)) (cnt g)), i_succ]
      exact hK (3 - (s + 1)) _ (by omega) ⟨s + 1, z1, by omega, rfl, rfl, (ez.tr ez1).le' (by omega)⟩
theorem uses_k (h : LG G σ n0 o A md es g) (hP : P (sumG g 135 3) σ) : wX2_uses G P PX (some (A 0)) σ := by
  unfold wX2_uses wX2_usesb0
  refine h.aS (s := 0) (by omega) (gI (h.sch (by omega)) (by decide) rfl (h.aS (s := 1) (by omega) (gI (h.sch (by omega)) (by decide) rfl (h.aS (s := 2) (by omega) (gI (h.sch (by omega)) (by decide) rfl ?_)))))
  have : sumG g 135 3 = 0 + g (135 + 0) + g (135 + 1) + g (135 + 2) := rfl
  rw [this, Int32.zero_add] at hP
  exact hP
theorem believed_k (h : LG G σ n0 o A md es g) (hP : P (sumG g 138 3) σ) : wX2_believed G P PX (some (A 0)) σ := by
  unfold wX2_believed wX2_believedb0
  refine h.aS (s := 0) (by omega) (gI (h.sch (by omega)) (by decide) rfl (h.aS (s := 1) (by omega) (gI (h.sch (by omega)) (by decide) rfl (h.aS (s := 2) (by omega) (gI (h.sch (by omega)) (by decide) rfl ?_)))))
  have : sumG g 138 3 = 0 + g (138 + 0) + g (138 + 1) + g (138 + 2) := rfl
  rw [this, Int32.zero_add] at hP
  exact hP
/-- a name made -/
theorem name_k {K : hSt → Prop} {a k t : Nat} {c0 c1 : Value} (hS : SI G σ) (hk : k < 4) (ht : t < 10) (ha : σ.1 a = some (.inr (5, [c0, c1]))) (hK : ∀ τ, ev G (W1 a 5) 0 σ τ → KY τ 5 a (10 * k + t) → K τ) : wX6_init G K PX (some a) (Int32.ofNat k) (Int32.ofNat t) σ := by
  unfold wX6_init wX6_initb0
  refine ⟨⟨a, rfl⟩, pO hS ha (by decide) (by simp) (by decide) fun τ1 w1 e1 => pO e1.t w1.1 (by decide) (by simp) (by decide) fun τ2 w2 e2 => hK τ2 ((e1.tr e2).le' (by omega)) (Or.inl ⟨rfl, by omega, ?_⟩)⟩
  rw [w2.1]
  unfold nmC
  rw [show (10 * k + t) / 10 = k by omega, show (10 * k + t) % 10 = t by omega]
  rfl
theorem d40 : ∀ x, x < 40 → Int32.ofNat x / 10 = Int32.ofNat (x / 10) ∧ Int32.ofNat x - Int32.ofNat x / 10 * 10 = Int32.ofNat (x % 10) := by decide
theorem leftA_k {v : Int32} (hS : SI G σ) (h : LG G σ n0 o A md es g) (hb : bd G σ 130) (hP : ∀ τ, ev G W0 130 σ τ → P (nLeft g v) τ) : wX2_leftAgain G P PX (some (A 0)) v σ := by
  unfold wX2_leftAgain wX2_leftAgainb0
  have hsum : nLeft g v = sN (fun x => sN (fun e => twl (10 * kOf g e + tOf g e = x ∧ g (66 + e) = v) (lft g e)) (cnt g)) 40 := by
    rw [sN_sw]
    refine sN_congr fun e he => ?_
    obtain ⟨⟨a1, -⟩, ⟨a3, -⟩, -⟩ := h.ok.2 e he
    rw [sN_1 (e := 10 * kOf g e + tOf g e) (by omega) fun i _ hi => twl_0 fun w => hi w.1.symm]
    by_cases w : g (66 + e) = v
    · rw [twl_1 w, twl_1 ⟨rfl, w⟩]
    · rw [twl_0 w, twl_0 fun w' => w w'.2]
  refine lp_n (fun n y => ∃ x z, x ≤ 40 ∧ n = 40 - x ∧ y = (some (A 0), v, sN (fun x => sN (fun e => twl (10 * kOf g e + tOf g e = x ∧ g (66 + e) = v) (lft g e)) (cnt g)) x, Int32.ofNat x, z) ∧ ev G W0 (3 * x) σ z) 40 ⟨0, σ, by omega, rfl, rfl, ev.refl hS⟩ ?_
  rintro n y ⟨x, z, hx, rfl, rfl, ez⟩ K hK
  unfold wX2_leftAgainb4
  have hz := h.ev ez W0_g
  rw [show (40 : Int32) = Int32.ofNat 40 from rfl, i_le (by omega) (by omega)]
  refine ⟨fun w => ?_, fun w => gR hz.L (by decide) rfl (nO ez.t (ez.rm hb (by omega)) (fun w => by omega) fun a τ n hX ee => ?_)⟩
  · have : x = 40 := by omega
    subst this
    rw [← hsum]
    exact hP z (ez.le' (by omega))
  · obtain ⟨d1, d2⟩ := d40 x (by omega)
    dsimp only
    rw [d2, d1]
    refine ⟨⟨a, rfl⟩, name_k ee.t (by omega) (by omega) n.2.1 fun τ2 e2 hk => ?_⟩
    have e12 : ev G W0 3 z τ2 := (ee.f1 e2 (by rw [n.1]; exact Nat.le_refl _)).le' (by omega)
    have h2 := hz.ev e12 W0_g
    have go : ∀ u, u = sN (fun e => twl (10 * kOf g e + tOf g e = x ∧ g (66 + e) = v) (lft g e)) (cnt g) → wX2_leftAgainb61 G P PX K (some (A 0)) v (Int32.ofNat x) (sN (fun x => sN (fun e => twl (10 * kOf g e + tOf g e = x ∧ g (66 + e) = v) (lft g e)) (cnt g)) x) u τ2 := by
      rintro u rfl
      unfold wX2_leftAgainb61
      rw [sN_s (f := fun x => sN (fun e => twl (10 * kOf g e + tOf g e = x ∧ g (66 + e) = v) (lft g e)) (cnt g)), i_succ]
      exact hK (40 - (x + 1)) _ (by omega) ⟨x + 1, τ2, by omega, rfl, rfl, (ez.tr e12).le' (by omega)⟩
    have kx : 10 * (x / 10) + x % 10 = x := by omega
    refine ⟨h2.M.rc, lk_k h2 (by omega) (by omega) hk (fun e he hxE => ?_) fun hno => ⟨Or.inl rfl, fun _ => ?_, fun w => absurd rfl w⟩⟩
    · obtain ⟨q, hq, hqx, hxc⟩ := id hxE
      have hel := h.lt hq
      have hkt : 10 * kOf g e + tOf g e = x := by
        obtain ⟨q', hq', hx'⟩ := (h.isF (by omega) (by omega)).mp he
        rw [← (h.exc hq').1, hx', kx]
      have one : ∀ i, i < cnt g → i ≠ e → twl (10 * kOf g i + tOf g i = x ∧ g (66 + i) = v) (lft g i) = 0 := fun i hi hne => twl_0 fun w => hne (f_un ((h.isF (by omega) (by omega)).mpr (by
        have hqi := List.getElem?_eq_getElem (show i < es.length by rw [h.len]; exact hi)
        exact ⟨_, hqi, by rw [(h.exc hqi).1, w.1, kx]⟩)) he)
      refine ⟨cO hxc (by decide), fun w => (nomatch w), fun _ => gI hxc (by decide) rfl ⟨fun w => ?_, fun w => exL_k hxE (go _ ?_)⟩⟩
      · refine go 0 (sN_z fun i hi => ?_).symm
        by_cases hie : i = e
        · subst hie; exact twl_0 fun u => w u.2
        · exact one i hi hie
      · rw [sN_1 hel one, twl_1 ⟨hkt, w⟩]
    · refine go 0 (sN_z fun i hi => twl_0 fun w => ?_).symm
      refine hno i hi ?_
      obtain ⟨⟨a1, a2⟩, ⟨a3, a4⟩, -⟩ := h.ok.2 i hi
      rw [a2, a4]
      refine ⟨(i_eq (by omega) (by omega)).mpr (by omega), (i_eq (by omega) (by omega)).mpr (by omega)⟩
end QR3
