/-! the ledger is asked: belief, counts -/
set_option maxRecDepth 100000
theorem i_sub1 {a b : Int32} : a = b - 1 ↔ b = a + 1 := by
  constructor
  · intro h; rw [h, Int32.sub_add_cancel]
  · intro h; rw [h, Int32.add_sub_cancel]
theorem i_lt2 {a : Int32} : a < 2 ↔ a ≤ 1 := by
  rw [Int32.lt_iff_toInt_lt, Int32.le_iff_toInt_le]
  have h2 : (2 : Int32).toInt = 2 := rfl
  have h1 : (1 : Int32).toInt = 1 := rfl
  omega
theorem pos_nn {d : Int32} : (if 0 < d then d else 0) = (if 0 ≤ d then d else 0) := by
  have h0 : (0 : Int32).toInt = 0 := rfl
  by_cases h : 0 < d
  · have h' : 0 ≤ d := by
      rw [Int32.lt_iff_toInt_lt] at h
      rw [Int32.le_iff_toInt_le]
      omega
    rw [if_pos h, if_pos h']
  · rw [if_neg h]
    by_cases h' : 0 ≤ d
    · rw [if_pos h']
      rw [Int32.lt_iff_toInt_lt] at h
      rw [Int32.le_iff_toInt_le] at h'
      apply Int32.toInt_inj.mp
      omega
    · rw [if_neg h']
section EACH
variable {G : gE} {σ : hSt} {PX : Nat → Nat → hSt → Prop} {n0 : Nat} {o A : Nat → Nat} {md : Int32} {es : List eT} {g : Nat → Int32}
/-- one excuse after another -/
theorem each_k {α β : Type} {F : (α → Prop) → α → Prop} {it c0 : Nat} {z0 : hSt} {b0 : β} (tup : β → Option Nat → hSt → α) {X : β → hSt → Prop} {BD : (α → Prop) → β → Option Nat → Option Nat → hSt → Prop}
    (hF : ∀ K b it z, (rcv z it 23 ∧ wJ25_hasNext G (fun x7 z6 => ((x7 = 0 → X b z6) ∧ (¬ x7 = 0 → (rcv z6 it 23 ∧ wJ28_next G (fun x9 z8 => BD K b it x9 z8) PX it z6)))) PX it z) → F K (tup b it z))
    (J : Nat → β → hSt → Prop) (cost : Nat) (h : LG G σ n0 o A md es g) (e0 : ev G W0 c0 σ z0) (hit : σ.2.1 ≤ it) (hi : IT z0 it (A 1) md es)
    (h0 : J 0 b0 z0) (hJn : ∀ e b z z', J e b z → ev G (W1 it 23) 0 z z' → J e b z')
    (hstep : ∀ e q x b z, es[e]? = some q → q.2.2.2 = some x → J e b z → ev G W0 (c0 + cost * e) σ z → LG G z n0 o A md es g → IT z it (A 1) md (es.drop (e + 1)) → ∀ K : α → Prop, (∀ b' z' W', ev G W' cost z z' → (∀ a k, W' a k → σ.2.1 ≤ a ∧ k ≠ 23) → J (e + 1) b' z' → K (tup b' (some it) z')) → BD K b (some it) (some x) z)
    (hX : ∀ b z, J es.length b z → ev G W0 (c0 + cost * es.length) σ z → LG G z n0 o A md es g → X b z) : lpI F (tup b0 (some it) z0) := by
  refine lp_n (fun n y => ∃ e b z, e ≤ es.length ∧ n = es.length - e ∧ y = tup b (some it) z ∧ J e b z ∧ ev G W0 (c0 + cost * e) σ z ∧ IT z it (A 1) md (es.drop e)) es.length ⟨0, b0, z0, Nat.zero_le _, rfl, rfl, h0, e0, hi⟩ ?_
  rintro n y ⟨e, b, z, he, rfl, rfl, hJ, ez, hi⟩ K hK
  have hz := h.ev ez W0_g
  refine hF K b (some it) z (step_k (d := es.take e) ez.t hi (by rw [List.take_append_drop]; exact hz.M) (fun hr => ?_) fun q r' hr υ eυ hi' => ?_)
  · have : e = es.length := by
      have := congrArg List.length hr
      simp at this
      omega
    subst this
    exact hX b z hJ ez hz
  · have hlt : e < es.length := by
      have := congrArg List.length hr
      simp at this
      omega
    have hq : es[e]? = some q := by
      rw [List.getElem?_eq_getElem hlt]
      rw [List.drop_eq_getElem_cons hlt] at hr
      injection hr with h1 h2
      rw [h1]
    have hr2 : r' = es.drop (e + 1) := by
      rw [List.drop_eq_getElem_cons hlt] at hr
      injection hr with h1 h2
      exact h2.symm
    subst hr2
    have e1 : ev G W0 (c0 + cost * e) σ υ := (ez.f1 eυ hit).le' (by omega)
    have hυ := h.ev e1 W0_g
    obtain ⟨-, x, hx, -⟩ := hυ.exc hq
    rw [hx]
    refine hstep e q x b υ hq hx (hJn _ _ _ _ hJ eυ) e1 hυ hi' K fun b' z' W' e2 hW hJ' => hK (es.length - (e + 1)) _ (by omega) ⟨e + 1, b', z', by omega, rfl, rfl, hJ', ?_, hi'.ev e2 fun w => (hW _ _ w).2 rfl⟩
    refine (e1.fr e2 fun a k w => (hW a k w).1).le' ?_
    rw [Nat.mul_add]; omega
end EACH
section QRY
variable {G : gE} {σ : hSt} {PX : Nat → Nat → hSt → Prop} {P : Int32 → hSt → Prop} {n0 : Nat} {o A : Nat → Nat} {md : Int32} {es : List eT} {g : Nat → Int32}
theorem isDef_k {nm x : Nat} (h : LG G σ n0 o A md es g) (hx : x < 40) (hn : σ.1 nm = some (.inr (5, nmC x))) (h1 : x / 10 = 1 → g 2 ≠ Int32.ofNat (x % 10) + 1 → P 1 σ) (h0 : ¬ (x / 10 = 1 ∧ g 2 ≠ Int32.ofNat (x % 10) + 1) → P 0 σ) : wX2_isDefault G P PX (some (A 0)) (some nm) σ := by
  unfold wX2_isDefault wX2_isDefaultb0 wX2_isDefaultb22 wX6_isWeather wX6_isWeatherb0
  refine ⟨rco hn, gI hn (by decide) rfl ⟨fun w => ⟨ok_b0, fun _ => ⟨ok_b0, h0 fun u => w ?_⟩, fun w => absurd rfl w⟩, fun w => ⟨ok_b1, fun w => absurd w (by decide), fun _ => gI hn (by decide) rfl (gI h.L (by decide) rfl ⟨fun w2 => ⟨ok_b0, h0 fun u => u.2 (i_sub1.mp w2)⟩, fun w2 => ⟨ok_b1, h1 ?_ fun u => w2 (i_sub1.mpr u)⟩⟩)⟩⟩⟩
  · rw [u.1]; rfl
  · rw [show (1 : Int32) = Int32.ofNat 1 from rfl, i_eq (by omega) (by omega)] at w
    exact w
theorem isOver_k {nm x : Nat} (hS : SI G σ) (h : LG G σ n0 o A md es g) (hx : x < 40) (hn : σ.1 nm = some (.inr (5, nmC x))) (h1 : x / 10 = 0 → ¬ g (141 + x % 10) ≤ 1 → P 1 σ) (h0 : ¬ (x / 10 = 0 ∧ ¬ g (141 + x % 10) ≤ 1) → P 0 σ) : wX2_isOverworked G P PX (some (A 0)) (some nm) σ := by
  unfold wX2_isOverworked wX2_isOverworkedb0 wX2_isOverworkedb23 wX6_isDog wX6_isDogb0
  refine ⟨rco hn, gI hn (by decide) rfl ⟨fun w => ⟨ok_b0, fun _ => ⟨ok_b0, h0 fun u => w ?_⟩, fun w => absurd rfl w⟩, fun w => ⟨ok_b1, fun w => absurd w (by decide), fun _ => gI hn (by decide) rfl ⟨h.rc, dog_k hS h (by omega) ⟨fun w2 => ⟨ok_b0, h0 fun u => u.2 (i_lt2.mp w2)⟩, fun w2 => ⟨ok_b1, h1 ?_ fun u => w2 (i_lt2.mpr u)⟩⟩⟩⟩⟩⟩
  · rw [u.1]; rfl
  · rw [show (0 : Int32) = Int32.ofNat 0 from rfl, i_eq (by omega) (by omega)] at w
    exact w
/-- an excuse's place, its cell -/
def xE (σ : hSt) (es : List eT) (g : Nat → Int32) (e x : Nat) : Prop := ∃ q, es[e]? = some q ∧ q.2.2.2 = some x ∧ σ.1 x = some (.inr (7, excF q.2.2.1 g e))
theorem LG.xcell (h : LG G σ n0 o A md es g) {e x : Nat} {q : eT} (hq : es[e]? = some q) (hx : q.2.2.2 = some x) : xE σ es g e x := by
  obtain ⟨-, x', h2, -, h3⟩ := h.exc hq
  rw [hx] at h2
  cases h2
  exact ⟨q, hq, hx, h3⟩
theorem LG.xI (h : LG G σ n0 o A md es g) {e : Nat} (he : e < cnt g) : ∃ q x, es[e]? = some q ∧ q.2.2.2 = some x ∧ xE σ es g e x := by
  have hl : e < es.length := by rw [h.len]; exact he
  have hq := List.getElem?_eq_getElem hl
  obtain ⟨-, x, h2, -⟩ := h.exc hq
  exact ⟨_, x, hq, h2, h.xcell hq h2⟩
theorem exL_k {e x : Nat} (h : xE σ es g e x) (hP : P (lft g e) σ) : rcv σ (some x) 7 ∧ wX8_left G P PX (some x) σ := by
  obtain ⟨q, -, -, h⟩ := h
  refine ⟨rco h, ?_⟩
  unfold wX8_left wX8_leftb0
  refine gI h (by decide) rfl (gI h (by decide) rfl ?_)
  rw [pos_nn]
  exact hP
theorem told_k {x : Int32} (h1 : x ≠ 0 → P 1 σ) (h0 : x = 0 → P 0 σ) : wX1_told G P PX x σ := by
  unfold wX1_told wX1_toldb0
  exact ⟨h0, h1⟩
theorem mod6 (y p : Nat) (hp : p < 6) : (6 * y + p) % 6 = p ∧ (6 * y + p) / 6 = y ∧ (6 * y + p) / 60 = y / 10 := by omega
/-- a story made -/
theorem story_k {K : hSt → Prop} {a nm x p : Nat} {c0 c1 : Value} (hS : SI G σ) (hp : p < 6) (hx : x < 40) (ha : σ.1 a = some (.inr (9, [c0, c1]))) (hn : σ.1 nm = some (.inr (5, nmC x))) (hK : ∀ τ, ev G (W1 a 9) 0 σ τ → KY τ 9 a (6 * x + p) → K τ) : wX10_init G K PX (some a) (some nm) (Int32.ofNat p) σ := by
  obtain ⟨m1, m2, m3⟩ := mod6 x p hp
  have hne : nm ≠ a := by
    rintro rfl
    rw [hn] at ha
    injection ha with w; injection w with w; injection w with w1 w2
    omega
  unfold wX10_init wX10_initb0
  refine ⟨⟨a, rfl⟩, pO hS ha (by decide) (by simp) (by decide) fun τ1 w1 e1 => pO e1.t w1.1 (by decide) (by simp) (by decide) fun τ2 w2 e2 => hK τ2 ((e1.tr e2).le' (by omega)) (Or.inr (Or.inl ⟨rfl, by omega, nm, ?_, ?_⟩))⟩
  · rw [m1]; exact w2.1
  · rw [m2, w2.o hne, w1.o hne]; exact hn
theorem would_k {p e s x : Nat} (hS : SI G σ) (h : LG G σ n0 o A md es g) (hp : p < 6) (hs : s < 3) (hx : xE σ es g e x) (hbd : bd G σ 3) (h1 : bel g p e s → ∀ τ, ev G W0 3 σ τ → P 1 τ) (h0 : ¬ bel g p e s → ∀ τ, ev G W0 3 σ τ → P 0 τ) : wX2_would G P PX (some (A 0)) (Int32.ofNat p) (some x) (Int32.ofNat s) σ := by
  obtain ⟨q, hq, hqx, hxc⟩ := hx
  obtain ⟨hnm, hk, ht, h40⟩ := h.nm hq
  obtain ⟨N, hset⟩ := h.set hs
  unfold wX2_would wX2_wouldb0
  refine h.aS hs (gR (h.sch hs) (by decide) rfl (nO hS hbd (fun w => by omega) fun a τ n hX ee => gR (n.o hxc) (by decide) rfl ⟨⟨a, rfl⟩, story_k ee.t hp h40 n.2.1 (n.o hnm) fun τ2 e2 hky => ?_⟩))
  have e12 : ev G W0 3 σ τ2 := (ee.f1 e2 (by rw [n.1]; exact Nat.le_refl _)).le' (by omega)
  have h2 := h.ev e12 W0_g
  obtain ⟨N2, hset2⟩ := h2.set hs
  obtain ⟨m1, m2, m3⟩ := mod6 q.2.1 p hp
  have hbit2 : hb g s (6 * q.2.1 + p) = true ↔ hbit g s p (kOf g e) (tOf g e) := by
    rw [hb_iff, m1, m3, hk, show (6 * q.2.1 + p) / 6 % 10 = tOf g e by rw [m2, ht]]
    exact ⟨fun w => w.2, fun w => ⟨by omega, w⟩⟩
  have hx2 : xE τ2 es g e x := h2.xcell hq hqx
  obtain ⟨q', hq', -, hxc2⟩ := id hx2
  rw [hq] at hq'
  cases hq'
  refine ⟨rco hset2.1, shas_k hset2 hky (fun hn => ⟨fun w => absurd rfl w, fun _ => ?_⟩) fun hy => ⟨fun _ => ?_, fun w => absurd w (by decide)⟩⟩
  · have hnb : ¬ hbit g s p (kOf g e) (tOf g e) := fun w => hn (hbit2.mpr w)
    unfold wX2_wouldb32
    refine ⟨fun w => absurd w (by decide), fun _ => exL_k hx2 (h2.aS hs (gI (h2.sch hs) (by decide) rfl ⟨fun w => ?_, fun w => gR hxc2 (by decide) rfl ⟨h2.rc, isDef_k h2 h40 (h2.nm hq).1 (fun u1 u2 => ⟨fun _ => ?_, fun w => absurd w (by decide)⟩) fun u => ⟨fun w => absurd rfl w, fun _ => ⟨ok_b1, h1 ⟨hnb, w, ?_⟩ τ2 e12⟩⟩⟩⟩))⟩
    · unfold wX2_wouldb70
      exact ⟨ok_b0, h0 (fun u => u.2.1 w) τ2 e12⟩
    · unfold wX2_wouldb70
      refine ⟨ok_b0, h0 (fun u => ?_) τ2 e12⟩
      obtain ⟨⟨-, e1⟩, ⟨-, e2⟩, -⟩ := h.ok.2 e (h.lt hq)
      rcases u.2.2 with u | u
      · rw [e1, ← hk, u1] at u
        exact u rfl
      · rw [e2, ← ht] at u
        exact u2 u
    · obtain ⟨⟨-, e1⟩, ⟨-, e2⟩, -⟩ := h.ok.2 e (h.lt hq)
      unfold tim
      rw [e1, e2, ← hk, ← ht]
      by_cases u3 : q.2.1 / 10 = 1
      · refine Or.inr ?_
        exact Classical.byContradiction fun u4 => u ⟨u3, u4⟩
      · refine Or.inl ?_
        rw [show (1 : Int32) = Int32.ofNat 1 from rfl, i_eq (by omega) (by omega)]
        exact u3
  · unfold wX2_wouldb32 wX2_wouldb70
    exact ⟨fun _ => ⟨ok_b0, h0 (fun u => u.1 (hbit2.mp hy)) τ2 e12⟩, fun w => absurd rfl w⟩
theorem over_e (h : LG G σ n0 o A md es g) {e : Nat} {q : eT} (hq : es[e]? = some q) : ovw g e ↔ (q.2.1 / 10 = 0 ∧ ¬ g (141 + q.2.1 % 10) ≤ 1) := by
  obtain ⟨-, hk, ht, -⟩ := h.nm hq
  obtain ⟨⟨hk4, e1⟩, -⟩ := h.ok.2 e (h.lt hq)
  unfold ovw
  rw [e1, ← ht, hk, show (0 : Int32) = Int32.ofNat 0 from rfl, i_eq (by omega) (by omega)]
theorem believers_k {p e x : Nat} (hS : SI G σ) (h : LG G σ n0 o A md es g) (hp : p < 6) (hx : xE σ es g e x) (hb : bd G σ 9) (hP : ∀ τ, ev G W0 9 σ τ → P (nBel g p e) τ) : wX2_believers G P PX (some (A 0)) (Int32.ofNat p) (some x) σ := by
  obtain ⟨q, hq, hqx, -⟩ := hx
  unfold wX2_believers wX2_believersb0
  refine lp_n (fun n y => ∃ s z, s ≤ 3 ∧ n = 3 - s ∧ y = (some (A 0), Int32.ofNat p, some x, sN (fun s => tw (bel g p e s)) s, Int32.ofNat s, z) ∧ ev G W0 (3 * s) σ z) 3 ⟨0, σ, by omega, rfl, rfl, ev.refl hS⟩ ?_
  rintro n y ⟨s, z, hs, rfl, rfl, ez⟩ K hK
  unfold wX2_believersb5
  have hz := h.ev ez W0_g
  rw [show (3 : Int32) = Int32.ofNat 3 from rfl, i_le (by omega) (by omega)]
  refine ⟨fun w => ?_, fun w => ⟨hz.rc, ?_⟩⟩
  · have : s = 3 := by omega
    subst this
    exact hP z (ez.le' (by omega))
  · have go : ∀ (v : Int32) τ, v = tw (bel g p e s) → ev G W0 3 z τ → K (some (A 0), Int32.ofNat p, some x, sN (fun s => tw (bel g p e s)) s + v, Int32.ofNat s + 1, τ) := by
      rintro v τ rfl e1
      rw [sN_s, i_succ]
      exact hK (3 - (s + 1)) _ (by omega) ⟨s + 1, τ, by omega, rfl, rfl, (ez.tr e1).le' (by omega)⟩
    refine would_k ez.t hz hp (by omega) (hz.xcell hq hqx) (ez.rm hb (by omega)) (fun u τ e1 => told_k (fun _ => go _ τ (tw_1 u).symm e1) fun w => absurd w (by decide)) fun u τ e1 => told_k (fun w => absurd rfl w) fun _ => go _ τ (tw_0 u).symm e1
/-- a count over the excuses: the loop's shape -/
theorem due_k (hS : SI G σ) (h : LG G σ n0 o A md es g) (hb : bd G σ 9) (hP : ∀ τ, ev G W0 9 σ τ → P (nDue g) τ) : wX2_due G P PX (some (A 0)) σ := by
  unfold wX2_due wX2_dueb0
  refine gR h.L (by decide) rfl (iter_k hS h.M hb fun z0 it e0 hit hi => ?_)
  refine each_k (fun b it z => (b, it, z)) (fun K b it z h => by dsimp only; unfold wX2_dueb15; exact h) (fun e b z => b = sN (fun e => tw (g (102 + e) = 3)) e) 0 h e0 hit hi rfl (fun e b z z' hJ _ => hJ) (fun e q x b z hq hx hJ ez hz _ K hK => ?_) fun b z hJ ez hz => ?_
  · subst hJ
    obtain ⟨q', -, -, hxc⟩ := hz.xcell hq hx
    have go : ∀ v, v = tw (g (102 + e) = 3) → wX2_dueb48 G P PX K (some it) (sN (fun e => tw (g (102 + e) = 3)) e) v z := by
      intro v hv
      unfold wX2_dueb48
      refine told_k (fun w => ?_) fun w => ?_
      · refine hK _ z W0 (ev.refl ez.t) (fun a k w => w.elim) ?_
        rw [← sN_s]
        by_cases hd : g (102 + e) = 3
        · rw [tw_1 hd]
        · rw [tw_0 hd] at hv; exact absurd hv w
      · refine hK _ z W0 (ev.refl ez.t) (fun a k w => w.elim) ?_
        rw [← sN_s]
        by_cases hd : g (102 + e) = 3
        · rw [tw_1 hd] at hv; rw [hv] at w; exact absurd w (by decide)
        · rw [tw_0 hd]
    refine ⟨cO hxc (by decide), gI hxc (by decide) rfl ⟨fun w => go 0 (tw_0 fun u => w ?_).symm, fun w => go 1 (tw_1 ?_).symm⟩⟩
    · rw [u]; rfl
    · rw [i_sub1.mp w.symm]; rfl
  · subst hJ
    rw [h.len]
    exact hP z (ez.le' (by omega))
end QRY
