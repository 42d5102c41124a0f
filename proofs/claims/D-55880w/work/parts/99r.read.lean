/-! the object reads its input -/
set_option maxRecDepth 100000
/-- orders done in a row: one cannot be, one is refused, or all are done -/
abbrev rR : Type := Option (Int32 × Int32) ⊕ (Nat → Int32)
def rnR : List cT → (Nat → Int32) → rR → Prop
  | [], g, o => o = .inr g
  | q :: qs, g, o => (¬ cR q.1 q.2.1 q.2.2.2.2 ∧ o = .inl none) ∨ (cR q.1 q.2.1 q.2.2.2.2 ∧ ∃ r d, cDo g q.1 q.2.1 q.2.2.1 q.2.2.2.1 q.2.2.2.2 (.inl (r, d)) ∧ o = .inl (some (r, d))) ∨ (cR q.1 q.2.1 q.2.2.2.2 ∧ ∃ v g', cDo g q.1 q.2.1 q.2.2.1 q.2.2.2.1 q.2.2.2.2 (.inr (v, g')) ∧ rnR qs g' o)
/-- an order's numbers -/
def qOK (q : cT) : Prop := (1 ≤ q.1 ∧ q.1 ≤ 9) ∧ q.2.2.1 < 4 ∧ q.2.2.2.1 < 10 ∧ (q.1 = 8 → isE q.2.2.2.2)
theorem qOK_mk {w k t : Nat} {one ot : Int32} (h : 1 ≤ w ∧ w ≤ 9) (hk : k < 4) (ht : t < 10) (h8 : w = 8 → isE ot) : qOK (w, one, k, t, ot) := ⟨h, hk, ht, h8⟩
theorem oA_ok {T : List Nat} {i i' : Nat} {q : cT} (h : oA T i q i') : qOK q := by
  rcases h with ⟨-, p, k, t, d, -, hn, hk, -, rfl, h⟩ | ⟨-, k, t, hn, hk, rfl, h⟩ | ⟨-, k, t, p, d, hn, hk, -, -, rfl, h⟩ | ⟨-, k, t, hn, hk, rfl, h⟩ | ⟨-, k, t, d, hn, hk, -, rfl, h⟩ | ⟨-, p, k, t, d, -, hn, hk, -, rfl, h⟩ | ⟨-, p, d, -, -, rfl, h⟩ | ⟨-, d, hd8, rfl, h⟩ | ⟨-, rfl, h⟩
  · exact qOK_mk (by decide) hk hn.2.2 (fun w => absurd w (by decide))
  · exact qOK_mk (by decide) hk hn.2.2 (fun w => absurd w (by decide))
  · exact qOK_mk (by decide) hk hn.2.2 (fun w => absurd w (by decide))
  · exact qOK_mk (by decide) hk hn.2.2 (fun w => absurd w (by decide))
  · exact qOK_mk (by decide) hk hn.2.2 (fun w => absurd w (by decide))
  · exact qOK_mk (by decide) hk hn.2.2 (fun w => absurd w (by decide))
  · exact qOK_mk (by decide) (by decide) (by decide) (fun w => absurd w (by decide))
  · have := hd8.2
    exact qOK_mk (by decide) (by decide) (by decide) (fun _ => ⟨i_nn (by omega), by rw [show (9 : Int32) = Int32.ofNat 9 from rfl, i_lt (by omega) (by omega)]; omega⟩)
  · exact qOK_mk (by decide) (by decide) (by decide) (fun w => absurd w (by decide))
theorem oCr_ok {T : List Nat} : ∀ (qs : List cT) (m : Nat), oCr T qs m → ∀ q ∈ qs, qOK q := by
  intro qs
  induction qs with
  | nil => intro m h; exact h.elim
  | cons q r ih =>
    intro m h q' hq'
    rcases h with ⟨rfl, h⟩ | ⟨k, h1, -, h3⟩
    · rcases List.mem_cons.mp hq' with rfl | w
      · exact oA_ok h
      · exact absurd w (by simp)
    · rcases List.mem_cons.mp hq' with rfl | w
      · exact oA_ok h3
      · exact ih k h1 q' w
theorem oC_ok {T : List Nat} {qs : List cT} {m : Nat} (h : oC T qs m) {q : cT} (hq : q ∈ qs) : qOK q := oCr_ok _ _ h q (List.mem_reverse.mpr hq)
theorem oC_ne {T : List Nat} {m : Nat} (h : oC T [] m) : False := h
theorem CMs_at {G : gE} {z : hSt} : ∀ (cs : List Nat) (qs : List cT), CMs G z cs qs → ∀ (i c : Nat), cs[i]? = some c → ∃ q, qs[i]? = some q ∧ CMD G z c q := by
  intro cs
  induction cs with
  | nil => intro qs h i c hc; simp at hc
  | cons c0 cs ih =>
    intro qs h i c hc
    cases qs with
    | nil => exact h.elim
    | cons q qs =>
      cases i with
      | zero =>
        rw [List.getElem?_cons_zero] at hc
        injection hc with hc
        subst hc
        exact ⟨q, rfl, h.1⟩
      | succ i =>
        rw [List.getElem?_cons_succ] at hc
        obtain ⟨q', h1, h2⟩ := ih qs h.2 i c hc
        exact ⟨q', by rw [List.getElem?_cons_succ]; exact h1, h2⟩
theorem oB_le {T : List Nat} {i j : Nat} (h : oB T i j) : j ≤ i + 6 := by
  have nm : ∀ i, nmB T i j → j ≤ i + 1 := fun i w => by
    rcases w with ⟨-, w⟩ | ⟨-, -, w⟩ <;> omega
  have bh : ∀ m i, bhB T m i j → j ≤ i + 1 := fun m i w => by
    rcases w with ⟨-, w⟩ | ⟨-, -, w⟩ <;> omega
  rcases h with ⟨-, h⟩ | ⟨-, -, h⟩ | ⟨-, -, h⟩ | ⟨-, h⟩ | ⟨-, -, -, h⟩ | ⟨-, -, -, h⟩ | ⟨-, -, h⟩ | ⟨-, -, h⟩ | ⟨-, -, -, h⟩ | ⟨-, -, h⟩
  · omega
  · omega
  · have := nm _ h; omega
  · have := nm _ h; omega
  · have := bh _ _ h; omega
  · have := bh _ _ h; omega
  · have := bh _ _ h; omega
  · have := bh _ _ h; omega
  · have := bh _ _ h; omega
  · have := bh _ _ h; omega
theorem oE_le {T : List Nat} {j : Nat} (h : oE T j) : j ≤ T.length + 6 := by
  rcases h with h | ⟨qs, m, -, hm, ⟨-, h⟩ | ⟨-, h⟩⟩
  · have := oB_le h; omega
  · omega
  · have := oB_le h; omega
/-- the object's state, all of it named -/
def CSb (G : gE) (z : hSt) (x N l : Nat) (sv : Option Nat) (H arr : Nat) (mdh : Int32) (hs : List Nat) (ib arb ln : Nat) (bt rf : Option Nat) (g : Nat → Int32) (hg : List (Nat → Int32)) (sg : Option (Nat → Int32)) (T U : List Nat) (er wy dt : Int32) : Prop :=
  z.1 x = some (.inr (0, [va_rf (some l), va_rf sv, va_rf (some H), va_rf (some ib), va_rf (some ln), va_rf bt, va_rf rf])) ∧ LQ G z N l g ∧ oSv G z N sv sg ∧ (AL G z H arr mdh hs ∧ hs.length ≤ 6 ∧ hLs G z N hs hg) ∧ (SB G z ib arb T ∧ T.length ≤ 60) ∧ (STq z ln (fun a => a ≠ arb) U ∧ U.length ≤ 60) ∧ oBT z bt er ∧ oRF z rf wy dt
section RD
variable {G : gE} {σ : hSt} {PX : Nat → Nat → hSt → Prop} {P : Int32 → hSt → Prop} {x N : Nat} {g : Nat → Int32} {hg : List (Nat → Int32)} {sg : Option (Nat → Int32)} {T U : List Nat} {er wy dt : Int32} {l H arr ib arb ln : Nat} {sv bt rf : Option Nat} {mdh : Int32} {hs : List Nat}
theorem CSb.evp {W : Nat → Nat → Prop} {c : Nat} {τ : hSt} (h : CSb G σ x N l sv H arr mdh hs ib arb ln bt rf g hg sg T U er wy dt) (e : ev G W c σ τ) (hW : ∀ a k, W a k → (k = 10 ∨ (k = 15 ∧ a ≠ H) ∨ (k = 105 ∧ a ≠ arr))) : CSb G τ x N l sv H arr mdh hs ib arb ln bt rf g hg sg T U er wy dt := by
  obtain ⟨h1, h2, h3, ⟨h4, h4', h4''⟩, ⟨h5, h5'⟩, ⟨h6, h6'⟩, h7, h8⟩ := h
  have no : ∀ b k, (k ≠ 10 ∧ k ≠ 15 ∧ k ≠ 105) → ¬ W b k := fun b k q w => by have := hW b k w; omega
  have hWg : Wg W := fun b => ⟨no _ _ (by omega), no _ _ (by omega), no _ _ (by omega), no _ _ (by omega), no _ _ (by omega), no _ _ (by omega), no _ _ (by omega), no _ _ (by omega), no _ _ (by omega), no _ _ (by omega), no _ _ (by omega), no _ _ (by omega), no _ _ (by omega), no _ _ (by omega), no _ _ (by omega)⟩
  exact ⟨e.o h1 (no _ _ (by omega)) (by decide) (by decide), h2.ev e hWg, oSv_ev h3 e hWg, ⟨h4.ev e (fun w => by have := hW _ _ w; omega) (fun w => by have := hW _ _ w; omega), h4', hLs_ev e hWg _ _ h4''⟩, ⟨h5.ev e (no _ _ (by omega)) (no _ _ (by omega)), h5'⟩, ⟨h6.ev e (fun b => no _ _ (by omega)) fun b _ => no _ _ (by omega), h6'⟩, oBT_ev h7 e fun b => no _ _ (by omega), oRF_ev h8 e fun b => no _ _ (by omega)⟩
theorem CSb.w0 {c : Nat} {τ : hSt} (h : CSb G σ x N l sv H arr mdh hs ib arb ln bt rf g hg sg T U er wy dt) (e : ev G W0 c σ τ) : CSb G τ x N l sv H arr mdh hs ib arb ln bt rf g hg sg T U er wy dt := h.evp e fun _ _ w => w.elim
theorem CSb.cs (h : CSb G σ x N l sv H arr mdh hs ib arb ln bt rf g hg sg T U er wy dt) : CS G σ x N g hg sg T U er wy dt := ⟨l, sv, H, arr, mdh, hs, ib, arb, ln, bt, rf, h⟩
/-- the object's own cell written -/
theorem CSb.w1 {c : Nat} {τ : hSt} (h : CSb G σ x N l sv H arr mdh hs ib arb ln bt rf g hg sg T U er wy dt) (e : ev G (W1 x 0) c σ τ) : LQ G τ N l g ∧ oSv G τ N sv sg ∧ (AL G τ H arr mdh hs ∧ hs.length ≤ 6 ∧ hLs G τ N hs hg) ∧ (SB G τ ib arb T ∧ T.length ≤ 60) ∧ (STq τ ln (fun a => a ≠ arb) U ∧ U.length ≤ 60) ∧ oBT τ bt er ∧ oRF τ rf wy dt := by
  obtain ⟨h1, h2, h3, ⟨h4, h4', h4''⟩, ⟨h5, h5'⟩, ⟨h6, h6'⟩, h7, h8⟩ := h
  have nx : ∀ b k, k ≠ 0 → ¬ W1 x 0 b k := fun b k q w => q w.2
  have hWg : Wg (W1 x 0) := W1_g (by decide)
  exact ⟨h2.ev e hWg, oSv_ev h3 e hWg, ⟨h4.ev e (nx _ _ (by omega)) (nx _ _ (by omega)), h4', hLs_ev e hWg _ _ h4''⟩, ⟨h5.ev e (nx _ _ (by omega)) (nx _ _ (by omega)), h5'⟩, ⟨h6.ev e (fun b => nx _ _ (by omega)) fun b _ => nx _ _ (by omega), h6'⟩, oBT_ev h7 e fun b => nx _ _ (by omega), oRF_ev h8 e fun b => nx _ _ (by omega)⟩
theorem CSb.lt (hS : SI G σ) (h : CSb G σ x N l sv H arr mdh hs ib arb ln bt rf g hg sg T U er wy dt) : H < σ.2.1 ∧ arr < σ.2.1 ∧ arb < σ.2.1 ∧ ib < σ.2.1 := by
  obtain ⟨h1, h2, h3, ⟨h4, -⟩, ⟨h5, -⟩, -⟩ := h
  obtain ⟨cap, f, q1, q2, -⟩ := h4
  obtain ⟨cap', f', ml, r1, r2, -⟩ := h5
  exact ⟨hS.lt q1, hS.lt q2, hS.lt r2, hS.lt r1⟩
/-- a changed copy takes the ledger's place -/
theorem CSb.push {c l' N' arr' : Nat} {md' : Int32} {g' : Nat → Int32} {τ : hSt} (h : CSb G σ x N l sv H arr mdh hs ib arb ln bt rf g hg sg T U er wy dt) (e : ev G (Wc x H) c σ τ) (hx : τ.1 x = some (.inr (0, [va_rf (some l'), va_rf sv, va_rf (some H), va_rf (some ib), va_rf (some ln), va_rf bt, va_rf rf]))) (hl : LQ G τ N' l' g') (hN : N ≤ N') (hA : AL G τ H arr' md' ((if hs.length = 6 then hs.tail else hs) ++ [l])) : CS G τ x N' g' (hAdd hg g) sg T U er wy dt := by
  obtain ⟨h1, h2, h3, ⟨h4, h4', h4''⟩, ⟨h5, h5'⟩, ⟨h6, h6'⟩, h7, h8⟩ := h
  have hlen := hLs_len _ _ h4''
  refine ⟨l', sv, H, arr', md', _, ib, arb, ln, bt, rf, hx, hl, oSv_mono (oSv_ev h3 e Wc_g) hN, ⟨hA, ?_, ?_⟩, ⟨h5.ev e (by omega) (by omega), h5'⟩, ⟨h6.ev e (fun b => by omega) fun b _ => by omega, h6'⟩, oBT_ev h7 e fun b => by omega, oRF_ev h8 e fun b => by omega⟩
  · have := hAdd_len (g := l) h4'
    unfold hAdd hLen at this
    rw [this]
    by_cases e : hs.length = 6
    · rw [if_pos e]; omega
    · rw [if_neg e]; omega
  · have hl0 : LQ G τ N' l g := (h2.ev e Wc_g).mono hN
    have hh := hLs_mono hN _ _ (hLs_ev e Wc_g _ _ h4'')
    unfold hAdd
    rw [← hlen]
    by_cases e : hs.length = 6
    · rw [if_pos e, if_pos e]; exact hLs_app hl0 _ _ (hLs_tail _ _ hh)
    · rw [if_neg e, if_neg e]; exact hLs_app hl0 _ _ hh
/-- the loop over the commands -/
theorem rloop_k {b s L arl it n1 : Nat} {mdl : Int32} {cs : List Nat} {qs : List cT} {o A : Nat → Nat} {md : Int32} {es : List eT} {z : hSt} (hB : CSb G σ x N l sv H arr mdh hs ib arb ln bt rf g hg sg T U er wy dt) (hps : σ.1 b = some (.inr (10, [va_rf (some s), va_rf (some L), .int (Int32.ofNat n1)]))) (hAL : AL G σ L arl mdl cs) (hCs : CMs G σ cs qs) (hq : ∀ q ∈ qs, qOK q) (c0 : Nat) (hc0 : c0 ≤ 10800) (e0 : ev G W0 c0 σ z) (hL : LG G z σ.2.1 o A md es g) (hi : LI z it L mdl 0) (hit : σ.2.1 ≤ it)
    (hbb : bd G σ (c0 + 2900 + 3300 * qs.length))
    (hI : ∀ e τ, rnR qs g (.inl none) → ev G Wo (c0 + 3300 * qs.length + 40) σ τ → CS G τ x N g hg sg T U er wy dt → τ.1 e = some (.inr (31, [])) → PX 31 e τ)
    (hR : ∀ r d e τ, rnR qs g (.inl (some (r, d))) → ev G Wo (c0 + 3300 * qs.length + 40) σ τ → CS G τ x N g hg sg T U er r d → τ.1 e = some (.inr (30, [])) → PX 30 e τ)
    (hP : ∀ g' τ, rnR qs g (.inr g') → ev G Wo (c0 + 3300 * qs.length + 40) σ τ → CS G τ x (N + qs.length) g' (hAdd hg g) sg T U er wy dt → P (Int32.ofNat qs.length) τ) :
    lpI (fun (K43 : (Option Nat × Option Nat × Option Nat × Option Nat × hSt) → Prop) (y : (Option Nat × Option Nat × Option Nat × Option Nat × hSt)) => wX1_readb43 G P PX K43 (y.1) (y.2.1) (y.2.2.1) (y.2.2.2.1) (y.2.2.2.2)) (some x, some b, some (A 0), some it, z) := by
  have hlen := CMs_len _ _ hCs
  have hJ0 : GJ N g := hB.2.1.2
  refine lp_n (fun n y => ∃ i z o md es gi, i ≤ cs.length ∧ n = cs.length - i ∧ y = (some x, some b, some (A 0), some it, z) ∧ ev G W0 (c0 + 3300 * i) σ z ∧ LG G z σ.2.1 o A md es gi ∧ GJ (N + i) gi ∧ LI z it L mdl i ∧ ∀ out, rnR (qs.drop i) gi out → rnR qs g out) cs.length ⟨0, z, o, md, es, g, Nat.zero_le _, rfl, rfl, e0, hL, hJ0, hi, fun out w => by rw [List.drop_zero] at w; exact w⟩ ?_
  rintro n y ⟨i, z, o, md, es, gi, hil, rfl, rfl, ez, hLz, hJ, hIt, hrun⟩ K hK
  unfold wX1_readb43
  dsimp only
  have hAz := hAL.ev ez (fun w => w) fun w => w
  have hBz := hB.w0 ez
  have hpz := ez.o hps (fun w => w) (by decide) (by decide)
  refine li_step ez.t hIt hAz hil (fun he => ?_) fun c hc υ eυ hi' => ?_
  · refine gR hpz (by decide) rfl ⟨hAz.rc, al_size hAz ⟨rco hBz.1, ?_⟩⟩
    obtain ⟨⟨n0, o1, A1, md1, es1, hL1, hA10⟩, hJ1⟩ := hBz.2.1
    have hl1 := hL1.L
    rw [hA10] at hl1
    obtain ⟨-, -, -, ⟨h4, h4', h4''⟩, -⟩ := id hBz
    refine become_k ez.t hBz.1 rfl rfl rfl h4 h4' hl1 (ez.rm hbb (by omega)) fun τ arr' md' e1 hx' hA' => ?_
    have hdr : qs.drop i = [] := List.drop_eq_nil_of_le (by omega)
    rw [hlen]
    refine hP gi τ (hrun _ (by rw [hdr]; rfl)) (((ez.up0 (W := Wo)).tr (e1.wo (c' := 30) (fun a k w => by show k ≠ 4 ∧ k ≠ 100 ∧ k ≠ 101 ∧ k ≠ 103 ∧ k ≠ 104; omega) (Nat.le_refl _))).le' (by omega)) (hBz.push e1 hx' ⟨⟨_, o, A, md, es, hLz.ev e1 Wc_g, rfl⟩, by rw [← hlen, ← he]; exact hJ⟩ (by omega) hA')
  · have e1 : ev G W0 (c0 + 3300 * i) σ υ := (ez.f1 eυ hit).le' (by omega)
    have hCυ := CMs_ev e1 (fun c w => w) W0_k cs qs hCs
    obtain ⟨q, hqi, r, hcell, hnm⟩ := CMs_at cs qs hCυ i c hc
    have hok := hq q (List.mem_of_getElem? hqi)
    have hi1 : i < cs.length := (List.getElem?_eq_some_iff.mp hc).1
    have hBυ := hB.w0 e1
    have hLυ := hLz.ev eυ (W1_g (a := it) (k := 19) (by decide))
    have hdrop : qs.drop i = q :: qs.drop (i + 1) := by
      obtain ⟨hlt, hv⟩ := List.getElem?_eq_some_iff.mp hqi
      rw [List.drop_eq_getElem_cons hlt, hv]
    refine ⟨cO hcell (by decide), rco hcell, in_k eυ.t hLυ hJ.1.iOK e1.le (e1.rm hbb (by omega)) hcell hok.1 hnm hok.2.1 hok.2.2.1 (fun hn τ e e2 he => ?_) (fun rs d τ q' hr ho e2 hq' => ?_) fun v g' τ o' md' es' hr ho e2 hL' => ?_⟩
    · exact Or.inr (Or.inr ⟨by decide, hI e τ (hrun _ (by rw [hdrop]; exact Or.inl ⟨hn, rfl⟩)) (((e1.tr e2).up0 (W := Wo)).le' (by omega)) (hBυ.w0 e2).cs he⟩)
    · refine Or.inl ⟨rfl, ?_⟩
      unfold wX1_readb101
      have hB2 := hBυ.w0 e2
      refine ⟨rco hB2.1, kept_k e2.t hB2.1 rfl ((e1.tr e2).rm hbb (by omega)) fun τ2 ee e3 hx' he => ⟨rco he, fun q0 hq0 => ?_⟩⟩
      cases hq0
      obtain ⟨w1, w2, w3, w4, w5, w6, -⟩ := hB2.w1 e3
      obtain ⟨fq, b1, b2⟩ := hq'
      exact hR rs d _ τ2 (hrun _ (by rw [hdrop]; exact Or.inr (Or.inl ⟨hr, rs, d, ho, rfl⟩))) ((((e1.tr e2).up0 (W := Wo)).tr (e3.wo (c' := 7) (fun a k w => w1x_o w) (Nat.le_refl _))).le' (by omega)) ⟨l, sv, H, arr, mdh, hs, ib, arb, ln, bt, some q', hx', w1, w2, w3, w4, w5, w6, Or.inr ⟨q', rfl, ⟨fq, e3.o b1 (fun w => by have := w.2; omega) (by decide) (by decide), b2⟩, cDo_r ho⟩⟩ he
    · refine hK (cs.length - (i + 1)) _ (by omega) ⟨i + 1, τ, o', md', es', g', hi1, rfl, rfl, ((e1.fr e2 fun a k w => w.1).le' (by omega)), hL', GJ_cDo hJ hok.2.1 hok.2.2.1 hr ho, hi'.ev e2 (fun w => w.2 rfl), fun out w => hrun _ ?_⟩
      rw [hdrop]
      exact Or.inr (Or.inr ⟨hr, v, g', ho, w⟩)
theorem c_read (hS : SI G σ) (hC : CS G σ x N g hg sg T U er wy dt) (hb : bd G σ 24000) (hb2 : bd G σ (17500 + 3300 * ((T.length + 1) / 2)))
    (hE : ∀ j e τ, oE T j → ev G Wo 3600 σ τ → CS G τ x N g hg sg [] U (Int32.ofNat j) wy dt → τ.1 e = some (.inr (29, [])) → PX 29 e τ)
    (hI : ∀ qs e τ, oC T qs T.length → rnR qs g (.inl none) → ev G Wo (14300 + 3300 * qs.length) σ τ → CS G τ x N g hg sg [] U er wy dt → τ.1 e = some (.inr (31, [])) → PX 31 e τ)
    (hR : ∀ qs r d e τ, oC T qs T.length → rnR qs g (.inl (some (r, d))) → ev G Wo (14300 + 3300 * qs.length) σ τ → CS G τ x N g hg sg [] U er r d → τ.1 e = some (.inr (30, [])) → PX 30 e τ)
    (hP : ∀ qs g' τ, oC T qs T.length → rnR qs g (.inr g') → ev G Wo (14300 + 3300 * qs.length) σ τ → CS G τ x (N + qs.length) g' (hAdd hg g) sg [] U er wy dt → P (Int32.ofNat qs.length) τ) : wX1_read G P PX (some x) σ := by
  obtain ⟨l, sv, H, arr, mdh, hs, ib, arb, ln, bt, rf, hB⟩ := hC
  change CSb G σ x N l sv H arr mdh hs ib arb ln bt rf g hg sg T U er wy dt at hB
  obtain ⟨hHl, hal, habl, hibl⟩ := hB.lt hS
  have hT60 := hB.2.2.2.2.1.2
  unfold wX1_read wX1_readb0
  refine nO hS (hb.mono (by omega)) (fun w => by omega) fun b z2 n2 hX2 e2 => ?_
  have hbσ : σ.2.1 ≤ b := by rw [n2.1]; exact Nat.le_refl _
  have hB2 := hB.w0 e2
  refine gR hB2.1 (by decide) rfl ⟨hB2.2.2.2.2.1.1.rc, sb_string e2.t hB2.2.2.2.2.1.1 (e2.rm hb (by omega)) fun z4 s e4 hs_le hsT => ⟨⟨b, rfl⟩, ?_⟩⟩
  have e24 : ev G W0 80 σ z4 := (e2.tr e4).le' (by omega)
  have hb4 := e4.o n2.2.1 (fun w => w) (by decide) (by decide)
  unfold wX11_init wX11_initb0
  refine ⟨⟨b, rfl⟩, nO e4.t (e24.rm hb (by omega)) (fun w => by omega) fun L z5 n5 hX5 e5 => ⟨⟨L, rfl⟩, al_new e5.t n5.2.1 rfl fun z6 e6 hA6 => ?_⟩⟩
  have hLz4 : z4.2.1 ≤ L := by rw [n5.1]; exact Nat.le_refl _
  have hLσ : σ.2.1 ≤ L := Nat.le_trans e24.le hLz4
  have e46 : ev G W0 4 z4 z6 := (e5.f1 e6 hLz4).le' (by omega)
  refine pO e46.t (e46.o hb4 (fun w => w) (by decide) (by decide)) (by decide) (by simp) (by decide) fun z7 w7 e7 => pO e7.t w7.1 (by decide) (by simp) (by decide) fun z8 w8 e8 => ?_
  have e68 : ev G (W1 b 10) 0 z6 z8 := (e7.tr e8).le' (by omega)
  have e08 : ev G W0 84 σ z8 := ((e24.tr e46).f1 e68 hbσ).le' (by omega)
  have hB8 := hB.w0 e08
  have hs8 : ST z8 s T := (((hsT.st).ev e46 fun x => ⟨fun w => w, fun w => w⟩).ev e68 fun x => ⟨fun w => by have := w.2; omega, fun w => by have := w.2; omega⟩)
  have hA8 := hA6.ev e68 (fun w => by have := w.2; omega) fun w => by have := w.2; omega
  refine gR hB8.1 (by decide) rfl ⟨hB8.2.2.2.2.1.1.rc, sb_clear e08.t hB8.2.2.2.2.1.1 (e08.rm hb (by omega)) fun z9 arb' e9 har hSB9 => ⟨rco (e9.o w8.1 (fun w => by have := w.2; omega) (by decide) (by decide)), ?_⟩⟩
  have hb9 := e9.o w8.1 (fun w => by have := w.2; omega) (by decide) (by decide)
  have hibz8 : ib < z8.2.1 := Nat.lt_of_lt_of_le hibl e08.le
  -- the object, its input emptied
  have hB9 : CSb G z9 x N l sv H arr mdh hs ib arb' ln bt rf g hg sg [] U er wy dt := by
    obtain ⟨h1, h2, h3, ⟨h4, h4', h4''⟩, ⟨h5, h5'⟩, ⟨h6, h6'⟩, h7, h8⟩ := hB8
    have nx : ∀ b k, k ≠ 16 → ¬ W1 ib 16 b k := fun b k q w => q w.2
    have hWg : Wg (W1 ib 16) := W1_g (by decide)
    have h6a : STq z8 ln (fun a => a ≠ arb ∧ a < z8.2.1) U := h6.mono fun a e ha w => ⟨w, e08.t.lt ha⟩
    have h6b := h6a.ev e9 (fun b => nx _ _ (by omega)) fun b _ => nx _ _ (by omega)
    exact ⟨e9.o h1 (nx _ _ (by omega)) (by decide) (by decide), h2.ev e9 hWg, oSv_ev h3 e9 hWg, ⟨h4.ev e9 (nx _ _ (by omega)) (nx _ _ (by omega)), h4', hLs_ev e9 hWg _ _ h4''⟩, ⟨hSB9, by simp⟩, ⟨h6b.mono fun a e ha w => by omega, h6'⟩, oBT_ev h7 e9 fun b => nx _ _ (by omega), oRF_ev h8 e9 fun b => nx _ _ (by omega)⟩
  have hs9 : ST z9 s T := hs8.ev e9 fun x => ⟨fun w => by have := w.2; omega, fun w => by have := w.2; omega⟩
  have hA9 := hA8.ev e9 (fun w => by have := w.2; omega) fun w => by have := w.2; omega
  have e09 : ev G Wo 155 σ z9 := ((e08.up0 (W := Wo)).tr (e9.wo (c' := 71) (fun a k w => by have := w.2; show k ≠ 4 ∧ k ≠ 100 ∧ k ≠ 101 ∧ k ≠ 103 ∧ k ≠ 104; omega) (Nat.le_refl _))).le' (by omega)
  have hH : H < σ.2.1 := hHl
  have hpo : ∀ {n : Nat} {z : hSt}, ev G (Wp b L σ.2.1) n z9 z → CSb G z x N l sv H arr mdh hs ib arb' ln bt rf g hg sg [] U er wy dt := fun e => hB9.evp e fun a k w => by omega
  have hwo : ∀ {n : Nat} {z : hSt}, ev G (Wp b L σ.2.1) n z9 z → ev G Wo n z9 z := fun e => e.wo (fun a k w => by show k ≠ 4 ∧ k ≠ 100 ∧ k ≠ 101 ∧ k ≠ 103 ∧ k ≠ 104; omega) (Nat.le_refl _)
  refine all_f (n0 := σ.2.1) e9.t (Nat.le_trans e08.le e9.le) (fun w => absurd e9.t.2.2.2.2.1.1 w) ⟨hb9, hs9, Nat.zero_le _⟩ hA9 hT60 (e09.rm hb (by omega)) (fun qs cs z10 arr' md' hoc e10 hA10 hCs hps10 => ?_) fun j z10 q hj e10 hq => ?_
  · have hB10 := hpo e10
    have hlen := oC_len hoc
    have hml : qs.length ≤ (T.length + 1) / 2 := by omega
    have hbz : bd G z10 20600 := (e09.tr (hwo e10)).rm hb (by omega)
    have hbz2 : bd G z10 (14100 + 3300 * qs.length) := (e09.tr (hwo e10)).rm hb2 (by omega)
    obtain ⟨⟨n0, o0, A0, md0, es0, hL0, hA00⟩, hJ0⟩ := hB10.2.1
    subst hA00
    refine gR hB10.1 (by decide) rfl ⟨hL0.rc, copy_k e10.t hL0 (hbz.mono (by omega)) fun z11 o' A' md'' es' e11 hL' => ?_⟩
    have hA11 := hA10.ev e11 (fun w => w) fun w => w
    refine gR (e11.o hps10.1 (fun w => w) (by decide) (by decide)) (by decide) rfl ⟨hA11.rc, li_new e11.t hA11 (e11.rm hbz (by omega)) fun z12 it e12 hit hi => ?_⟩
    exact rloop_k hB10 hps10.1 hA10 hCs (fun q hq => oC_ok hoc hq) 10705 (by omega) ((e11.tr e12).le' (by omega)) (hL'.ev e12 W0_g) hi (Nat.le_trans e11.le hit) (hbz2.mono (by omega)) (fun e τ hr ev1 h1 h2 => hI qs e τ hoc hr ((e09.tr ((hwo e10).tr ev1)).le' (by omega)) h1 h2) (fun r d e τ hr ev1 h1 h2 => hR qs r d e τ hoc hr ((e09.tr ((hwo e10).tr ev1)).le' (by omega)) h1 h2) fun g' τ hr ev1 h1 => hP qs g' τ hoc hr ((e09.tr ((hwo e10).tr ev1)).le' (by omega)) h1
  · have hB10 := hpo e10
    have hj70 : j ≤ 70 := by
      have := oE_le hj
      omega
    refine Or.inr (Or.inl ⟨rfl, ?_⟩)
    unfold wX1_readb87
    refine pO e10.t hB10.1 (by decide) (by simp) (by decide) fun z11 w11 e11 => nE e11.t ((e09.tr ((hwo e10).tr (e11.wo (c' := 0) (fun a k w => w1x_o w) (Nat.le_refl _)))).rm hb (by omega)) (by omega) fun e z12 n12 e12 => ⟨rco n12.2.1, fun q' hq' => ?_⟩
    cases hq'
    have eA : ev G (W1 x 0) 7 z10 z12 := (e11.tr e12.up0).le' (by omega)
    obtain ⟨v1, v2, v3, v4, v5, -, v7⟩ := hB10.w1 eA
    obtain ⟨fq, b1, b2, b3⟩ := hq
    exact hE j _ z12 hj ((e09.tr ((hwo e10).tr (eA.wo (c' := 7) (fun a k w => w1x_o w) (Nat.le_refl _)))).le' (by omega)) ⟨l, sv, H, arr, mdh, hs, ib, arb', ln, some q, rf, e12.o w11.1 (fun w => w) (by decide) (by decide), v1, v2, v3, v4, v5, Or.inr ⟨q, j, rfl, ⟨fq, eA.o b1 (fun w => by have := w.2; omega) (by decide) (by decide), b2, b3⟩, rfl, hj70⟩, v7⟩ n12.2.1
end RD
