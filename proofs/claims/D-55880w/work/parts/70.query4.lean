/-! the ledger is asked: the best, the ranks -/
set_option maxRecDepth 100000
/-- the best of a list of places -/
noncomputable def bsL (g : Nat → Int32) (p s : Nat) : List Nat → Option Nat → Option Nat
  | [], b => b
  | e :: t, b => bsL g p s t (@ite (Option Nat) (tak g p s e b) (Classical.propDecidable _) (some e) b)
theorem bsL_app {g : Nat → Int32} {p s : Nat} {l l' : List Nat} {b : Option Nat} : bsL g p s (l ++ l') b = bsL g p s l' (bsL g p s l b) := by
  induction l generalizing b with
  | nil => rfl
  | cons e t ih => exact ih
theorem bsL_take {g : Nat → Int32} {p s : Nat} {l : List Nat} {j e : Nat} (h : l[j]? = some e) : bsL g p s (l.take (j + 1)) none = @ite (Option Nat) (tak g p s e (bsL g p s (l.take j) none)) (Classical.propDecidable _) (some e) (bsL g p s (l.take j) none) := by
  rw [List.take_succ, h, bsL_app]
  rfl
theorem bsL_pl {g : Nat → Int32} {p s n : Nat} : bsL g p s (pl (fun e => g (66 + e) = Int32.ofNat p) n) none = bsN g p s n := by
  induction n with
  | zero => rfl
  | succ n ih =>
    by_cases h : g (66 + n) = Int32.ofNat p
    · rw [pl_y (p := fun e => g (66 + e) = Int32.ofNat p) h, bsL_app, ih]
      rfl
    · rw [pl_n (p := fun e => g (66 + e) = Int32.ofNat p) h, ih]
      exact (bsN_n fun w => h w.1.1).symm
theorem bsL_in {g : Nat → Int32} {p s : Nat} : ∀ (l : List Nat) (b : Option Nat) (x : Nat), bsL g p s l b = some x → x ∈ l ∨ b = some x := by
  intro l
  induction l with
  | nil => exact fun b x h => Or.inr h
  | cons e t ih =>
    intro b x h
    rcases ih _ x h with h' | h'
    · exact Or.inl (List.mem_cons_of_mem _ h')
    · by_cases w : tak g p s e b
      · rw [@if_pos _ (Classical.propDecidable _) w] at h'
        cases h'
        exact Or.inl List.mem_cons_self
      · rw [@if_neg _ (Classical.propDecidable _) w] at h'
        exact Or.inr h'
section QR4
variable {G : gE} {σ : hSt} {PX : Nat → Nat → hSt → Prop} {P : Int32 → hSt → Prop} {n0 : Nat} {o A : Nat → Nat} {md : Int32} {es : List eT} {g : Nat → Int32}
theorem LG.xae (h : LG G σ n0 o A md es g) {e : Nat} (he : e < cnt g) : xE σ es g e (xa es e) := by
  obtain ⟨q, x, hq, hx, hxE⟩ := h.xI he
  rw [xa_of hq hx]; exact hxE
theorem LG.xinj (h : LG G σ n0 o A md es g) {i j : Nat} (hi : i < cnt g) (hj : j < cnt g) (w : xa es i = xa es j) : i = j := by
  obtain ⟨q, x, hq, hx, -⟩ := h.xI hi
  obtain ⟨q', x', hq', hx', -⟩ := h.xI hj
  rw [xa_of hq hx, xa_of hq' hx'] at w
  subst w
  have hnd := h.2.1.2.2
  have hl := h.len
  exact (List.getElem?_inj (by simp; omega) hnd).mp (by rw [List.getElem?_map, List.getElem?_map, hq, hq']; simp [hx, hx'])
theorem place_k {e : Nat} (hS : SI G σ) (h : LG G σ n0 o A md es g) (hb : bd G σ 600) (he : e < cnt g) (hP : ∀ τ, ev G W0 500 σ τ → P (Int32.ofNat e) τ) : wX2_placeOf G P PX (some (A 0)) (some (xa es e)) σ := by
  unfold wX2_placeOf wX2_placeOfb0
  refine ⟨h.rc, all_k hS h hb fun τ a arr md' e1 ha hA => ⟨hA.rc, ?_⟩⟩
  have h2 := h.ev e1 W0_g
  obtain ⟨q, -, -, hxc⟩ := h2.xae he
  refine al_idx (i := e) hA hxc (by rw [List.getElem?_map, List.getElem?_range he]; rfl) (fun j hj w => ?_) (hP τ e1)
  rw [List.getElem?_map, List.getElem?_range (by omega)] at w
  have := h2.xinj (i := j) (j := e) (by omega) he (by injection w)
  omega
theorem best_k {p s : Nat} (hS : SI G σ) (h : LG G σ n0 o A md es g) (hb : bd G σ 1200) (hp : p < 6) (hs : s < 3) (hP : ∀ τ, ev G W0 1100 σ τ → P (bI (bsN g p s (cnt g))) τ) : wX2_best G P PX (some (A 0)) (Int32.ofNat p) (Int32.ofNat s) σ := by
  unfold wX2_best wX2_bestb0
  refine ⟨h.rc, held_k hS h (hb.mono (by omega)) fun τ a arr md' e1 ha hA => ⟨hA.rc, li_new e1.t hA (e1.rm hb (by omega)) fun z0 it e2 hit hi => ?_⟩⟩
  have e02 : ev G W0 505 σ z0 := (e1.tr e2).le' (by omega)
  have h12 := h.le12
  have hll := pl_le (p := fun e => g (66 + e) = Int32.ofNat p) (n := cnt g)
  have hlen := h.len
  refine lst_k (fun b it z => (some (A 0), Int32.ofNat p, Int32.ofNat s, b, it, z)) (fun K b it z h => by dsimp only; unfold wX2_bestb12; exact h) (fun j b => b = (bsL g p s ((pl (fun e => g (66 + e) = Int32.ofNat p) (cnt g)).take j) none).map (xa es)) 3 h e02 (Nat.le_trans e1.le hit) hi (hA.ev e2 (fun w => w) fun w => w) (fun e he => (pl_in.mp he).1) rfl (fun j e q x b z hj hq hx hJ ez hz K hK => ?_) fun b z hJ ez hz => ?_
  · have hjl := (List.getElem?_eq_some_iff.mp hj).1
    have hxE := hz.xcell hq hx
    obtain ⟨q', hq', -, hxc⟩ := id hxE
    rw [hq] at hq'
    cases hq'
    have he := hz.lt hq
    obtain ⟨hn, -, -, h40⟩ := hz.nm hq
    have hold : g (66 + e) = Int32.ofNat p := (pl_in.mp (List.mem_of_getElem? hj)).2
    have hbl : ∀ y, bsL g p s ((pl (fun e => g (66 + e) = Int32.ofNat p) (cnt g)).take j) none = some y → y < cnt g := fun y hy => by
      rcases bsL_in _ _ _ hy with w | w
      · exact (pl_in.mp (List.mem_of_mem_take w)).1
      · exact nomatch w
    have keep : ∀ τ, ev G W0 3 z τ → ¬ tak g p s e (bsL g p s ((pl (fun e => g (66 + e) = Int32.ofNat p) (cnt g)).take j) none) → K (some (A 0), Int32.ofNat p, Int32.ofNat s, b, some it, τ) := fun τ e3 hn => by
      refine hK _ τ e3 ?_
      rw [bsL_take hj, @if_neg _ (Classical.propDecidable _) hn, hJ]
    have take : ∀ τ, ev G W0 3 z τ → tak g p s e (bsL g p s ((pl (fun e => g (66 + e) = Int32.ofNat p) (cnt g)).take j) none) → K (some (A 0), Int32.ofNat p, Int32.ofNat s, some x, some it, τ) := fun τ e3 hn => by
      refine hK _ τ e3 ?_
      rw [bsL_take hj, @if_pos _ (Classical.propDecidable _) hn, ← xa_of hq hx]
      rfl
    refine ⟨cO hxc (by decide), gR hxc (by decide) rfl ⟨hz.rc, isOver_k ez.t hz h40 hn (fun u1 u2 => ⟨fun _ => ?_, fun w => absurd w (by decide)⟩) fun u => ⟨fun w => absurd rfl w, fun _ => ⟨hz.rc, ?_⟩⟩⟩⟩
    · unfold wX2_bestb61 wX2_bestb62 wX2_bestb90 wX2_bestb91
      exact ⟨fun _ => keep z ((ev.refl ez.t).le' (by omega)) fun w => w.1.2.1 ((over_e hz hq).mpr ⟨u1, u2⟩), fun w => absurd rfl w⟩
    · have hno : ¬ ovw g e := fun w => u ((over_e hz hq).mp w)
      refine would_k ez.t hz hp hs hxE (ez.rm hb (by omega)) (fun w τ e3 => ⟨fun w => absurd w (by decide), fun _ => ?_⟩) fun w τ e3 => ⟨fun _ => ?_, fun w => absurd rfl w⟩
      · unfold wX2_bestb62
        refine ⟨fun w => absurd w (by decide), fun _ => ⟨fun hbn => ?_, fun hbn => ?_⟩⟩
        · unfold wX2_bestb85 wX2_bestb91
          refine take τ e3 ⟨⟨hold, hno, w⟩, fun y hy => ?_⟩
          rw [hy] at hJ
          rw [hJ] at hbn
          exact nomatch hbn
        · cases hy : bsL g p s ((pl (fun e => g (66 + e) = Int32.ofNat p) (cnt g)).take j) none with
          | none => rw [hy] at hJ; exact absurd hJ hbn
          | some y =>
            rw [hy] at hJ
            rw [hy] at keep take
            have h3 := hz.ev e3 W0_g
            have hyE := h3.xae (hbl y hy)
            subst hJ
            refine exL_k (h3.xcell hq hx) (exL_k hyE ⟨fun w2 => ?_, fun w2 => ?_⟩)
            · unfold wX2_bestb90 wX2_bestb91
              exact keep τ e3 fun w3 => w3.2 y rfl w2
            · unfold wX2_bestb85 wX2_bestb91
              refine take τ e3 ⟨⟨hold, hno, w⟩, fun y' hy' => ?_⟩
              cases hy'
              exact w2
      · unfold wX2_bestb61 wX2_bestb62 wX2_bestb90 wX2_bestb91
        exact ⟨fun _ => keep τ e3 fun w' => w w'.1.2.2, fun w => absurd rfl w⟩
  · rw [List.take_length, bsL_pl] at hJ
    cases hy : bsN g p s (cnt g) with
    | none =>
      rw [hy] at hJ hP
      subst hJ
      exact ⟨fun w => absurd rfl w, fun _ => hP z (ez.le' (by omega))⟩
    | some y =>
      rw [hy] at hJ hP
      subst hJ
      have hbz : bd G z 600 := ez.rm hb (by omega)
      refine ⟨fun _ => ⟨hz.rc, place_k ez.t hz hbz (bsN_lt _ _ hy) fun τ e3 => hP τ ((ez.tr e3).le' (by omega))⟩, fun w => nomatch w⟩
theorem richer_k {p q : Nat} (hS : SI G σ) (h : LG G σ n0 o A md es g) (hb : bd G σ 1100) (hp : p < 6) (hq : q < 6) (h1 : ahd g p q → ∀ τ, ev G W0 1000 σ τ → P 1 τ) (h0 : ¬ ahd g p q → ∀ τ, ev G W0 1000 σ τ → P 0 τ) : wX2_isRicher G P PX (some (A 0)) (Int32.ofNat p) (Int32.ofNat q) σ := by
  unfold wX2_isRicher wX2_isRicherb0 wX2_isRicherb62 wX2_isRicherb66
  have hH : ∀ p, Int32.ofNat (pl (fun e => g (66 + e) = Int32.ofNat p) (cnt g)).length = nHld g p := fun p => by
    rw [len_pl]
    refine sN_congr fun e _ => ?_
    by_cases w : g (66 + e) = Int32.ofNat p
    · rw [tw_1 w, tw_1 ⟨w, fun u => absurd rfl u⟩]
    · rw [tw_0 w, tw_0 fun u => w u.1]
  refine h.aP hp (gI (h.pup hp) (by decide) rfl (h.aP hq (gI (h.pup hq) (by decide) rfl ⟨h.rc, held_k hS h (hb.mono (by omega)) fun τ a arr md' e1 ha hA => ⟨hA.rc, al_size hA ?_⟩⟩)))
  have h2 := h.ev e1 W0_g
  refine ⟨h2.rc, held_k e1.t h2 (e1.rm hb (by omega)) fun υ a' arr' md2 e2 ha' hA' => ⟨hA'.rc, al_size hA' ?_⟩⟩
  have e12 : ev G W0 1000 σ υ := (e1.tr e2).le' (by omega)
  rw [List.length_map, List.length_map, hH, hH]
  have y1 : ahd g p q → okN .boolean 1 ∧ P 1 υ := fun w => ⟨ok_b1, h1 w υ e12⟩
  have y0 : ¬ ahd g p q → okN .boolean 0 ∧ P 0 υ := fun w => ⟨ok_b0, h0 w υ e12⟩
  unfold ahd at y1 y0
  rw [i_le (by omega) (by omega)]
  refine ⟨fun w => y1 (Or.inl w), fun w1 => ⟨fun w2 => y0 fun u => ?_, fun w2 => ⟨fun w => y1 (Or.inr ⟨w2, Or.inl w⟩), fun w3 => ⟨fun w4 => y0 fun u => ?_, fun w4 => ⟨fun w5 => y0 fun u => ?_, fun w5 => y1 (Or.inr ⟨w2, Or.inr ⟨w4, by omega⟩⟩)⟩⟩⟩⟩⟩
  · rcases u with u | ⟨u, -⟩
    · exact w1 u
    · exact w2 u
  · rcases u with u | ⟨-, u | ⟨u, -⟩⟩
    · exact w1 u
    · exact w3 u
    · exact w4 u
  · rcases u with u | ⟨-, u | ⟨-, u⟩⟩
    · exact w1 u
    · exact w3 u
    · omega
end QR4
