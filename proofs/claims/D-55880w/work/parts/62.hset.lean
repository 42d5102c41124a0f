/-! a HashMap's iterators; sets of stories -/
set_option maxRecDepth 100000
section HIN
variable {G : gE} {σ : hSt} {PX : Nat → Nat → hSt → Prop} {kt m n N : Nat} {D : Nat → Prop} {E : eT → Prop}
theorem hinit_k {P : hSt → Prop} {it ci : Nat} {c0 c1 c3 c4 c2 : Value} (hci : ci = 20 ∨ ci = 21) (hS : SI G σ) (hH : HM G σ D kt m n N E) (hn : n ≤ 240) (hit : σ.1 it = some (.inr (ci, [c0, c1, c2, c3, c4]))) (hP : ∀ τ r, ev G (W1 it ci) 0 σ τ → HI τ it ci m kt r → (r.map fun q => q.2.1).Nodup → (∀ q, q ∈ r ↔ E q) → P τ) : wJ20_init G P PX (some it) (some m) σ := by
  obtain ⟨t, md, th, hm, hD, hn0, htab⟩ := hH
  have hm' := hm
  obtain ⟨h12, k0, k1, k3, hmc⟩ := hm
  have hitm : m ≠ it := by
    rintro rfl
    rw [hmc] at hit
    injection hit with w; injection w with w; injection w with w1 w2
    omega
  unfold wJ20_init wJ20_initb0
  refine pO hS hit (n20 hci) (by simp) (n20' hci) fun τ1 w1 e1 => ⟨⟨it, rfl⟩, ?_⟩
  have hm1 : τ1.1 m = some (.inr (12, mFl8 k0 k1 k3 t (Int32.ofNat n) md th [])) := by rw [w1.o hitm]; exact hmc
  refine gI hm1 (by decide) rfl (pO e1.t w1.1 (n20 hci) (by simp) (n20' hci) fun τ2 w2 e2 => ?_)
  have hm2 : τ2.1 m = some (.inr (12, mFl8 k0 k1 k3 t (Int32.ofNat n) md th [])) := by rw [w2.o hitm]; exact hm1
  refine gR hm2 (by decide) rfl (pO e2.t w2.1 (n20 hci) (by simp) (n20' hci) fun τ3 w3 e3 => pO e3.t w3.1 (n20 hci) (by simp) (n20' hci) fun τ4 w4 e4 => pO e4.t w4.1 (n20 hci) (by simp) (n20' hci) fun τ5 w5 e5 => ?_)
  have e05 : ev G (W1 it ci) 0 σ τ5 := ((((e1.tr e2).tr e3).tr e4).tr e5).le' (by omega)
  have hm5 : mm τ5 m 12 t (Int32.ofNat n) md th [] := it_mm hm' e05 hci
  have hit5 : τ5.1 it = some (.inr (ci, [.null, .null, .int md, .int (Int32.ofNat 0), va_rf (some m)])) := w5.1
  have empty : (∀ q, ¬ E q) → P τ5 := fun hE => hP τ5 [] e05 ⟨hci, t, _, md, th, none, .null, 0, hm5, hit5, Or.inl ⟨rfl, rfl⟩⟩ List.nodup_nil fun q => ⟨fun w => (nomatch w), fun w => absurd w (hE q)⟩
  rcases htab with ⟨rfl, -, h4, -⟩ | ⟨ta, B, rfl, hDa, hXa, hN, rfl, hB, hW, hDn, hE⟩
  · exact ⟨fun _ => empty h4, fun w => absurd rfl w⟩
  obtain ⟨-, k0', k1', k3', hmc5⟩ := hm5
  have hm5 : mm τ5 m 12 (some ta) (Int32.ofNat n) md (Int32.ofNat (N * 3 / 4)) [] := it_mm hm' e05 hci
  refine ⟨fun w => (nomatch w), fun _ => gI hmc5 (by decide) rfl ⟨fun w => ?_, fun _ => ?_⟩⟩
  · rw [show (0 : Int32) = Int32.ofNat 0 from rfl, i_le (by omega) (by omega)] at w
    exact empty (hn0 (by omega))
  · refine seek (kt := kt) (N := N) (m := m) (ta := ta) (B := B) (md := md) (cur := .null) hci hN P (fun z => (some it, some ta, z)) _ (fun K z h => ?_) (Nat.zero_le _) e05.t hit5 (it_bk hB e05 hci) fun τ nxt idx l e ht hidx hch hfl hn1 hn2 => hP τ (flB B 0 (N - 0)) ((e05.tr e).le' (by omega)) ⟨hci, _, _, md, _, nxt, .null, idx, it_mm hm5 e hci, ht, ?_⟩ (flB_nd hW (by omega)) fun q => ?_
    · unfold wJ20_initb48
      exact h
    · by_cases h9 : nxt = none
      · exact Or.inl ⟨h9, hn1 h9⟩
      · exact Or.inr ⟨ta, N, B, l, rfl, hN, it_bk (it_bk hB e05 hci) e hci, hidx, hn2 h9, hch, hfl⟩
    · rw [flB_in, hE]
      constructor
      · rintro ⟨j, h1, h2, h3⟩; exact ⟨j, by omega, h3⟩
      · rintro ⟨j, h1, h2⟩; exact ⟨j, by omega, by omega, h2⟩
theorem hnext_k {P : Option Nat → hSt → Prop} {it ci : Nat} {q : eT} {r : List eT} (hS : SI G σ) (h : HI σ it ci m kt (q :: r)) (hP : ∀ τ nx, ev G (W1 it ci) 0 σ τ → HI τ it ci m kt r → KY τ kt q.2.2.1 q.2.1 → nq τ q.1 (hvk kt q.2.1) q.2.2.1 q.2.2.2 nx → P (some q.1) τ) : wJ20_nextNode G P PX (some it) σ := by
  obtain ⟨hci, t, sz, md, th, nxt, cur, idx, hm, hit, ⟨-, w⟩ | ⟨ta, N, B, l, rfl, hN, hB, hidx, hl, hch, hr⟩⟩ := h
  · exact nomatch w
  obtain _ | ⟨q', l⟩ := l
  · exact absurd rfl hl
  injection hr with h1 h2
  subst h1
  obtain ⟨rfl, hqk, nx, hqn, hch⟩ := hch
  have hqn' := hqn
  obtain ⟨cj, Y, hcj, hqc⟩ := hqn'
  obtain ⟨h12, k0, k1, k3, hmc⟩ := id hm
  have hqi : it ≠ q.1 := by
    rintro rfl
    rw [hit] at hqc
    injection hqc with w; injection w with w; injection w with w1 w2
    omega
  have hmi : m ≠ it := by
    rintro rfl
    rw [hmc] at hit
    injection hit with w; injection w with w; injection w with w1 w2
    omega
  unfold wJ20_nextNode wJ20_nextNodeb0
  refine gR hit (n20 hci) rfl (gR hit (n20 hci) rfl (gI hmc (by decide) rfl (gI hit (n20 hci) rfl ⟨fun _ => ⟨fun _ => ?_, fun w => nomatch w⟩, fun w => absurd rfl w⟩)))
  refine pO hS hit (n20 hci) (by simp) (n20' hci) fun τ1 w1 e1 => gR (by rw [w1.o (Ne.symm hqi)]; exact hqc) (n26 hcj) rfl (pO e1.t w1.1 (n20 hci) (by simp) (n20' hci) fun τ2 w2 e2 => ?_)
  have e02 : ev G (W1 it ci) 0 σ τ2 := (e1.tr e2).le' (by omega)
  have hqe : ∀ τ, ev G (W1 it ci) 0 σ τ → KY τ kt q.2.2.1 q.2.1 ∧ nq τ q.1 (hvk kt q.2.1) q.2.2.1 q.2.2.2 nx := fun τ e => ⟨hqk.ev e (W1_k (by omega)), hqn.ev e ⟨fun w => by have := w.2; omega, fun w => by have := w.2; omega⟩⟩
  refine ⟨fun w => ?_, fun w => ?_⟩
  · unfold wJ20_nextNodeb98
    refine hP τ2 nx e02 ⟨hci, _, _, md, _, nx, _, idx, it_mm hm e02 hci, w2.1, Or.inr ⟨ta, N, B, l, rfl, hN, it_bk hB e02 hci, hidx, ?_, it_ch hch e02 hci, h2⟩⟩ (hqe _ e02).1 (hqe _ e02).2
    rintro rfl
    exact w hch
  · have hle : l = [] := by
      cases l with
      | nil => rfl
      | cons a b => rw [w] at hch; exact nomatch hch.1
    subst hle
    subst w
    have hm2 : mm τ2 m 12 (some ta) sz md th [] := it_mm hm e02 hci
    obtain ⟨-, k0', k1', k3', hmc2⟩ := id hm2
    refine gR w2.1 (n20 hci) rfl (gR hmc2 (by decide) rfl ⟨fun w => (nomatch w), fun _ => ?_⟩)
    refine seek (kt := kt) (N := N) (m := m) (ta := ta) (B := B) (md := md) (cur := va_rf (some q.1)) hci hN (fun z => wJ20_nextNodeb98 G P PX (some q.1) z) (fun z => (some it, some ta, some q.1, z)) _ (fun K z h => ?_) hidx e02.t w2.1 (it_bk hB e02 hci) fun τ nxt idx' l e ht hidx' hch' hfl hn1 hn2 => ?_
    · unfold wJ20_nextNodeb68
      exact h
    · unfold wJ20_nextNodeb98
      have e03 : ev G (W1 it ci) 0 σ τ := (e02.tr e).le' (by omega)
      refine hP τ none e03 ⟨hci, _, _, md, _, nxt, _, idx', it_mm hm e03 hci, ht, ?_⟩ (hqe _ e03).1 (hqe _ e03).2
      have h2' : r = flB B idx (N - idx) := h2
      by_cases h9 : nxt = none
      · exact Or.inl ⟨h9, by rw [h2']; exact hn1 h9⟩
      · exact Or.inr ⟨ta, N, B, l, rfl, hN, it_bk hB e03 hci, hidx', hn2 h9, hch', by rw [h2']; exact hfl⟩
theorem hhas_k {P : Int32 → hSt → Prop} {it ci : Nat} {r : List eT} (h : HI σ it ci m kt r) (h0 : r = [] → P 0 σ) (h1 : r ≠ [] → P 1 σ) : wJ20_hasNext G P PX (some it) σ := by
  obtain ⟨hci, t, sz, md, th, nxt, cur, idx, hm, hit, ⟨rfl, rfl⟩ | ⟨ta, N, B, l, rfl, hN, hB, hidx, hl, hch, hr⟩⟩ := h
  · unfold wJ20_hasNext wJ20_hasNextb0
    exact gR hit (n20 hci) rfl ⟨fun _ => ⟨ok_b0, h0 rfl⟩, fun w => absurd rfl w⟩
  · unfold wJ20_hasNext wJ20_hasNextb0
    obtain _ | ⟨q, l⟩ := l
    · exact absurd rfl hl
    obtain ⟨rfl, -⟩ := hch
    exact gR hit (n20 hci) rfl ⟨fun w => (nomatch w), fun _ => ⟨ok_b1, h1 (by rw [hr]; exact fun w => nomatch w)⟩⟩
theorem HI.rc {it ci : Nat} {r : List eT} (h : HI σ it ci m kt r) : rcv σ (some it) ci := by
  obtain ⟨hci, t, sz, md, th, nxt, cur, idx, hm, hit, -⟩ := h
  exact rco hit
/-- the view of the keys -/
theorem keys_k {P : Option Nat → hSt → Prop} (hS : SI G σ) (h : HM G σ D kt m n N E) (hb : bd G σ 2) (hP : ∀ τ v, ev G W0 2 σ τ → τ.1 v = some (.inr (22, [va_rf (some m)])) → P (some v) τ) : wJ1_keySet G P PX (some m) σ := by
  obtain ⟨t, md, th, ⟨hci, k0, k1, k3, hm⟩, -⟩ := h
  unfold wJ1_keySet wJ1_keySetb0 wJ1_keySetb23
  have hvk := (hS.2.1 m 12 _ hm hci).1
  rcases hvk with hvk | ⟨v, hvk, hvc⟩
  · refine gR (r := none) hm (by decide) hvk ⟨fun w => absurd rfl w, fun _ => ⟨by have := hb.1; omega, by have := hb.2; omega, fun hf hX => ⟨⟨_, rfl⟩, ?_⟩⟩⟩
    have hne : m ≠ σ.2.1 := by
      intro e
      rw [e, hf] at hm; exact nomatch hm
    unfold wJ23_init wJ23_initb0 wJ4_init wJ4_initb0 wJ3_init wJ3_initb0
    refine ⟨σ.2.1, 22, _, rfl, hup_s, by decide, by decide, fun w => by omega, ⟨_, rfl⟩, ⟨_, rfl⟩, ⟨_, rfl⟩, m, 12, _, rfl, ?_, by decide, by simp, fun w => by omega, hP _ _ (view_ev (k := 0) (N := 1) hS hm hci (Or.inl ⟨rfl, rfl, rfl⟩) (by simp) hf ?_ hup_s (fun b hb1 hb2 => ?_) rfl rfl) ?_⟩
    · show hup (hup σ.1 σ.2.1 _) σ.2.1 _ m = _
      rw [hup_n hne, hup_n hne]; exact hm
    · show hup (hup (hup σ.1 σ.2.1 _) σ.2.1 _) m _ σ.2.1 = _
      rw [hup_n (Ne.symm hne)]; exact hup_s
    · show hup (hup (hup σ.1 σ.2.1 _) σ.2.1 _) m _ b = _
      rw [hup_n hb1, hup_n hb2, hup_n hb2]
    · show hup (hup (hup σ.1 σ.2.1 _) σ.2.1 _) m _ σ.2.1 = _
      rw [hup_n (Ne.symm hne)]; exact hup_s
  · exact gR (r := some v) hm (by decide) hvk ⟨fun _ => hP σ v ((ev.refl hS).le' (by omega)) hvc, fun w => nomatch w⟩
theorem ents_k {P : Option Nat → hSt → Prop} (hS : SI G σ) (h : HM G σ D kt m n N E) (hb : bd G σ 2) (hP : ∀ τ v, ev G W0 2 σ τ → τ.1 v = some (.inr (24, [va_rf (some m)])) → P (some v) τ) : wJ1_entrySet G P PX (some m) σ := by
  obtain ⟨t, md, th, ⟨hci, k0, k1, k3, hm⟩, -⟩ := h
  unfold wJ1_entrySet wJ1_entrySetb0
  have hvk := (hS.2.1 m 12 _ hm hci).2.2
  rcases hvk with hvk | ⟨v, hvk, hvc⟩
  · refine gR (r := none) hm (by decide) hvk ⟨fun w => absurd rfl w, fun _ => ⟨by have := hb.1; omega, by have := hb.2; omega, fun hf hX => ⟨⟨_, rfl⟩, ?_⟩⟩⟩
    have hne : m ≠ σ.2.1 := by
      intro e
      rw [e, hf] at hm; exact nomatch hm
    unfold wJ43_init wJ43_initb0 wJ4_init wJ4_initb0 wJ3_init wJ3_initb0
    refine ⟨σ.2.1, 24, _, rfl, hup_s, by decide, by decide, fun w => by omega, ⟨_, rfl⟩, ⟨_, rfl⟩, ⟨_, rfl⟩, m, 12, _, rfl, ?_, by decide, by simp, fun w => by omega, hP _ _ (view_ev (k := 3) (N := 1) hS hm hci (Or.inr (Or.inr ⟨rfl, rfl, rfl⟩)) (by simp) hf ?_ hup_s (fun b hb1 hb2 => ?_) rfl rfl) ?_⟩
    · show hup (hup σ.1 σ.2.1 _) σ.2.1 _ m = _
      rw [hup_n hne, hup_n hne]; exact hm
    · show hup (hup (hup σ.1 σ.2.1 _) σ.2.1 _) m _ σ.2.1 = _
      rw [hup_n (Ne.symm hne)]; exact hup_s
    · show hup (hup (hup σ.1 σ.2.1 _) σ.2.1 _) m _ b = _
      rw [hup_n hb1, hup_n hb2, hup_n hb2]
    · show hup (hup (hup σ.1 σ.2.1 _) σ.2.1 _) m _ σ.2.1 = _
      rw [hup_n (Ne.symm hne)]; exact hup_s
  · exact gR (r := some v) hm (by decide) hvk ⟨fun _ => hP σ v ((ev.refl hS).le' (by omega)) hvc, fun w => nomatch w⟩
end HIN
/-- h is a HashSet (its map at m) that holds the stories of the numbers S, n of them -/
def HS (G : gE) (σ : hSt) (D : Nat → Prop) (h m n N : Nat) (S : Nat → Prop) : Prop := σ.1 h = some (.inr (14, [va_rf (some m)])) ∧ ∃ E, HM G σ D 9 m n N E ∧ (∀ q, E q → q.2.2.2 = some (gA G 40)) ∧ ∀ x, S x ↔ ∃ q, E q ∧ q.2.1 = x
section HSET
variable {G : gE} {σ : hSt} {PX : Nat → Nat → hSt → Prop} {P : Int32 → hSt → Prop} {h m n N k x : Nat} {D : Nat → Prop} {S : Nat → Prop}
theorem HS.ev {W : Nat → Nat → Prop} {c : Nat} {τ : hSt} (hH : HS G σ D h m n N S) (he : ev G W c σ τ) (hk : Wk W) (hW : ∀ a k, D a → mkd k → ¬ W a k) (h14 : ¬ W h 14) : HS G τ D h m n N S := by
  obtain ⟨h1, E, h2, h3⟩ := hH
  exact ⟨he.o h1 h14 (by decide) (by decide), E, h2.ev he hk hW, h3⟩
theorem HS.mono {D' : Nat → Prop} (hH : HS G σ D h m n N S) (hD : ∀ a, D a → D' a) : HS G σ D' h m n N S := by
  obtain ⟨h1, E, h2, h3⟩ := hH
  exact ⟨h1, E, h2.mono hD, h3⟩
theorem HS.congr {S' : Nat → Prop} (hH : HS G σ D h m n N S) (hS : ∀ x, S x ↔ S' x) : HS G σ D h m n N S' := by
  obtain ⟨h1, E, h2, h3, h4⟩ := hH
  exact ⟨h1, E, h2, h3, fun x => (hS x).symm.trans (h4 x)⟩
theorem HS.b {x : Nat} (hH : HS G σ D h m n N S) (hx : S x) : x < 240 := by
  obtain ⟨h1, E, h2, h3, h4⟩ := hH
  obtain ⟨q, hq, rfl⟩ := (h4 x).mp hx
  exact (h2.key hq).xb
theorem sadd_k (hSI : SI G σ) (hH : HS G σ D h m n N S) (hk : KY σ 9 k x) (hn : n ≤ 240) (hDf : ∀ a, σ.2.1 ≤ a → D a) (hb : bd G σ 1700) (h0 : S x → ∀ τ, ev G (Wm D) 0 σ τ → HS G τ D h m n N S → P 0 τ) (h1 : ¬ S x → ∀ τ N', N ≤ N' → N' ≤ 512 → ev G (Wm D) (5 + 3 * (N' - N)) σ τ → HS G τ D h m (n + 1) N' (fun y => S y ∨ y = x) → P 1 τ) : wJ5_add G P PX (some h) (some k) σ := by
  obtain ⟨hh, E, hE, hvk, hSE⟩ := hH
  unfold wJ5_add wJ5_addb0
  refine gR hh (by decide) rfl ⟨hE.rc, puT_k hSI hE hk hn hDf hb (fun q hq hx τ e hE' => ⟨fun _ => ⟨ok_b0, h0 ((hSE x).mpr ⟨q, hq, hx⟩) τ e ⟨e.o hh (fun w => by have := w.2; unfold mkd at this; omega) (by decide) (by decide), _, hE', fun q' hq' => ?_, fun y => ?_⟩⟩, fun w => ?_⟩) fun hno τ a N' hN1 hN2 e hE' _ => ⟨fun w => absurd rfl w, fun _ => ⟨ok_b1, h1 (fun hSx => ?_) τ N' hN1 hN2 e ⟨e.o hh (fun w => by have := w.2; unfold mkd at this; omega) (by decide) (by decide), _, hE', fun q' hq' => ?_, fun y => ?_⟩⟩⟩⟩
  · rcases hq' with ⟨hq', -⟩ | rfl
    · exact hvk q' hq'
    · rfl
  · rw [hSE]
    constructor
    · rintro ⟨q2, h2, rfl⟩
      by_cases h3 : q2.2.1 = x
      · exact ⟨_, Or.inr rfl, by rw [h3]; exact hx⟩
      · exact ⟨q2, Or.inl ⟨h2, h3⟩, rfl⟩
    · rintro ⟨q2, ⟨h2, -⟩ | rfl, rfl⟩
      · exact ⟨q2, h2, rfl⟩
      · exact ⟨q, hq, rfl⟩
  · rw [hvk q hq] at w; exact nomatch w
  · obtain ⟨q, hq, e9⟩ := (hSE x).mp hSx
    exact hno q hq e9
  · rcases hq' with hq' | rfl
    · exact hvk q' hq'
    · rfl
  · constructor
    · rintro (h2 | rfl)
      · obtain ⟨q, hq, rfl⟩ := (hSE y).mp h2
        exact ⟨q, Or.inl hq, rfl⟩
      · exact ⟨_, Or.inr rfl, rfl⟩
    · rintro ⟨q, hq | rfl, rfl⟩
      · exact Or.inl ((hSE _).mpr ⟨q, hq, rfl⟩)
      · exact Or.inr rfl
theorem shas_k (hH : HS G σ D h m n N S) (hk : KY σ 9 k x) (h0 : ¬ S x → P 0 σ) (h1 : S x → P 1 σ) : wJ5_contains G P PX (some h) (some k) σ := by
  obtain ⟨hh, E, hE, hvk, hSE⟩ := hH
  unfold wJ5_contains wJ5_containsb0
  exact gR hh (by decide) rfl ⟨hE.rc, ckey_k hE hk (fun ⟨q, hq, e⟩ => ⟨ok_b1, h1 ((hSE x).mpr ⟨q, hq, e⟩)⟩) fun hno => ⟨ok_b0, h0 fun hSx => by
    obtain ⟨q, hq, e9⟩ := (hSE x).mp hSx
    exact hno q hq e9⟩⟩
theorem ssz_k (hH : HS G σ D h m n N S) (hP : P (Int32.ofNat n) σ) : wJ5_size G P PX (some h) σ := by
  obtain ⟨hh, E, hE, hvk, hSE⟩ := hH
  unfold wJ5_size wJ5_sizeb0
  refine gR hh (by decide) rfl ⟨hE.rc, ?_⟩
  obtain ⟨t, md, th, ⟨hci, k0, k1, k3, hm⟩, -⟩ := hE
  unfold wJ1_size wJ1_sizeb0
  exact gI hm (by decide) rfl hP
end HSET
