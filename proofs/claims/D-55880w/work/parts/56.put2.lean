/-! a map's put, whole -/
set_option maxRecDepth 100000
/-- a value set in a chain -/
theorem ce_setv {σ τ : hSt} {kt x : Nat} {v e : Option Nat} {l : List eT} {r : Option Nat} (hK : ∀ ka x, KY σ kt ka x → KY τ kt ka x) (h1 : ∀ q ∈ l, q.2.1 ≠ x → ∀ h ka v nx, nq σ q.1 h ka v nx → nq τ q.1 h ka v nx) (h2 : ∀ q ∈ l, q.2.1 = x → ∀ h ka v0 nx, nq σ q.1 h ka v0 nx → nq τ q.1 h ka v nx) (h : ce σ kt e l r) : ce τ kt e (l.map fun q => if q.2.1 = x then (q.1, q.2.1, q.2.2.1, v) else q) r := by
  induction l generalizing r with
  | nil => exact h
  | cons q0 t ih =>
    obtain ⟨h0, h3, nx, h4, h5⟩ := h
    have h6 := ih (fun q hq => h1 q (List.mem_cons_of_mem _ hq)) (fun q hq => h2 q (List.mem_cons_of_mem _ hq)) h5
    rw [List.map_cons]
    by_cases hx : q0.2.1 = x
    · rw [if_pos hx]
      exact ⟨h0, hK _ _ h3, nx, h2 q0 List.mem_cons_self hx _ _ _ _ h4, h6⟩
    · rw [if_neg hx]
      exact ⟨h0, hK _ _ h3, nx, h1 q0 List.mem_cons_self hx _ _ _ _ h4, h6⟩
/-- a bin with an entry more -/
def Bn (B : Nat → List eT) (i0 : Nat) (q : eT) : Nat → List eT := fun i => if i = i0 then B i0 ++ [q] else B i
theorem Bn_in {B : Nat → List eT} {i0 N : Nat} {q q' : eT} (hi : i0 < N) : (∃ i, i < N ∧ q' ∈ Bn B i0 q i) ↔ (∃ i, i < N ∧ q' ∈ B i) ∨ q' = q := by
  constructor
  · rintro ⟨i, h1, h2⟩
    unfold Bn at h2
    by_cases h3 : i = i0
    · rw [if_pos h3] at h2
      rcases List.mem_append.mp h2 with h | h
      · exact Or.inl ⟨i0, hi, h⟩
      · exact Or.inr (List.mem_singleton.mp h)
    · rw [if_neg h3] at h2
      exact Or.inl ⟨i, h1, h2⟩
  · rintro (⟨i, h1, h2⟩ | rfl)
    · refine ⟨i, h1, ?_⟩
      unfold Bn
      by_cases h3 : i = i0
      · subst h3
        rw [if_pos rfl]
        exact List.mem_append_left _ h2
      · rw [if_neg h3]; exact h2
    · refine ⟨i0, hi, ?_⟩
      unfold Bn
      rw [if_pos rfl]
      exact List.mem_append_right _ (List.mem_singleton.mpr rfl)
theorem Bn_W {B : Nat → List eT} {kt N : Nat} {q : eT} (hW : WB kt N B) (hn : ∀ q' ∈ B (hvk kt q.2.1 % N), q'.2.1 ≠ q.2.1) : WB kt N (Bn B (hvk kt q.2.1 % N) q) := by
  intro i hi
  unfold Bn
  by_cases h3 : i = hvk kt q.2.1 % N
  · subst h3
    rw [if_pos rfl]
    refine ⟨fun q' hq' => ?_, ?_⟩
    · rcases List.mem_append.mp hq' with h | h
      · exact (hW _ hi).1 q' h
      · rw [List.mem_singleton.mp h]
    · rw [List.map_append, List.nodup_append]
      refine ⟨(hW _ hi).2, by simp, fun a ha b hb => ?_⟩
      obtain ⟨q', hq', rfl⟩ := List.mem_map.mp ha
      rw [List.map_singleton, List.mem_singleton] at hb
      rw [hb]
      exact hn q' hq'
  · rw [if_neg h3]; exact hW i hi
theorem BK_ta {σ : hSt} {kt ta N : Nat} {B : Nat → List eT} (h : BK σ kt ta N B) {a h1 ka : Nat} {v nx : Option Nat} (hn : nq σ a h1 ka v nx) : ta ≠ a := by
  obtain ⟨f, hf, -⟩ := h
  obtain ⟨ci, Y, -, q⟩ := hn
  rintro rfl
  rw [hf] at q; exact nomatch q
/-- a node hung behind the last one -/
theorem BK_app {G : gE} {τ υ : hSt} {kt ta N ci a k x : Nat} {v : Option Nat} {B : Nat → List eT} {l1 : List eT} {p : eT} (hB : BK τ kt ta N B) (hW : WB kt N B) (hi : hvk kt x % N < N) (hl : B (hvk kt x % N) = l1 ++ [p]) (hci : ci = 26 ∨ ci = 27) (he : ev G (W1 p.1 ci) 0 τ υ) (hp : nq υ p.1 (hvk kt p.2.1) p.2.2.1 p.2.2.2 (some a)) (hk : ∀ b, b ≠ p.1 → υ.1 b = τ.1 b) (hna : nq τ a (hvk kt x) k v none) (hane : a ≠ p.1) (hkey : KY τ kt k x) : BK υ kt ta N (Bn B (hvk kt x % N) (a, x, k, v)) := by
  have hB' := hB
  obtain ⟨f, hf, hc⟩ := hB
  have hK : ∀ ka x, KY τ kt ka x → KY υ kt ka x := fun ka x w => w.ev he (W1_k (by omega))
  have hpm : p ∈ B (hvk kt x % N) := by rw [hl]; exact List.mem_append_right _ List.mem_cons_self
  obtain ⟨-, nx, hpn⟩ := ce_in (hc _ hi) hpm
  have hN : ∀ b, b ≠ p.1 → ∀ h ka v nx, nq τ b h ka v nx → nq υ b h ka v nx := fun b hb h ka v nx ⟨cj, Y, h1, h2⟩ => ⟨cj, Y, h1, by rw [hk b hb]; exact h2⟩
  refine ⟨f, by rw [hk _ (BK_ta hB' hpn)]; exact hf, fun i hi2 => ?_⟩
  unfold Bn
  by_cases h3 : i = hvk kt x % N
  · rw [if_pos h3, h3]
    have hc0 := hc _ hi
    rw [hl] at hc0 ⊢
    have hnd := nd_of (hW _ hi).2
    rw [hl, List.nodup_append] at hnd
    refine ce_app.mpr ⟨some a, ce_end hc0 hK (fun q hq => hN q.1 fun e => ?_) hp, rfl, hK _ _ hkey, none, hN a hane _ _ _ _ hna, rfl⟩
    have hqm : q ∈ B (hvk kt x % N) := by rw [hl]; exact List.mem_append_left _ hq
    obtain ⟨-, rfl⟩ := BK_inj hB' hW hi hi hqm hpm e
    exact hnd.2.2 q hq q List.mem_cons_self rfl
  · rw [if_neg h3]
    refine ce_keep hK (fun q hq => hN q.1 fun e => ?_) (hc i hi2)
    exact h3 (BK_inj hB' hW hi2 hi hq hpm e).1
/-- a node set in an empty place -/
theorem BK_one {G : gE} {τ υ : hSt} {kt ta N a k x : Nat} {v : Option Nat} {B : Nat → List eT} {f : Nat → Option Nat} (hf : τ.1 ta = some (.inl (6, N, .inr (.inr (.inr (.inr f)))))) (hc : ∀ i, i < N → ch τ kt (B i) (f i)) (hl : B (hvk kt x % N) = []) (hw : wr τ υ ta (.inl (6, N, .inr (.inr (.inr (.inr fun j => if j = hvk kt x % N then some a else f j)))))) (he : ev G (W1 ta 106) 0 τ υ) (hna : nq τ a (hvk kt x) k v none) (hkey : KY τ kt k x) : BK υ kt ta N (Bn B (hvk kt x % N) (a, x, k, v)) := by
  have hK : ∀ ka x, KY τ kt ka x → KY υ kt ka x := fun ka x w => w.ev he (W1_k (by omega))
  have hN : ∀ b h ka v nx, nq τ b h ka v nx → nq υ b h ka v nx := fun b h ka v nx w => w.wr hw (Ne.symm (BK_ta ⟨f, hf, hc⟩ w))
  refine ⟨_, hw.1, fun i hi => ?_⟩
  unfold Bn
  by_cases h3 : i = hvk kt x % N
  · rw [if_pos h3, h3, hl]
    show ce υ kt none [(a, x, k, v)] (if hvk kt x % N = hvk kt x % N then some a else _)
    rw [if_pos rfl]
    exact ⟨rfl, hK _ _ hkey, none, hN _ _ _ _ _ hna, rfl⟩
  · rw [if_neg h3]
    show ce υ kt none (B i) (if i = hvk kt x % N then some a else f i)
    rw [if_neg h3]
    exact ce_keep hK (fun q _ h ka v nx w => hN _ _ _ _ _ w) (hc i hi)
section PUT
variable {G : gE} {σ : hSt} {PX : Nat → Nat → hSt → Prop} {P : Option Nat → hSt → Prop} {kt m n N k x : Nat} {D : Nat → Prop} {E : eT → Prop} {v : Option Nat}
theorem put_old {ta : Nat} {B : Nat → List eT} {md : Int32} {q : eT} (hS : SI G σ) (hm : mm σ m 12 (some ta) (Int32.ofNat n) md (Int32.ofNat (N * 3 / 4)) []) (hDm : D m) (hn0 : n = 0 → ∀ q, ¬ E q) (hDa : D ta) (hXa : ¬ gX G ta) (hN : pw N) (hB : BK σ kt ta N B) (hW : WB kt N B) (hDn : ∀ i, i < N → ∀ q ∈ B i, D q.1) (hE : ∀ q, E q ↔ ∃ i, i < N ∧ q ∈ B i) (hq : q ∈ B (hvk kt x % N)) (hx : q.2.1 = x) (hP : ∀ τ, ev G (Wm D) 0 σ τ → HM G τ D kt m n N (fun q' => (E q' ∧ q'.2.1 ≠ x) ∨ q' = (q.1, q.2.1, q.2.2.1, v)) → P q.2.2.2 τ) : wJ1_putValb222 G P PX (some m) v 0 1 (some q.1) σ := by
  have hNb := pw_b hN
  have hi : hvk kt x % N < N := Nat.mod_lt _ (by omega)
  have hB' := hB
  obtain ⟨f, hf, hc⟩ := hB
  obtain ⟨-, nx, hn⟩ := ce_in (hc _ hi) hq
  have hn' := hn
  obtain ⟨cj, Y, hcj, hqc⟩ := hn
  unfold wJ1_putValb222
  refine ⟨fun w => (nomatch w), fun _ => gR hqc (n26 hcj) rfl ⟨fun _ => ?_, fun w => absurd rfl w⟩⟩
  unfold wJ1_putValb244
  refine pNv hS hn' fun τ ci hci he hnv hk => ?_
  have hev := he.up (hDn _ hi q hq) (by unfold mkd; omega)
  have hqm : q.1 ≠ m := by
    obtain ⟨-, k0, k1, k3, hm⟩ := hm
    intro e
    rw [e, hm] at hqc
    injection hqc with w; injection w with w; injection w with w1 w2
    omega
  have hm2 : mm τ m 12 (some ta) (Int32.ofNat n) md (Int32.ofNat (N * 3 / 4)) [] := hm.ev he fun w => hqm w.1.symm
  have hH : HM G τ D kt m n N (fun q' => (E q' ∧ q'.2.1 ≠ x) ∨ q' = (q.1, q.2.1, q.2.2.1, v)) := by
    refine ⟨_, _, _, hm2, hDm, fun w => absurd ((hE q).mpr ⟨_, hi, hq⟩) (hn0 w q), Or.inr ⟨ta, fun i => if i = hvk kt x % N then (B i).map (fun q => if q.2.1 = x then (q.1, q.2.1, q.2.2.1, v) else q) else B i, rfl, hDa, hXa, hN, rfl, ⟨f, ?_, fun i hi2 => ?_⟩, fun i hi2 => ?_, fun i hi2 q' hq' => ?_, fun q' => ?_⟩⟩
    · rw [hk _ (BK_ta hB' hn')]; exact hf
    · have hK : ∀ ka x, KY σ kt ka x → KY τ kt ka x := fun ka x w => w.ev he (W1_k (by omega))
      have hNk : ∀ b, b ≠ q.1 → ∀ h ka v nx, nq σ b h ka v nx → nq τ b h ka v nx := fun b hb h ka v nx ⟨cj, Y, h1, h2⟩ => ⟨cj, Y, h1, by rw [hk b hb]; exact h2⟩
      by_cases h3 : i = hvk kt x % N
      · dsimp only
        rw [if_pos h3, h3]
        refine ce_setv hK (fun q' hq' hne => hNk q'.1 fun e => ?_) (fun q' hq' he' h ka v0 nx2 hn2 => ?_) (hc _ hi)
        · obtain ⟨-, rfl⟩ := BK_inj hB' hW hi hi hq' hq e
          exact hne hx
        · have e4 : q' = q := nd_inj (hW _ hi).2 hq' hq (he'.trans hx.symm)
          subst e4
          obtain ⟨c1, Y1, d1, d2⟩ := hn2
          obtain ⟨c2, Y2, d3, d4⟩ := hn'
          have e5 := d2.symm.trans d4
          simp only [Option.some.injEq, Sum.inr.injEq, Prod.mk.injEq, List.cons.injEq] at e5
          obtain ⟨rfl, e6, e7, e8, e9, rfl⟩ := e5
          obtain ⟨c3, Y3, d5, d6⟩ := hnv
          refine ⟨c3, Y3, d5, ?_⟩
          rw [e6, e7, e9]
          exact d6
      · dsimp only
        rw [if_neg h3]
        exact ce_keep hK (fun q' hq' => hNk q'.1 fun e => h3 (BK_inj hB' hW hi2 hi hq' hq e).1) (hc i hi2)
    · by_cases h3 : i = hvk kt x % N
      · simp only [h3, if_true]
        refine ⟨fun q' hq' => ?_, ?_⟩
        · obtain ⟨q2, hq2, rfl⟩ := List.mem_map.mp hq'
          have := (hW _ hi).1 q2 hq2
          by_cases h4 : q2.2.1 = x
          · rw [if_pos h4]; exact this
          · rw [if_neg h4]; exact this
        · rw [List.map_map]
          have : ((fun q : eT => q.2.1) ∘ fun q : eT => if q.2.1 = x then (q.1, q.2.1, q.2.2.1, v) else q) = fun q => q.2.1 := by
            funext q2
            show (if q2.2.1 = x then (q2.1, q2.2.1, q2.2.2.1, v) else q2).2.1 = q2.2.1
            by_cases h4 : q2.2.1 = x
            · rw [if_pos h4]
            · rw [if_neg h4]
          rw [this]
          exact (hW _ hi).2
      · simp only [h3, if_false]
        exact hW i hi2
    · by_cases h3 : i = hvk kt x % N
      · simp only [h3, if_true] at hq'
        obtain ⟨q2, hq2, rfl⟩ := List.mem_map.mp hq'
        have := hDn _ hi q2 hq2
        by_cases h4 : q2.2.1 = x
        · rw [if_pos h4]; exact this
        · rw [if_neg h4]; exact this
      · simp only [h3, if_false] at hq'
        exact hDn i hi2 q' hq'
    · constructor
      · rintro (⟨h1, h2⟩ | rfl)
        · obtain ⟨i, hi2, hm9⟩ := (hE q').mp h1
          refine ⟨i, hi2, ?_⟩
          by_cases h3 : i = hvk kt x % N
          · simp only [h3, if_true]
            exact List.mem_map.mpr ⟨q', by rw [← h3]; exact hm9, if_neg h2⟩
          · simp only [h3, if_false]; exact hm9
        · refine ⟨_, hi, ?_⟩
          simp only [if_true]
          exact List.mem_map.mpr ⟨q, hq, if_pos hx⟩
      · rintro ⟨i, hi2, h9⟩
        by_cases h3 : i = hvk kt x % N
        · simp only [h3, if_true] at h9
          obtain ⟨q2, hq2, rfl⟩ := List.mem_map.mp h9
          by_cases h4 : q2.2.1 = x
          · rw [if_pos h4]
            have e4 : q2 = q := nd_inj (hW _ hi).2 hq2 hq (h4.trans hx.symm)
            rw [e4]
            exact Or.inr rfl
          · rw [if_neg h4]
            exact Or.inl ⟨(hE q2).mpr ⟨_, hi, hq2⟩, h4⟩
        · simp only [h3, if_false] at h9
          refine Or.inl ⟨(hE q').mpr ⟨i, hi2, h9⟩, fun e => h3 ?_⟩
          have := (hW i hi2).1 q' h9
          rw [e] at this
          exact this.symm
  unfold wJ1_putValb250 wJ1_putValb256 wJ1_afterNodeAccess wJ1_afterNodeAccessb0
  exact Or.inl ⟨hH.rc, hP τ hev hH⟩
/-- a put into a map that has its table -/
theorem put_tab {ta : Nat} {B : Nat → List eT} {md : Int32} (hS : SI G σ) (hk : KY σ kt k x) (hn : n ≤ 240) (hm : mm σ m 12 (some ta) (Int32.ofNat n) md (Int32.ofNat (N * 3 / 4)) []) (hDm : D m) (hn0 : n = 0 → ∀ q, ¬ E q) (hDa : D ta) (hXa : ¬ gX G ta) (hN : pw N) (hB : BK σ kt ta N B) (hW : WB kt N B) (hDn : ∀ i, i < N → ∀ q ∈ B i, D q.1) (hE : ∀ q, E q ↔ ∃ i, i < N ∧ q ∈ B i) (hDf : ∀ a, σ.2.1 ≤ a → D a) (hb : bd G σ 1100)
    (hF : ∀ q, E q → q.2.1 = x → ∀ τ, ev G (Wm D) 0 σ τ → HM G τ D kt m n N (fun q' => (E q' ∧ q'.2.1 ≠ x) ∨ q' = (q.1, q.2.1, q.2.2.1, v)) → P q.2.2.2 τ)
    (hA : (∀ q, E q → q.2.1 ≠ x) → ∀ τ a N', N ≤ N' → N' ≤ 512 → ev G (Wm D) (5 + 3 * (N' - N)) σ τ → HM G τ D kt m (n + 1) N' (fun q' => E q' ∨ q' = (a, x, k, v)) → isN τ a → P none τ) : wJ1_putValb29 G P PX (some m) (Int32.ofNat (hvk kt x)) (some k) v 0 1 (some ta) (Int32.ofNat N) σ := by
  have hNb := pw_b hN
  have hi : hvk kt x % N < N := Nat.mod_lt _ (by omega)
  have hB' := hB
  obtain ⟨f, hf, hc⟩ := hB
  have hrc : rcv σ (some m) 12 := by
    obtain ⟨-, k0, k1, k3, hm⟩ := hm
    exact rco hm
  have hno : (∀ q ∈ B (hvk kt x % N), q.2.1 ≠ x) → ∀ q, E q → q.2.1 ≠ x := by
    intro h q hq e
    obtain ⟨i, hi2, hqm⟩ := (hE q).mp hq
    have := (hW i hi2).1 q hqm
    rw [e] at this
    subst this
    exact h q hqm e
  refine put_walk hf hN hk (hc _ hi) (fun q hq e => put_old hS hm hDm hn0 hDa hXa hN hB' hW hDn hE hq e (hF q ((hE q).mpr ⟨_, hi, hq⟩) e)) (fun hl => Or.inl ⟨hrc, ?_⟩) fun l1 p n1 hl hln hne => Or.inl ⟨hrc, ?_⟩
  · refine node_k hS (hb.mono (by omega)) fun τ a ha hfr e1 hna hkp => ?_
    have hno' := hno (by rw [hl]; exact fun q hq => nomatch hq)
    have hnq : nq τ a (hvk kt x) k v none := ⟨26, [], Or.inl rfl, hna⟩
    have hf1 := e1.a hf (fun w => w)
    have hBK := hB'.ev e1 W0_k (fun w => w) fun _ _ _ _ => ⟨fun w => w, fun w => w⟩
    unfold wJ1_putValb59
    refine sR (L := [26, 27]) e1.t hf1 (by decide) hXa (by omega) hi (Or.inr ⟨a, 26, _, rfl, hna, by decide⟩) fun υ w2 e2 => ?_
    have hc1 : ∀ i, i < N → ch τ kt (B i) (f i) := fun i hi2 => ce_keep (fun ka x w => w.ev e1 W0_k) (fun q _ h ka v nx w => w.ev e1 ⟨fun w => w, fun w => w⟩) (hc i hi2)
    have hBn := BK_one hf1 hc1 hl w2 e2 hnq (hk.ev e1 W0_k)
    have e12 : ev G (Wm D) 5 σ υ := (e1.up0.tr (e2.up hDa (by unfold mkd; omega))).le' (by omega)
    refine put_end (E' := fun q' => E q' ∨ q' = (a, x, k, v)) e2.t hn ((hm.ev e1 fun w => w).ev e2 fun w => ?_) hDm hDa hXa hN hBn (Bn_W (q := (a, x, k, v)) hW (by rw [hl]; exact fun q hq => nomatch hq)) (fun i hi2 q hq => ?_) (fun q => ?_) (fun b hb2 => hDf b (Nat.le_trans e12.le hb2)) (e12.rm hb (by omega)) fun υ2 N' h1 h2 h3 h4 => hA hno' υ2 a N' h1 h2 (e12.tr h3) h4 (isN.ev (isN.ev ⟨_, hna, rfl⟩ e2) h3)
    · have := w.2; omega
    · rcases (Bn_in hi).mp ⟨i, hi2, hq⟩ with ⟨i', hi', hq'⟩ | rfl
      · exact hDn i' hi' q hq'
      · exact hDf a (by rw [ha]; exact Nat.le_refl _)
    · rw [Bn_in hi, hE]
  · refine node_k hS (hb.mono (by omega)) fun τ a ha hfr e1 hna hkp => ?_
    have hno' := hno hne
    have hnq : nq τ a (hvk kt x) k v none := ⟨26, [], Or.inl rfl, hna⟩
    have hBK := hB'.ev e1 W0_k (fun w => w) fun _ _ _ _ => ⟨fun w => w, fun w => w⟩
    have hpm : p ∈ B (hvk kt x % N) := by rw [hl]; exact List.mem_append_right _ List.mem_cons_self
    obtain ⟨-, nx, hpn⟩ := ce_in (hc _ hi) hpm
    have hap : a ≠ p.1 := by
      obtain ⟨cj, Y, -, hq⟩ := hpn
      rintro rfl
      rw [hfr] at hq; exact nomatch hq
    unfold wJ1_putValb155
    refine pN e1.t (hpn.ev e1 ⟨fun w => w, fun w => w⟩) fun υ ci hci e2 hp2 hk2 _ => ?_
    have hBn := BK_app hBK hW hi hl hci e2 hp2 hk2 hnq hap (hk.ev e1 W0_k)
    have e12 : ev G (Wm D) 5 σ υ := (e1.up0.tr (e2.up (hDn _ hi p hpm) (by unfold mkd; omega))).le' (by omega)
    have hpm2 : p.1 ≠ m := by
      obtain ⟨-, k0, k1, k3, hm⟩ := hm
      obtain ⟨cj, Y, hcj, hq⟩ := hpn
      intro e
      rw [e, hm] at hq
      injection hq with w; injection w with w; injection w with w1 w2
      omega
    have hm2 : mm υ m 12 (some ta) (Int32.ofNat n) md (Int32.ofNat (N * 3 / 4)) [] := (hm.ev e1 fun w => w).ev e2 fun w => hpm2 w.1.symm
    have hWn : WB kt N (Bn B (hvk kt x % N) (a, x, k, v)) := Bn_W (q := (a, x, k, v)) hW hne
    have hDnn : ∀ i, i < N → ∀ q ∈ Bn B (hvk kt x % N) (a, x, k, v) i, D q.1 := by
      intro i hi2 q hq
      rcases (Bn_in hi).mp ⟨i, hi2, hq⟩ with ⟨i', hi', hq'⟩ | rfl
      · exact hDn i' hi' q hq'
      · exact hDf a (by rw [ha]; exact Nat.le_refl _)
    have hEn : ∀ q, (E q ∨ q = (a, x, k, v)) ↔ ∃ i, i < N ∧ q ∈ Bn B (hvk kt x % N) (a, x, k, v) i := fun q => by rw [Bn_in hi, hE]
    refine ⟨fun _ => ?_, fun hn7 => Or.inl ⟨?_, ?_⟩⟩
    · unfold wJ1_putValb222
      refine ⟨fun _ => ?_, fun w => absurd rfl w⟩
      exact put_end (E' := fun q' => E q' ∨ q' = (a, x, k, v)) e2.t hn hm2 hDm hDa hXa hN hBn hWn hDnn hEn (fun b hb2 => hDf b (Nat.le_trans e12.le hb2)) (e12.rm hb (by omega)) fun υ2 N' h1 h2 h3 h4 => hA hno' υ2 a N' h1 h2 (e12.tr h3) h4 (isN.ev (isN.ev ⟨_, hna, rfl⟩ e2) h3)
    · obtain ⟨-, k0, k1, k3, h9⟩ := hm2
      exact rco h9
    · have h8 : 8 ≤ (B (hvk kt x % N)).length := by
        rw [hl, List.length_append, List.length_singleton, hln]
        rcases Nat.lt_or_ge n1 7 with h9 | h9
        · exact absurd ((i_lt (by omega) (by omega) : Int32.ofNat n1 < Int32.ofNat 7 ↔ _).mpr h9) hn7
        · omega
      have h64 : ¬ 64 ≤ N := fun w => by
        have := bin_few hB' hW hN w hi
        omega
      unfold wJ1_treeifyBin wJ1_treeifyBinb0
      obtain ⟨fn, hfn, hcn⟩ := id hBn
      refine ⟨fun w => (nomatch w), fun _ => aL hfn ⟨fun w => ?_, fun _ => ?_⟩⟩
      · rw [show (64 : Int32) = Int32.ofNat 64 from rfl, i_le (by omega) (by omega)] at w
        exact absurd w h64
      unfold wJ1_treeifyBinb13
      refine Or.inl ⟨?_, resize_1 e2.t hm2 hDm hDa hXa hN (by omega) hBn hWn hDnn (fun b hb2 => hDf b (Nat.le_trans e12.le hb2)) (e12.rm hb (by omega)) fun τ3 tb e3 hm3 hDb hXb hB3 hW3 => ?_⟩
      · obtain ⟨-, k0, k1, k3, h9⟩ := hm2
        exact rco h9
      unfold wJ1_treeifyBinb17 wJ1_putValb172 wJ1_putValb222
      refine ⟨fun _ => ?_, fun w => absurd rfl w⟩
      have e13 := e12.tr e3
      have hN2 : pw (2 * N) := by
        obtain ⟨i, hi1, hi, rfl⟩ := hN
        refine ⟨i + 1, by omega, ?_, by rw [Nat.pow_succ, Nat.mul_comm]⟩
        by_cases h9 : i = 9
        · subst h9; omega
        · omega
      refine put_end (E' := fun q' => E q' ∨ q' = (a, x, k, v)) e3.t hn hm3 hDm hDb hXb hN2 hB3 hW3 (fun i hi2 q hq => ?_) (fun q => (hEn q).trans (B2_in q).symm) (fun b hb2 => hDf b (Nat.le_trans e13.le hb2)) (e13.rm hb (by omega)) fun υ2 N' h1 h2 h3 h4 => hA hno' υ2 a N' (by omega) h2 ((e13.tr h3).le' (by omega)) h4 (isN.ev (isN.ev (isN.ev ⟨_, hna, rfl⟩ e2) e3) h3)
      obtain ⟨i', hi', hq'⟩ := (B2_in (kt := kt) q).mp ⟨i, hi2, hq⟩
      exact hDnn i' hi' q hq'
/-- a put -/
theorem put_k (hS : SI G σ) (hH : HM G σ D kt m n N E) (hk : KY σ kt k x) (hn : n ≤ 240) (hDf : ∀ a, σ.2.1 ≤ a → D a) (hb : bd G σ 1700)
    (hF : ∀ q, E q → q.2.1 = x → ∀ τ, ev G (Wm D) 0 σ τ → HM G τ D kt m n N (fun q' => (E q' ∧ q'.2.1 ≠ x) ∨ q' = (q.1, q.2.1, q.2.2.1, v)) → P q.2.2.2 τ)
    (hA : (∀ q, E q → q.2.1 ≠ x) → ∀ τ a N', N ≤ N' → N' ≤ 512 → ev G (Wm D) (5 + 3 * (N' - N)) σ τ → HM G τ D kt m (n + 1) N' (fun q' => E q' ∨ q' = (a, x, k, v)) → isN τ a → P none τ) : wJ1_putVal G P PX (some m) (Int32.ofNat (hvk kt x)) (some k) v 0 1 σ := by
  have hH' := hH
  obtain ⟨t, md, th, hm, hDm, hn0, ⟨rfl, rfl, h4, h5⟩ | ⟨ta, B, rfl, hDa, hXa, hN, rfl, hB, hW, hDn, hE⟩⟩ := hH
  · have hm' := hm
    obtain ⟨hci, k0, k1, k3, hm⟩ := hm
    unfold wJ1_putVal wJ1_putValb0
    refine gR hm (by decide) rfl ⟨fun _ => ?_, fun w => absurd rfl w⟩
    unfold wJ1_putValb19
    refine Or.inl ⟨rco hm, ?_⟩
    have key : ∃ T, pw T ∧ ((th = 0 ∧ T = 16) ∨ (pw T ∧ th = Int32.ofNat T)) := by
      rcases h5 with rfl | ⟨T, h6, rfl⟩
      · exact ⟨16, ⟨4, by decide, by decide, rfl⟩, Or.inl ⟨rfl, rfl⟩⟩
      · exact ⟨T, h6, Or.inr ⟨h6, rfl⟩⟩
    obtain ⟨T, hT, hT2⟩ := key
    have hTb := pw_b hT
    refine resize_0 hS hm' hT2 (hb.mono (by omega)) fun τ ta e1 hm1 hta hXa hf hkp => ?_
    unfold wJ1_putValb23
    refine aL hf ?_
    have e1D : ev G (Wm D) (1 + T) σ τ := e1.up hDm (Or.inl rfl)
    refine put_tab (E := E) e1.t (hk.ev e1 (W1_k (by omega))) hn hm1 hDm hn0 (hDf _ hta) hXa hT ⟨_, hf, fun i hi => ?_⟩ (B := fun _ => []) (fun i hi => ⟨fun q hq => (nomatch hq), List.nodup_nil⟩) (fun i hi q hq => nomatch hq) (fun q => ⟨fun w => absurd w (h4 q), fun ⟨i, _, w⟩ => nomatch w⟩) (fun a ha => hDf a (Nat.le_trans e1.le ha)) (e1.rm hb (by omega)) (fun q hq => absurd hq (h4 q)) fun hno τ2 a N' h1 h2 h3 h4' h5' => hA hno τ2 a N' (Nat.zero_le _) h2 ((e1D.tr h3).le' (by omega)) h4' h5'
    rfl
  · have hm' := hm
    obtain ⟨hci, k0, k1, k3, hm⟩ := hm
    have hNb := pw_b hN
    obtain ⟨f, hf, hc⟩ := id hB
    unfold wJ1_putVal wJ1_putValb0
    refine gR hm (by decide) rfl ⟨fun w => (nomatch w), fun _ => aL hf ⟨fun _ => ?_, fun w => ?_⟩⟩
    · exact put_tab hS hk hn hm' hDm hn0 hDa hXa hN hB hW hDn hE hDf (hb.mono (by omega)) hF hA
    · rw [show (0 : Int32) = Int32.ofNat 0 from rfl, i_eq (by omega) (by omega)] at w
      omega
theorem puT_k (hS : SI G σ) (hH : HM G σ D kt m n N E) (hk : KY σ kt k x) (hn : n ≤ 240) (hDf : ∀ a, σ.2.1 ≤ a → D a) (hb : bd G σ 1700)
    (hF : ∀ q, E q → q.2.1 = x → ∀ τ, ev G (Wm D) 0 σ τ → HM G τ D kt m n N (fun q' => (E q' ∧ q'.2.1 ≠ x) ∨ q' = (q.1, q.2.1, q.2.2.1, v)) → P q.2.2.2 τ)
    (hA : (∀ q, E q → q.2.1 ≠ x) → ∀ τ a N', N ≤ N' → N' ≤ 512 → ev G (Wm D) (5 + 3 * (N' - N)) σ τ → HM G τ D kt m (n + 1) N' (fun q' => E q' ∨ q' = (a, x, k, v)) → isN τ a → P none τ) : wJ1_put G P PX (some m) (some k) v σ := by
  unfold wJ1_put wJ1_putb0
  exact hash_k hk (Or.inl ⟨hH.rc, put_k hS hH hk hn hDf hb hF hA⟩)
end PUT
