/-! a table doubled -/
set_option maxRecDepth 100000
/-- a chain by the links alone -/
def cp (ν : Nat → Option Nat) (e : Option Nat) : List eT → Option Nat → Prop
  | [], r => r = e
  | q :: t, r => r = some q.1 ∧ cp ν e t (ν q.1)
def upN (f : Nat → Option Nat) (i : Nat) (r : Option Nat) : Nat → Option Nat := fun k => if k = i then r else f k
theorem upN_s {f : Nat → Option Nat} {i : Nat} {r : Option Nat} : upN f i r i = r := if_pos rfl
theorem upN_n {f : Nat → Option Nat} {i k : Nat} {r : Option Nat} (h : k ≠ i) : upN f i r k = f k := if_neg h
theorem cp_keep {ν ν' : Nat → Option Nat} {e : Option Nat} {l : List eT} {r : Option Nat} (hN : ∀ q ∈ l, ν' q.1 = ν q.1) (h : cp ν e l r) : cp ν' e l r := by
  induction l generalizing r with
  | nil => exact h
  | cons q t ih =>
    obtain ⟨h0, h1⟩ := h
    refine ⟨h0, ?_⟩
    rw [hN q List.mem_cons_self]
    exact ih (fun q hq => hN q (List.mem_cons_of_mem _ hq)) h1
theorem cp_app {ν : Nat → Option Nat} {e : Option Nat} {l1 l2 : List eT} {r : Option Nat} : cp ν e (l1 ++ l2) r ↔ ∃ m, cp ν m l1 r ∧ cp ν e l2 m := by
  induction l1 generalizing r with
  | nil => exact ⟨fun h => ⟨r, rfl, h⟩, fun ⟨m, h1, h2⟩ => by cases h1; exact h2⟩
  | cons q t ih =>
    constructor
    · rintro ⟨h0, h1⟩
      obtain ⟨m, h4, h5⟩ := ih.mp h1
      exact ⟨m, ⟨h0, h4⟩, h5⟩
    · rintro ⟨m, ⟨h0, h4⟩, h5⟩
      exact ⟨h0, ih.mpr ⟨m, h4, h5⟩⟩
theorem cp_end {ν : Nat → Option Nat} {e e' : Option Nat} {l : List eT} {p : eT} {r : Option Nat} (h : cp ν e (l ++ [p]) r) (hN : ∀ q ∈ l, q.1 ≠ p.1) : cp (upN ν p.1 e') e' (l ++ [p]) r := by
  obtain ⟨m, h1, h2, -⟩ := cp_app.mp h
  exact cp_app.mpr ⟨m, cp_keep (fun q hq => upN_n (hN q hq)) h1, h2, upN_s⟩
/-- a stretch that is being built: its head, its last node -/
def seg (ν : Nat → Option Nat) (l : List eT) (hd tl : Option Nat) : Prop := (l = [] ∧ hd = none ∧ tl = none) ∨ ∃ l1 p e, l = l1 ++ [p] ∧ tl = some p.1 ∧ cp ν e (l1 ++ [p]) hd
theorem seg_keep {ν ν' : Nat → Option Nat} {l : List eT} {hd tl : Option Nat} (hN : ∀ q ∈ l, ν' q.1 = ν q.1) (h : seg ν l hd tl) : seg ν' l hd tl := by
  rcases h with h | ⟨l1, p, e, rfl, h2, h3⟩
  · exact Or.inl h
  · exact Or.inr ⟨l1, p, e, rfl, h2, cp_keep hN h3⟩
/-- a node more -/
theorem seg_add {ν : Nat → Option Nat} {l : List eT} {hd tl : Option Nat} {q : eT} (h : seg ν l hd tl) (hnd : ((l ++ [q]).map (fun q => q.1)).Nodup) : (tl = none → seg ν (l ++ [q]) (some q.1) (some q.1)) ∧ ∀ p, tl = some p → seg (upN ν p (some q.1)) (l ++ [q]) hd (some q.1) := by
  rcases h with ⟨rfl, rfl, rfl⟩ | ⟨l1, p, e, rfl, rfl, h3⟩
  · exact ⟨fun _ => Or.inr ⟨[], q, ν q.1, rfl, rfl, rfl, rfl⟩, fun p w => nomatch w⟩
  · refine ⟨fun w => (nomatch w), fun p' w => ?_⟩
    cases w
    refine Or.inr ⟨l1 ++ [p], q, upN ν p.1 (some q.1) q.1, rfl, rfl, cp_app.mpr ⟨some q.1, cp_end h3 fun q' hq' e' => ?_, rfl, rfl⟩⟩
    rw [List.map_append, List.map_append, List.nodup_append] at hnd
    have h4 := hnd.1
    rw [List.nodup_append] at h4
    exact h4.2.2 q'.1 (List.mem_map.mpr ⟨q', hq', rfl⟩) p.1 (by simp) e'
/-- goes to the lower half, to the upper half -/
def lo (kt N : Nat) (q : eT) : Bool := decide (hvk kt q.2.1 % (2 * N) = hvk kt q.2.1 % N)
theorem mod2 (h N : Nat) (hN : 0 < N) : h % (2 * N) = h % N ∨ h % (2 * N) = h % N + N := by
  have h1 : h % (2 * N) < 2 * N := Nat.mod_lt _ (by omega)
  have h2 : h % (2 * N) % N = h % N := Nat.mod_mod_of_dvd _ ⟨2, Nat.mul_comm _ _⟩
  by_cases h3 : h % (2 * N) < N
  · rw [Nat.mod_eq_of_lt h3] at h2
    exact Or.inl h2
  · have h4 : h % (2 * N) = h % (2 * N) - N + N := by omega
    rw [h4, Nat.add_mod_right, Nat.mod_eq_of_lt (by omega)] at h2
    exact Or.inr (by omega)
/-- the bins of the doubled table -/
def B2 (kt N : Nat) (B : Nat → List eT) : Nat → List eT := fun i => if i < N then (B i).filter (lo kt N) else (B (i - N)).filter (fun q => ! lo kt N q)
theorem B2_in {kt N : Nat} {B : Nat → List eT} (q : eT) : (∃ i, i < 2 * N ∧ q ∈ B2 kt N B i) ↔ ∃ i, i < N ∧ q ∈ B i := by
  constructor
  · rintro ⟨i, hi, h⟩
    unfold B2 at h
    by_cases h1 : i < N
    · rw [if_pos h1] at h
      exact ⟨i, h1, (List.mem_filter.mp h).1⟩
    · rw [if_neg h1] at h
      exact ⟨i - N, by omega, (List.mem_filter.mp h).1⟩
  · rintro ⟨i, hi, h⟩
    cases hq : lo kt N q
    · refine ⟨i + N, by omega, ?_⟩
      unfold B2
      rw [if_neg (by omega), Nat.add_sub_cancel]
      exact List.mem_filter.mpr ⟨h, by rw [hq]; rfl⟩
    · refine ⟨i, by omega, ?_⟩
      unfold B2
      rw [if_pos hi]
      exact List.mem_filter.mpr ⟨h, hq⟩
theorem B2_W {kt N : Nat} {B : Nat → List eT} (hN : 0 < N) (hW : WB kt N B) : WB kt (2 * N) (B2 kt N B) := by
  intro i hi
  unfold B2
  by_cases h1 : i < N
  · rw [if_pos h1]
    refine ⟨fun q hq => ?_, ?_⟩
    · obtain ⟨h2, h3⟩ := List.mem_filter.mp hq
      rw [of_decide_eq_true h3]
      exact (hW i h1).1 q h2
    · exact List.Nodup.sublist (List.Sublist.map _ List.filter_sublist) (hW i h1).2
  · rw [if_neg h1]
    refine ⟨fun q hq => ?_, ?_⟩
    · obtain ⟨h2, h3⟩ := List.mem_filter.mp hq
      have h4 := (hW (i - N) (by omega)).1 q h2
      have h5 : ¬ hvk kt q.2.1 % (2 * N) = hvk kt q.2.1 % N := fun e => by
        have : lo kt N q = true := decide_eq_true e
        rw [this] at h3
        exact nomatch h3
      rcases mod2 (hvk kt q.2.1) N hN with h6 | h6
      · exact absurd h6 h5
      · omega
    · exact List.Nodup.sublist (List.Sublist.map _ List.filter_sublist) (hW (i - N) (by omega)).2
section RS1
variable {G : gE} {PX : Nat → Nat → hSt → Prop} {P : Option Nat → hSt → Prop} {kt m ta tb N : Nat} {B : Nat → List eT} {D : Nat → Prop} {σs : hSt}
/-- the state of a table that is being doubled: links, old and new places -/
def SS (G : gE) (kt ta tb N : Nat) (B : Nat → List eT) (D : Nat → Prop) (σs z : hSt) (ν fa g : Nat → Option Nat) : Prop := ev G (Wm D) 0 σs z ∧ (∀ b, (∀ i, i < N → ∀ q ∈ B i, b ≠ q.1) → b ≠ ta → b ≠ tb → z.1 b = σs.1 b) ∧ (∀ i, i < N → ∀ q ∈ B i, KY z kt q.2.2.1 q.2.1 ∧ nq z q.1 (hvk kt q.2.1) q.2.2.1 q.2.2.2 (ν q.1)) ∧ z.1 ta = some (.inl (6, N, .inr (.inr (.inr (.inr fa))))) ∧ z.1 tb = some (.inl (6, 2 * N, .inr (.inr (.inr (.inr g)))))
/-- nodes apart -/
def rsI (G : gE) (N : Nat) (B : Nat → List eT) (ta tb : Nat) (D : Nat → Prop) : Prop := (∀ i i' q q', i < N → i' < N → q ∈ B i → q' ∈ B i' → q.1 = q'.1 → i = i' ∧ q = q') ∧ (∀ i, i < N → ((B i).map (fun q => q.1)).Nodup) ∧ (∀ i, i < N → ∀ q ∈ B i, D q.1 ∧ q.1 ≠ ta ∧ q.1 ≠ tb) ∧ D ta ∧ D tb ∧ ta ≠ tb ∧ ¬ gX G ta ∧ ¬ gX G tb
theorem ss_n {z : hSt} {ν fa g : Nat → Option Nat} {K : hSt → Prop} {j : Nat} {p : eT} {r : Option Nat} (hI : rsI G N B ta tb D) (h : SS G kt ta tb N B D σs z ν fa g) (hj : j < N) (hp : p ∈ B j) (hK : ∀ τ, SS G kt ta tb N B D σs τ (upN ν p.1 r) fa g → K τ) : ptV G z (some p.1) [26, 27] 3 (va_rf r) K := by
  obtain ⟨h1, h2, h3, h4, h5⟩ := h
  obtain ⟨hd, hnd, hD, hDa, hDb, hab, hXa, hXb⟩ := hI
  have hpD := hD j hj p hp
  refine pN h1.t (h3 j hj p hp).2 fun τ ci hci he hn hk _ => hK τ ⟨(h1.tr (he.up hpD.1 (by unfold mkd; omega))).le' (by omega), fun b hb1 hb2 hb3 => ?_, fun i hi q hq => ⟨(h3 i hi q hq).1.ev he (W1_k (by omega)), ?_⟩, by rw [hk _ (Ne.symm hpD.2.1)]; exact h4, by rw [hk _ (Ne.symm hpD.2.2)]; exact h5⟩
  · rw [hk b (hb1 j hj p hp)]; exact h2 b hb1 hb2 hb3
  · by_cases e : q.1 = p.1
    · obtain ⟨-, rfl⟩ := hd i j q p hi hj hq hp e
      rw [upN_s]; exact hn
    · rw [upN_n e]
      obtain ⟨cj, Y, hc, hn9⟩ := (h3 i hi q hq).2
      exact ⟨cj, Y, hc, by rw [hk _ e]; exact hn9⟩
theorem ss_el {z : hSt} {ν fa g : Nat → Option Nat} {r : Option Nat} (h : SS G kt ta tb N B D σs z ν fa g) (hr : r = none ∨ ∃ i p, i < N ∧ p ∈ B i ∧ r = some p.1) : elOk z [26, 27] r := by
  rcases hr with rfl | ⟨i, p, hi, hp, rfl⟩
  · exact Or.inl rfl
  · obtain ⟨cj, Y, hc, hn9⟩ := (h.2.2.1 i hi p hp).2
    exact Or.inr ⟨_, _, _, rfl, hn9, n26 hc⟩
theorem ss_t {z : hSt} {ν fa g : Nat → Option Nat} {K : hSt → Prop} {i : Nat} {r : Option Nat} (hN2 : N ≤ 512) (hI : rsI G N B ta tb D) (h : SS G kt ta tb N B D σs z ν fa g) (hi : i < 2 * N) (hr : r = none ∨ ∃ i p, i < N ∧ p ∈ B i ∧ r = some p.1) (hK : ∀ τ, SS G kt ta tb N B D σs τ ν fa (upN g i r) → K τ) : asR G z (some tb) asLT (Int32.ofNat i) r K := by
  have hel := ss_el h hr
  obtain ⟨h1, h2, h3, h4, h5⟩ := h
  obtain ⟨hd, hnd, hD, hDa, hDb, hab, hXa, hXb⟩ := hI
  refine sR h1.t h5 (by decide) hXb (by omega) hi hel fun τ hw he => hK τ ⟨(h1.tr (he.up hDb (by unfold mkd; omega))).le' (by omega), fun b hb1 hb2 hb3 => ?_, fun i hi q hq => ⟨(h3 i hi q hq).1.ev he (W1_k (by omega)), (h3 i hi q hq).2.wr hw (hD i hi q hq).2.2⟩, by rw [hw.o hab]; exact h4, hw.1⟩
  rw [hw.o hb3]; exact h2 b hb1 hb2 hb3
theorem ss_a {z : hSt} {ν fa g : Nat → Option Nat} {K : hSt → Prop} {i : Nat} (hN2 : N ≤ 512) (hI : rsI G N B ta tb D) (h : SS G kt ta tb N B D σs z ν fa g) (hi : i < N) (hK : ∀ τ, SS G kt ta tb N B D σs τ ν (upN fa i none) g → K τ) : asR G z (some ta) asLT (Int32.ofNat i) none K := by
  obtain ⟨h1, h2, h3, h4, h5⟩ := h
  obtain ⟨hd, hnd, hD, hDa, hDb, hab, hXa, hXb⟩ := hI
  refine sR (L := [26, 27]) h1.t h4 (by decide) hXa (by omega) hi (Or.inl rfl) fun τ hw he => hK τ ⟨(h1.tr (he.up hDa (by unfold mkd; omega))).le' (by omega), fun b hb1 hb2 hb3 => ?_, fun i hi q hq => ⟨(h3 i hi q hq).1.ev he (W1_k (by omega)), (h3 i hi q hq).2.wr hw (hD i hi q hq).2.1⟩, hw.1, by rw [hw.o (Ne.symm hab)]; exact h5⟩
  rw [hw.o hb2]; exact h2 b hb1 hb2 hb3
/-- the bins but j: those behind it stand in the old table, those ahead of it in the new one -/
def OT (kt N : Nat) (B : Nat → List eT) (j : Nat) (ν fa g : Nat → Option Nat) : Prop := (∀ i, j < i → i < N → cp ν none (B i) (fa i)) ∧ (∀ i, i < j → cp ν none ((B i).filter (lo kt N)) (g i) ∧ cp ν none ((B i).filter (fun q => ! lo kt N q)) (g (i + N))) ∧ ∀ i, j ≤ i → i < N → g i = none ∧ g (i + N) = none
theorem OT_n {ν fa g : Nat → Option Nat} {j : Nat} {p : eT} {r : Option Nat} (hI : rsI G N B ta tb D) (hj : j < N) (hp : p ∈ B j) (h : OT kt N B j ν fa g) : OT kt N B j (upN ν p.1 r) fa g := by
  obtain ⟨h1, h2, h3⟩ := h
  have hk : ∀ i, i < N → i ≠ j → ∀ q ∈ B i, upN ν p.1 r q.1 = ν q.1 := fun i hi hij q hq => upN_n fun e => hij (hI.1 i j q p hi hj hq hp e).1
  exact ⟨fun i hi1 hi2 => cp_keep (hk i hi2 (by omega)) (h1 i hi1 hi2), fun i hi => ⟨cp_keep (fun q hq => hk i (by omega) (by omega) q (List.mem_filter.mp hq).1) (h2 i hi).1, cp_keep (fun q hq => hk i (by omega) (by omega) q (List.mem_filter.mp hq).1) (h2 i hi).2⟩, h3⟩
/-- a segment's nodes apart, a node of the other half -/
theorem half_ne {j : Nat} {pr : eT → Bool} (hI : rsI G N B ta tb D) (hj : j < N) {p q : eT} (hp : p ∈ B j) (hq : q ∈ B j) (h1 : pr p = true) (h2 : pr q = false) : q.1 ≠ p.1 := fun e => by
  obtain ⟨-, rfl⟩ := hI.1 j j q p hj hj hq hp e
  rw [h1] at h2
  exact nomatch h2
abbrev hi' (kt N : Nat) : eT → Bool := fun q => ! lo kt N q
/-- one half's end -/
theorem seg_done {ν : Nat → Option Nat} {pr : eT → Bool} {j : Nat} {hd tl : Option Nat} (hI : rsI G N B ta tb D) (hj : j < N) (h : seg ν ((B j).filter pr) hd tl) : (tl = none → (B j).filter pr = []) ∧ ∀ t, tl = some t → (∃ p ∈ (B j).filter pr, t = p.1 ∧ p ∈ B j ∧ pr p = true) ∧ (∃ p ∈ B j, hd = some p.1) ∧ cp (upN ν t none) none ((B j).filter pr) hd := by
  rcases h with ⟨h1, -, h3⟩ | ⟨l1, p, e, h1, rfl, h3⟩
  · exact ⟨fun _ => h1, fun t w => by rw [h3] at w; exact nomatch w⟩
  · refine ⟨fun w => (nomatch w), fun t w => ?_⟩
    cases w
    have hpm : p ∈ (B j).filter pr := by rw [h1]; exact List.mem_append_right _ List.mem_cons_self
    have hnd : (((B j).filter pr).map (fun q => q.1)).Nodup := List.Nodup.sublist (List.Sublist.map _ List.filter_sublist) (hI.2.1 j hj)
    refine ⟨⟨p, hpm, rfl, (List.mem_filter.mp hpm).1, (List.mem_filter.mp hpm).2⟩, ?_, ?_⟩
    · cases l1 with
      | nil => exact ⟨p, (List.mem_filter.mp hpm).1, h3.1⟩
      | cons q t => exact ⟨q, (List.mem_filter.mp (by rw [h1]; exact List.mem_cons_self : q ∈ (B j).filter pr)).1, h3.1⟩
    · rw [h1]
      refine cp_end h3 fun q hq e9 => ?_
      rw [h1, List.map_append, List.nodup_append] at hnd
      exact hnd.2.2 q.1 (List.mem_map.mpr ⟨q, hq, rfl⟩) p.1 (by simp) e9
theorem rs_fin {j : Nat} {z : hSt} {ν fa g : Nat → Option Nat} (hI : rsI G N B ta tb D) (hN2 : N ≤ 512) (hj : j < N) (hS : SS G kt ta tb N B D σs z ν fa g) (hO : OT kt N B j ν fa g) {h1 t1 h2 t2 : Option Nat} (hl : seg ν ((B j).filter (lo kt N)) h1 t1) (hh : seg ν ((B j).filter (hi' kt N)) h2 t2) {K : (Option Nat × Option Nat × Int32 × Int32 × Option Nat × Int32 × hSt) → Prop} (hK : ∀ τ ν' g', SS G kt ta tb N B D σs τ ν' fa g' → OT kt N B (j + 1) ν' fa g' → (∀ i, j < i → i < N → cp ν' none (B i) (fa i)) → K (some m, some ta, Int32.ofNat N, Int32.ofNat (2 * N), some tb, Int32.ofNat j + 1, τ)) : ((t1 = none → wJ1_resizeb327 G P PX K (some m) (some ta) (Int32.ofNat N) (Int32.ofNat (2 * N)) (some tb) (Int32.ofNat j) h2 t2 z) ∧ (¬ t1 = none → ptV G z t1 [26, 27] 3 (va_rf none) (fun z20 => asR G z20 (some tb) asLT (Int32.ofNat j) h1 (fun z21 => wJ1_resizeb327 G P PX K (some m) (some ta) (Int32.ofNat N) (Int32.ofNat (2 * N)) (some tb) (Int32.ofNat j) h2 t2 z21)))) := by
  -- the upper half, once the lower half stands in its place
  have up : ∀ z ν g, SS G kt ta tb N B D σs z ν fa g → (∀ i, j < i → i < N → cp ν none (B i) (fa i)) → (∀ i, i < j → cp ν none ((B i).filter (lo kt N)) (g i) ∧ cp ν none ((B i).filter (hi' kt N)) (g (i + N))) → (∀ i, j < i → i < N → g i = none ∧ g (i + N) = none) → cp ν none ((B j).filter (lo kt N)) (g j) → g (j + N) = none → seg ν ((B j).filter (hi' kt N)) h2 t2 → wJ1_resizeb327 G P PX K (some m) (some ta) (Int32.ofNat N) (Int32.ofNat (2 * N)) (some tb) (Int32.ofNat j) h2 t2 z := by
    intro z ν g hS o1 o2 o3 hlo hgj hh
    have hd := seg_done hI hj hh
    unfold wJ1_resizeb327 wJ1_resizeb347
    refine ⟨fun e => hK z ν g hS ⟨fun i hi1 hi2 => o1 i (by omega) hi2, fun i hi => ?_, fun i hi1 hi2 => o3 i (by omega) hi2⟩ o1, fun e => ?_⟩
    · by_cases q : i = j
      · subst q
        exact ⟨hlo, by rw [show (B i).filter (fun q => ! lo kt N q) = [] from hd.1 e, hgj]; rfl⟩
      · exact o2 i (by omega)
    · obtain ⟨t, rfl⟩ := Option.ne_none_iff_exists'.mp e
      obtain ⟨⟨p, hpm, rfl, hp, hpp⟩, ⟨p2, hp2, rfl⟩, hcp⟩ := hd.2 t rfl
      refine ss_n hI hS hj hp fun τ hS2 => ?_
      rw [i_add]
      refine ss_t hN2 hI hS2 (by omega) (Or.inr ⟨j, p2, hj, hp2, rfl⟩) fun υ hS3 => hK υ _ _ hS3 ?_ fun i hi1 hi2 => cp_keep (fun q hq => upN_n fun e => absurd (hI.1 i j q p hi2 hj hq hp e).1 (by omega)) (o1 i hi1 hi2)
      have hk : ∀ i, i < N → i ≠ j → ∀ q ∈ B i, upN ν p.1 none q.1 = ν q.1 := fun i hi hij q hq => upN_n fun e => hij (hI.1 i j q p hi hj hq hp e).1
      refine ⟨fun i hi1 hi2 => cp_keep (hk i hi2 (by omega)) (o1 i (by omega) hi2), fun i hi => ?_, fun i hi1 hi2 => ?_⟩
      · by_cases hij : i = j
        · subst hij
          rw [upN_n (by omega), upN_s]
          refine ⟨cp_keep (fun q hq => upN_n ?_) hlo, hcp⟩
          refine half_ne (pr := hi' kt N) hI hj hp (List.mem_filter.mp hq).1 hpp ?_
          show (! lo kt N q) = false
          rw [(List.mem_filter.mp hq).2]; rfl
        · rw [upN_n (by omega), upN_n (by omega)]
          exact ⟨cp_keep (fun q hq => hk i (by omega) hij q (List.mem_filter.mp hq).1) (o2 i (by omega)).1, cp_keep (fun q hq => hk i (by omega) hij q (List.mem_filter.mp hq).1) (o2 i (by omega)).2⟩
      · rw [upN_n (by omega), upN_n (by omega)]
        exact o3 i (by omega) hi2
  have hd := seg_done hI hj hl
  obtain ⟨o1, o2, o3⟩ := hO
  refine ⟨fun e => up z ν g hS o1 o2 (fun i hi1 hi2 => o3 i (by omega) hi2) (by rw [hd.1 e, (o3 j (Nat.le_refl _) hj).1]; rfl) (o3 j (Nat.le_refl _) hj).2 hh, fun e => ?_⟩
  obtain ⟨t, rfl⟩ := Option.ne_none_iff_exists'.mp e
  obtain ⟨⟨p, hpm, rfl, hp, hpp⟩, ⟨p2, hp2, rfl⟩, hcp⟩ := hd.2 t rfl
  refine ss_n hI hS hj hp fun τ hS2 => ?_
  refine ss_t hN2 hI hS2 (by omega) (Or.inr ⟨j, p2, hj, hp2, rfl⟩) fun υ hS3 => ?_
  obtain ⟨q1, q2, q3⟩ := OT_n (r := none) hI hj hp (show OT kt N B j ν fa g from ⟨o1, o2, o3⟩)
  refine up υ _ _ hS3 q1 (fun i hi => ?_) (fun i hi1 hi2 => ?_) ?_ ?_ (seg_keep (fun q hq => upN_n ?_) hh)
  · rw [upN_n (by omega), upN_n (by omega)]; exact q2 i hi
  · rw [upN_n (by omega), upN_n (by omega)]; exact q3 i (by omega) hi2
  · rw [upN_s]; exact hcp
  · rw [upN_n (by omega)]; exact (q3 j (Nat.le_refl _) hj).2
  · have hq2 := (List.mem_filter.mp hq).2
    refine half_ne (pr := lo kt N) hI hj hp (List.mem_filter.mp hq).1 hpp ?_
    cases h9 : lo kt N q
    · rfl
    · have : (! lo kt N q) = true := hq2
      rw [h9] at this; exact nomatch this
end RS1
