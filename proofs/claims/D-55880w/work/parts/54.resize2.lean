/-! a table doubled: the loops -/
set_option maxRecDepth 100000
theorem seg_tl {ν : Nat → Option Nat} {l : List eT} {hd tl : Option Nat} {a : Nat} (h : seg ν l hd tl) (ht : tl = some a) : ∃ p ∈ l, a = p.1 := by
  subst ht
  rcases h with ⟨-, -, h⟩ | ⟨l1, p, e, rfl, h2, -⟩
  · exact nomatch h
  · cases h2
    exact ⟨p, List.mem_append_right _ List.mem_cons_self, rfl⟩
section RS2
variable {G : gE} {PX : Nat → Nat → hSt → Prop} {P : Option Nat → hSt → Prop} {kt m ta tb N : Nat} {B : Nat → List eT} {D : Nat → Prop} {σs : hSt}
theorem rs_in {j : Nat} {z : hSt} {ν fa g : Nat → Option Nat} {r : Option Nat} (hI : rsI G N B ta tb D) (hN : pw N) (hj : j < N) (hS : SS G kt ta tb N B D σs z ν fa g) (hO : OT kt N B j ν fa g) (hne : B j ≠ []) (hc : cp ν none (B j) r) {K : (Option Nat × Option Nat × Int32 × Int32 × Option Nat × Int32 × hSt) → Prop} (hK : ∀ τ ν' g', SS G kt ta tb N B D σs τ ν' fa g' → OT kt N B (j + 1) ν' fa g' → (∀ i, j < i → i < N → cp ν' none (B i) (fa i)) → K (some m, some ta, Int32.ofNat N, Int32.ofNat (2 * N), some tb, Int32.ofNat j + 1, τ)) : lpI (fun (K235 : (Option Nat × Option Nat × Int32 × Int32 × Option Nat × Int32 × Option Nat × Option Nat × Option Nat × Option Nat × Option Nat × hSt) → Prop) (y : (Option Nat × Option Nat × Int32 × Int32 × Option Nat × Int32 × Option Nat × Option Nat × Option Nat × Option Nat × Option Nat × hSt)) => wJ1_resizeb235 G P PX K K235 (y.1) (y.2.1) (y.2.2.1) (y.2.2.2.1) (y.2.2.2.2.1) (y.2.2.2.2.2.1) (y.2.2.2.2.2.2.1) (y.2.2.2.2.2.2.2.1) (y.2.2.2.2.2.2.2.2.1) (y.2.2.2.2.2.2.2.2.2.1) (y.2.2.2.2.2.2.2.2.2.2.1) (y.2.2.2.2.2.2.2.2.2.2.2)) (some m, some ta, Int32.ofNat N, Int32.ofNat (2 * N), some tb, Int32.ofNat j, r, none, none, none, none, z) := by
  have hNb := pw_b hN
  refine lp_n (fun n y => ∃ (dn rs : List eT) (r : Option Nat) (ν : Nat → Option Nat) (h1 t1 h2 t2 : Option Nat) (z : hSt), rs.length = n ∧ rs ≠ [] ∧ dn ++ rs = B j ∧ y = (some m, some ta, Int32.ofNat N, Int32.ofNat (2 * N), some tb, Int32.ofNat j, r, h1, t1, h2, t2, z) ∧ SS G kt ta tb N B D σs z ν fa g ∧ OT kt N B j ν fa g ∧ cp ν none rs r ∧ seg ν (dn.filter (lo kt N)) h1 t1 ∧ seg ν (dn.filter (hi' kt N)) h2 t2) (B j).length ⟨[], B j, r, ν, none, none, none, none, z, rfl, hne, rfl, rfl, hS, hO, hc, Or.inl ⟨rfl, rfl, rfl⟩, Or.inl ⟨rfl, rfl, rfl⟩⟩ ?_
  rintro n y ⟨dn, rs, r, ν, h1, t1, h2, t2, z, rfl, hrs, hB, rfl, hS, hO, hc, hl, hh⟩ K2 hK2
  obtain _ | ⟨q, rs⟩ := rs
  · exact absurd rfl hrs
  obtain ⟨rfl, hc⟩ := hc
  have hqB : q ∈ B j := by rw [← hB]; exact List.mem_append_right _ List.mem_cons_self
  have hnd := hI.2.1 j hj
  rw [← hB, show dn ++ q :: rs = (dn ++ [q]) ++ rs by simp, List.map_append, List.nodup_append] at hnd
  have hdn : ∀ p ∈ dn, p ∈ B j := fun p hp => by rw [← hB]; exact List.mem_append_left _ hp
  have hnk : ∀ p ∈ dn, p.1 ≠ q.1 ∧ ∀ q' ∈ rs, q'.1 ≠ p.1 := by
    intro p hp
    refine ⟨fun e => ?_, fun q' hq' e => hnd.2.2 p.1 (List.mem_map.mpr ⟨p, List.mem_append_left _ hp, rfl⟩) q'.1 (List.mem_map.mpr ⟨q', hq', rfl⟩) e.symm⟩
    have := hnd.1
    rw [List.map_append, List.nodup_append] at this
    exact this.2.2 p.1 (List.mem_map.mpr ⟨p, hp, rfl⟩) q.1 (by simp) e
  have fin : ∀ z' ν' h1 t1 h2 t2, SS G kt ta tb N B D σs z' ν' fa g → OT kt N B j ν' fa g → cp ν' none rs (ν q.1) → seg ν' ((dn ++ [q]).filter (lo kt N)) h1 t1 → seg ν' ((dn ++ [q]).filter (hi' kt N)) h2 t2 → wJ1_resizeb301 G P PX K K2 (some m) (some ta) (Int32.ofNat N) (Int32.ofNat (2 * N)) (some tb) (Int32.ofNat j) h1 t1 h2 t2 (ν q.1) z' := by
    intro z' ν' h1 t1 h2 t2 hS hO hc hl hh
    unfold wJ1_resizeb301
    refine ⟨fun e => hK2 rs.length _ (by simp) ⟨dn ++ [q], rs, ν q.1, ν', h1, t1, h2, t2, z', rfl, ?_, by rw [← hB]; simp, rfl, hS, hO, hc, hl, hh⟩, fun e => ?_⟩
    · rintro rfl; exact e hc
    · have hr : rs = [] := by
        cases rs with
        | nil => rfl
        | cons q2 t => rw [e] at hc; exact nomatch hc.1
      subst hr
      have hB' : dn ++ [q] = B j := by rw [← hB]
      rw [hB'] at hl hh
      exact rs_fin hI (by omega) hj hS hO hl hh hK
  obtain ⟨hqk, ci, Y, hci, hq⟩ := hS.2.2.1 j hj q hqB
  have hhb := hqk.hb
  have hlo : (Int32.ofNat (hvk kt q.2.1) &&& Int32.ofNat N = 0) ↔ hvk kt q.2.1 % (2 * N) = hvk kt q.2.1 % N := by
    obtain ⟨i, -, hi, rfl⟩ := hN
    exact bix2 i hi _ hhb
  have ndl : ∀ pr : eT → Bool, pr q = true → ((dn.filter pr ++ [q]).map (fun q => q.1)).Nodup := by
    intro pr hpr
    have e1 : dn.filter pr ++ [q] = (dn ++ [q]).filter pr := by rw [List.filter_append, List.filter_cons_of_pos hpr, List.filter_nil]
    rw [e1]
    exact List.Nodup.sublist (List.Sublist.map _ List.filter_sublist) hnd.1
  have fpos : ∀ pr : eT → Bool, pr q = true → (dn ++ [q]).filter pr = dn.filter pr ++ [q] := fun pr hpr => by rw [List.filter_append, List.filter_cons_of_pos hpr, List.filter_nil]
  have fneg : ∀ pr : eT → Bool, pr q = false → (dn ++ [q]).filter pr = dn.filter pr := fun pr hpr => by rw [List.filter_append, List.filter_cons_of_neg (by rw [hpr]; exact Bool.false_ne_true), List.filter_nil, List.append_nil]
  unfold wJ1_resizeb235
  refine gR hq (n26 hci) rfl (gI hq (n26 hci) rfl ⟨fun hb => ?_, fun hb => ?_⟩)
  · have hlq : lo kt N q = false := by
      unfold lo
      exact decide_eq_false fun e => hb (hlo.mpr e)
    have hhq : hi' kt N q = true := by
      show (! lo kt N q) = true
      rw [hlq]; rfl
    have sa := seg_add hh (ndl _ hhq)
    refine ⟨fun e => ?_, fun e => ?_⟩
    · obtain ⟨t, rfl⟩ := Option.ne_none_iff_exists'.mp e
      obtain ⟨p, hp, rfl⟩ := seg_tl hh rfl
      have hpd := (List.mem_filter.mp hp).1
      have hk := hnk p hpd
      refine ss_n hI hS hj (hdn p hpd) fun τ hS2 => ?_
      unfold wJ1_resizeb297
      refine fin τ _ h1 t1 h2 (some q.1) hS2 (OT_n hI hj (hdn p hpd) hO) (cp_keep (fun q' hq' => upN_n (hk.2 q' hq')) hc) ?_ ?_
      · rw [fneg _ hlq]
        refine seg_keep (fun q' hq' => upN_n ?_) hl
        refine half_ne (pr := hi' kt N) hI hj (hdn p hpd) (hdn q' (List.mem_filter.mp hq').1) (List.mem_filter.mp hp).2 ?_
        show (! lo kt N q') = false
        rw [(List.mem_filter.mp hq').2]; rfl
      · rw [fpos _ hhq]
        exact sa.2 p.1 rfl
    · unfold wJ1_resizeb297
      refine fin z ν h1 t1 (some q.1) (some q.1) hS hO hc ?_ ?_
      · rw [fneg _ hlq]; exact hl
      · rw [fpos _ hhq]; exact sa.1 e
  · have hlq : lo kt N q = true := by
      unfold lo
      exact decide_eq_true (hlo.mp hb)
    have hhq : hi' kt N q = false := by
      show (! lo kt N q) = false
      rw [hlq]; rfl
    have sa := seg_add hl (ndl _ hlq)
    refine ⟨fun e => ?_, fun e => ?_⟩
    · obtain ⟨t, rfl⟩ := Option.ne_none_iff_exists'.mp e
      obtain ⟨p, hp, rfl⟩ := seg_tl hl rfl
      have hpd := (List.mem_filter.mp hp).1
      have hk := hnk p hpd
      refine ss_n hI hS hj (hdn p hpd) fun τ hS2 => ?_
      unfold wJ1_resizeb271
      refine fin τ _ h1 (some q.1) h2 t2 hS2 (OT_n hI hj (hdn p hpd) hO) (cp_keep (fun q' hq' => upN_n (hk.2 q' hq')) hc) ?_ ?_
      · rw [fpos _ hlq]
        exact sa.2 p.1 rfl
      · rw [fneg _ hhq]
        refine seg_keep (fun q' hq' => upN_n ?_) hh
        refine half_ne (pr := lo kt N) hI hj (hdn p hpd) (hdn q' (List.mem_filter.mp hq').1) (List.mem_filter.mp hp).2 ?_
        have h9 : (! lo kt N q') = true := (List.mem_filter.mp hq').2
        cases h8 : lo kt N q'
        · rfl
        · rw [h8] at h9; exact nomatch h9
    · unfold wJ1_resizeb271
      refine fin z ν (some q.1) (some q.1) h2 t2 hS hO hc ?_ ?_
      · rw [fpos _ hlq]; exact sa.1 e
      · rw [fneg _ hhq]; exact hh
theorem rs_out {z : hSt} {ν fa : Nat → Option Nat} (hI : rsI G N B ta tb D) (hN : pw N) (hN2 : N ≤ 256) (hW : WB kt N B) (hS : SS G kt ta tb N B D σs z ν fa fun _ => none) (hc : ∀ i, i < N → cp ν none (B i) (fa i)) (hP : ∀ τ ν' fa' g, SS G kt ta tb N B D σs τ ν' fa' g → (∀ i, i < N → cp ν' none ((B i).filter (lo kt N)) (g i) ∧ cp ν' none ((B i).filter (hi' kt N)) (g (i + N))) → P (some tb) τ) : lpI (fun (K151 : (Option Nat × Option Nat × Int32 × Int32 × Option Nat × Int32 × hSt) → Prop) (y : (Option Nat × Option Nat × Int32 × Int32 × Option Nat × Int32 × hSt)) => wJ1_resizeb151 G P PX K151 (y.1) (y.2.1) (y.2.2.1) (y.2.2.2.1) (y.2.2.2.2.1) (y.2.2.2.2.2.1) (y.2.2.2.2.2.2)) (some m, some ta, Int32.ofNat N, Int32.ofNat (2 * N), some tb, 0, z) := by
  have hNb := pw_b hN
  refine lp_n (fun n y => ∃ (j : Nat) (ν fa g : Nat → Option Nat) (z : hSt), N - j = n ∧ j ≤ N ∧ y = (some m, some ta, Int32.ofNat N, Int32.ofNat (2 * N), some tb, Int32.ofNat j, z) ∧ SS G kt ta tb N B D σs z ν fa g ∧ (∀ i, j ≤ i → i < N → cp ν none (B i) (fa i)) ∧ OT kt N B j ν fa g) N ⟨0, ν, fa, _, z, by omega, by omega, rfl, hS, fun i _ hi => hc i hi, fun i _ hi => hc i hi, fun i hi => absurd hi (Nat.not_lt_zero i), fun _ _ _ => ⟨rfl, rfl⟩⟩ ?_
  rintro n y ⟨j, ν, fa, g, z, rfl, hjN, rfl, hS, hc, hO⟩ K2 hK2
  unfold wJ1_resizeb151 wJ1_resizeb353
  refine ⟨fun w0 => ?_, fun w0 => ?_⟩
  · have w0 := (i_le (by omega) (by omega)).mp w0
    have : j = N := by omega
    subst this
    exact hP z ν fa g hS hO.2.1
  have hj : j < N := Nat.lt_of_not_le fun w => w0 ((i_le (by omega) (by omega)).mpr w)
  have hcj := hc j (Nat.le_refl _) hj
  have next : ∀ τ ν' fa' g', SS G kt ta tb N B D σs τ ν' fa' g' → OT kt N B (j + 1) ν' fa' g' → (∀ i, j + 1 ≤ i → i < N → cp ν' none (B i) (fa' i)) → K2 (some m, some ta, Int32.ofNat N, Int32.ofNat (2 * N), some tb, Int32.ofNat j + 1, τ) := by
    intro τ ν' fa' g' h1 h2 h3
    rw [i_succ]
    exact hK2 (N - (j + 1)) _ (by omega) ⟨j + 1, ν', fa', g', τ, rfl, by omega, rfl, h1, h3, h2⟩
  refine aR hS.2.2.2.1 (by decide) (by omega) hj ⟨fun e => ?_, fun e => ?_⟩
  · have hB : B j = [] := by
      cases hb : B j with
      | nil => rfl
      | cons q t => rw [hb, e] at hcj; exact nomatch hcj.1
    unfold wJ1_resizeb347
    obtain ⟨o1, o2, o3⟩ := hO
    refine next z ν fa g hS ⟨fun i hi1 hi2 => o1 i (by omega) hi2, fun i hi => ?_, fun i hi1 hi2 => o3 i (by omega) hi2⟩ fun i hi1 hi2 => hc i (by omega) hi2
    by_cases h9 : i = j
    · subst h9
      have h8 := o3 i (Nat.le_refl _) hj
      rw [hB, h8.1, h8.2]
      exact ⟨rfl, rfl⟩
    · exact o2 i (by omega)
  · refine ss_a (by omega) hI hS hj fun z1 hS1 => ?_
    have hO1 : OT kt N B j ν (upN fa j none) g := ⟨fun i hi1 hi2 => by rw [upN_n (by omega)]; exact hO.1 i hi1 hi2, hO.2.1, hO.2.2⟩
    obtain ⟨q, t, hB⟩ : ∃ q t, B j = q :: t := by
      cases hb : B j with
      | nil => rw [hb] at hcj; exact absurd hcj e
      | cons q t => exact ⟨q, t, rfl⟩
    have hqB : q ∈ B j := by rw [hB]; exact List.mem_cons_self
    have hcj2 := hcj
    rw [hB] at hcj2
    obtain ⟨hr, hct⟩ := hcj2
    rw [hr]
    obtain ⟨hqk, ci, Y, hci, hq⟩ := hS1.2.2.1 j hj q hqB
    have hhb := hqk.hb
    refine gR hq (n26 hci) rfl ⟨fun e2 => iOn hq (n26 hci) ⟨fun _ => ?_, fun w => absurd rfl w⟩, fun e2 => gI hq (n26 hci) rfl ?_⟩
    · rw [← hr]
      refine rs_in hI hN hj hS1 hO1 (by rw [hB]; exact fun w => nomatch w) hcj fun τ ν' g' hS' hO' hc' => ?_
      exact next τ ν' _ g' hS' hO' fun i hi1 hi2 => hc' i (by omega) hi2
    · have ht : t = [] := by
        cases t with
        | nil => rfl
        | cons q2 t2 => rw [e2] at hct; exact nomatch hct.1
      subst ht
      have e3 : Int32.ofNat (hvk kt q.2.1) &&& (Int32.ofNat (2 * N) - 1) = Int32.ofNat (hvk kt q.2.1 % (2 * N)) := by
        obtain ⟨i, hi1, hi, rfl⟩ := hN
        have : 2 * 2 ^ i = 2 ^ (i + 1) := by rw [Nat.pow_succ, Nat.mul_comm]
        rw [this]
        have hi9 : i + 1 < 10 := by
          by_cases h9 : i = 9
          · subst h9; omega
          · omega
        exact bix1 (i + 1) hi9 _ hhb
      have hm := (hW j hj).1 q hqB
      rw [e3]
      refine ss_t (by omega) hI hS1 (Nat.mod_lt _ (by omega)) (Or.inr ⟨j, q, hj, hqB, rfl⟩) fun τ hS2 => ?_
      unfold wJ1_resizeb347
      obtain ⟨o1, o2, o3⟩ := hO1
      have hgn : g j = none ∧ g (j + N) = none := o3 j (Nat.le_refl _) hj
      refine next τ _ _ _ hS2 ⟨fun i hi1 hi2 => o1 i (by omega) hi2, fun i hi => ?_, fun i hi1 hi2 => ?_⟩ fun i hi1 hi2 => o1 i (by omega) hi2
      · by_cases h9 : i = j
        · subst h9
          rw [hB]
          cases h8 : lo kt N q
          · have h7 : hvk kt q.2.1 % (2 * N) = i + N := by
              rcases mod2 (hvk kt q.2.1) N (by omega) with h6 | h6
              · have : lo kt N q = true := decide_eq_true h6
                rw [this] at h8; exact nomatch h8
              · omega
            rw [h7, upN_n (by omega), upN_s, hgn.1, List.filter_cons_of_neg (by rw [h8]; exact Bool.false_ne_true), List.filter_cons_of_pos (by rw [h8]; rfl)]
            exact ⟨rfl, rfl, e2⟩
          · have h7 : hvk kt q.2.1 % (2 * N) = i := by rw [of_decide_eq_true h8]; exact hm
            rw [h7, upN_s, upN_n (by omega), hgn.2, List.filter_cons_of_pos h8, List.filter_cons_of_neg (by rw [h8]; exact Bool.false_ne_true)]
            exact ⟨⟨rfl, e2⟩, rfl⟩
        · have h7 : hvk kt q.2.1 % (2 * N) = j ∨ hvk kt q.2.1 % (2 * N) = j + N := by
            rcases mod2 (hvk kt q.2.1) N (by omega) with h6 | h6 <;> omega
          rw [upN_n (by omega), upN_n (by omega)]
          exact o2 i (by omega)
      · have h7 : hvk kt q.2.1 % (2 * N) = j ∨ hvk kt q.2.1 % (2 * N) = j + N := by
          rcases mod2 (hvk kt q.2.1) N (by omega) with h6 | h6 <;> omega
        rw [upN_n (by omega), upN_n (by omega)]
        exact o3 i (by omega) hi2
end RS2
/-- the links, read off the heap -/
def nxf (σ : hSt) (a : Nat) : Option Nat := match σ.1 a with
  | some (.inr (_, _ :: _ :: _ :: .ref b :: _)) => some b
  | _ => none
theorem nxf_of {σ : hSt} {a h ka : Nat} {v nx : Option Nat} (hn : nq σ a h ka v nx) : nxf σ a = nx := by
  obtain ⟨ci, Y, -, q⟩ := hn
  unfold nxf
  rw [q]
  cases nx <;> rfl
theorem cp_of {σ : hSt} {kt : Nat} {e : Option Nat} {l : List eT} {r : Option Nat} (h : ce σ kt e l r) : cp (nxf σ) e l r := by
  induction l generalizing r with
  | nil => exact h
  | cons q t ih =>
    obtain ⟨h0, -, nx, h2, h3⟩ := h
    refine ⟨h0, ?_⟩
    rw [nxf_of h2]
    exact ih h3
theorem ce_of {σ : hSt} {kt : Nat} {e : Option Nat} {l : List eT} {r : Option Nat} {ν : Nat → Option Nat} (h : cp ν e l r) (hq : ∀ q ∈ l, KY σ kt q.2.2.1 q.2.1 ∧ nq σ q.1 (hvk kt q.2.1) q.2.2.1 q.2.2.2 (ν q.1)) : ce σ kt e l r := by
  induction l generalizing r with
  | nil => exact h
  | cons q t ih =>
    obtain ⟨h0, h1⟩ := h
    obtain ⟨h2, h3⟩ := hq q List.mem_cons_self
    exact ⟨h0, h2, ν q.1, h3, ih h1 fun q' hq' => hq q' (List.mem_cons_of_mem _ hq')⟩
section RS3
variable {G : gE} {PX : Nat → Nat → hSt → Prop} {P : Option Nat → hSt → Prop} {kt m ta N : Nat} {B : Nat → List eT} {D : Nat → Prop} {σ : hSt}
/-- a table doubled -/
theorem resize_1 {sz md : Int32} (hS : SI G σ) (hm : mm σ m 12 (some ta) sz md (Int32.ofNat (N * 3 / 4)) []) (hDm : D m) (hDa : D ta) (hXa : ¬ gX G ta) (hN : pw N) (hN2 : N ≤ 256) (hB : BK σ kt ta N B) (hW : WB kt N B) (hDn : ∀ i, i < N → ∀ q ∈ B i, D q.1) (hDf : ∀ a, σ.2.1 ≤ a → D a) (hb : bd G σ (1 + 2 * N)) (hP : ∀ τ tb, ev G (Wm D) (1 + 2 * N) σ τ → mm τ m 12 (some tb) sz md (Int32.ofNat (2 * N * 3 / 4)) [] → D tb → ¬ gX G tb → BK τ kt tb (2 * N) (B2 kt N B) → WB kt (2 * N) (B2 kt N B) → P (some tb) τ) : wJ1_resize G P PX (some m) σ := by
  have hNb := pw_b hN
  obtain ⟨hci, k0, k1, k3, hm⟩ := hm
  have hB' := hB
  obtain ⟨f, hf, hch⟩ := hB
  have h2N : pw (2 * N) := by
    obtain ⟨i, hi1, hi, rfl⟩ := hN
    refine ⟨i + 1, by omega, ?_, by rw [Nat.pow_succ, Nat.mul_comm]⟩
    by_cases h9 : i = 9
    · subst h9; omega
    · omega
  have main : wJ1_resizeb125 G P PX (some m) (some ta) (Int32.ofNat N) (Int32.ofNat (2 * N)) (Int32.ofNat (2 * N * 3 / 4)) σ := by
    unfold wJ1_resizeb125
    refine pM hS hm (by decide) (by simp) hci (by decide) (by decide) (by decide) fun τ1 w1 e1 => ?_
    refine nA e1.t (by omega) (e1.rm hb (by omega)) fun tb τ2 n2 hX2 e2 => ?_
    have hm2 := n2.o w1.1
    refine pM e2.t hm2 (by decide) (by simp) hci (by decide) (by decide) (by decide) fun τ3 w3 e3 => ⟨fun q => (nomatch q), fun _ => ?_⟩
    have hs1 : τ1.2 = σ.2 := w1.2.2
    have htb : tb = σ.2.1 := by rw [n2.1, hs1]
    have hmt : tb ≠ m := Ne.symm (n2.ne w1.1)
    have e13 : ev G (Wm D) (1 + 2 * N) σ τ3 := (((e1.up hDm (by unfold mkd; omega)).tr e2.up0).tr (e3.up hDm (by unfold mkd; omega))).le' (by omega)
    have ho : ∀ b e, σ.1 b = some e → b ≠ m → τ3.1 b = some e := fun b e hb hbm => by
      rw [w3.o hbm]
      exact n2.o (by rw [w1.o hbm]; exact hb)
    have htm : ta ≠ m := by
      rintro rfl
      rw [hm] at hf; exact nomatch hf
    have hta3 := ho _ _ hf htm
    have htb3 : τ3.1 tb = some (.inl (6, 2 * N, .inr (.inr (.inr (.inr fun _ => none))))) := by rw [w3.o hmt]; exact n2.2.1
    have hnode : ∀ i, i < N → ∀ q ∈ B i, KY σ kt q.2.2.1 q.2.1 ∧ nq σ q.1 (hvk kt q.2.1) q.2.2.1 q.2.2.2 (nxf σ q.1) := by
      intro i hi q hq
      obtain ⟨h1, nx, h2⟩ := ce_in (hch i hi) hq
      exact ⟨h1, by rw [nxf_of h2]; exact h2⟩
    have hnm : ∀ i, i < N → ∀ q ∈ B i, q.1 ≠ m ∧ q.1 ≠ ta ∧ q.1 ≠ tb := by
      intro i hi q hq
      obtain ⟨-, cj, Y, hc, hn⟩ := hnode i hi q hq
      refine ⟨?_, ?_, ?_⟩
      · intro e
        rw [e, hm] at hn
        injection hn with hn; injection hn with hn; injection hn with h1 h2
        omega
      · intro e
        rw [e, hf] at hn; exact nomatch hn
      · intro e
        have := hS.lt hn
        omega
    have hI : rsI G N B ta tb D := by
      refine ⟨fun i i' q q' hi hi' hq hq' e => BK_inj hB' hW hi hi' hq hq' e, fun i hi => ?_, fun i hi q hq => ⟨hDn i hi q hq, (hnm i hi q hq).2⟩, hDa, hDf _ (by omega), ?_, hXa, hX2⟩
      · have h1 := (hW i hi).2
        have h2 : ((B i).map (fun q => q.1)).Pairwise (· ≠ ·) := by
          rw [List.pairwise_map]
          have h3 : (B i).Pairwise (fun a b => a.2.1 ≠ b.2.1) := by
            have := h1
            unfold List.Nodup at this
            rwa [List.pairwise_map] at this
          refine List.Pairwise.imp_of_mem ?_ h3
          intro a b ha hb h9 e
          exact h9 (ce_x (hch i hi) (hch i hi) ha hb e)
        exact h2
      · intro e
        have := hS.lt hf
        omega
    have hSS : SS G kt ta tb N B D τ3 τ3 (nxf σ) f fun _ => none := by
      refine ⟨ev.refl e3.t, fun b _ _ _ => rfl, fun i hi q hq => ?_, hta3, htb3⟩
      obtain ⟨h1, cj, Y, hc, hn⟩ := hnode i hi q hq
      exact ⟨h1.ev e13 (Wm_k D), cj, Y, hc, ho _ _ hn (hnm i hi q hq).1⟩
    refine rs_out hI hN hN2 hW hSS (fun i hi => cp_of (hch i hi)) fun τ ν' fa' g hS' hg => hP τ tb ((e13.tr hS'.1).le' (by omega)) ⟨Or.inl rfl, k0, k1, k3, ?_⟩ (hDf _ (by omega)) hX2 ⟨g, hS'.2.2.2.2, fun i hi => ?_⟩ (B2_W (by omega) hW)
    · rw [hS'.2.1 m (fun i hi q hq => Ne.symm (hnm i hi q hq).1) (Ne.symm htm) (Ne.symm hmt)]
      exact w3.1
    · unfold B2
      by_cases h1 : i < N
      · rw [if_pos h1]
        exact ce_of (hg i h1).1 fun q hq => hS'.2.2.1 i h1 q (List.mem_filter.mp hq).1
      · rw [if_neg h1]
        have := (hg (i - N) (by omega)).2
        rw [Nat.sub_add_cancel (by omega)] at this
        exact ce_of this fun q hq => hS'.2.2.1 (i - N) (by omega) q (List.mem_filter.mp hq).1
  have hz : ¬ Int32.ofNat N ≤ 0 := fun q => by
    rw [show (0 : Int32) = Int32.ofNat 0 from rfl, i_le (by omega) (by omega)] at q
    omega
  have hsh : Int32.ofNat N <<< ((1 : Int32) &&& 31) = Int32.ofNat (2 * N) := by
    obtain ⟨i, hi1, hi, rfl⟩ := hN
    exact shl1 i hi
  unfold wJ1_resize wJ1_resizeb0 wJ1_resizeb15
  refine gR hm (by decide) rfl ⟨fun _ => aL hf (gI hm (by decide) rfl ⟨fun q => absurd q hz, fun _ => ⟨fun _ => ⟨fun q => ?_, fun _ => ⟨fun q => ?_, fun q => ?_⟩⟩, fun q => ?_⟩⟩), fun q => nomatch q⟩
  · rw [hsh, show (1073741824 : Int32) = Int32.ofNat 1073741824 from rfl, i_le (by omega) (by omega)] at q
    omega
  · rw [hsh]
    unfold wJ1_resizeb85
    refine ⟨fun q => absurd rfl q, fun _ => gFl hm (by decide) rfl ?_⟩
    have h2N' := h2N
    obtain ⟨i, hi1, hi, e9⟩ := h2N'
    rw [e9]
    refine ⟨fl_nan i hi hi1, fun q => ?_, fun _ => ⟨fun q => absurd q (fl_cmp i hi hi1), fun _ => ?_⟩⟩
    · rw [← e9, show (1073741824 : Int32) = Int32.ofNat 1073741824 from rfl, i_le (by omega) (by omega)] at q
      omega
    · unfold wJ1_resizeb123
      rw [fl_thr i hi hi1, ← e9]
      exact main
  · have h16 : 16 ≤ N := by
      rw [show (16 : Int32) = Int32.ofNat 16 from rfl, i_lt (by omega) (by omega)] at q
      omega
    have hsh3 : Int32.ofNat (N * 3 / 4) <<< ((1 : Int32) &&& 31) = Int32.ofNat (2 * N * 3 / 4) := by
      obtain ⟨i, hi1, hi, rfl⟩ := hN
      refine shl3 i hi ?_
      rcases Nat.lt_or_ge i 4 with h9 | h9
      · have h8 : i = 0 ∨ i = 1 ∨ i = 2 ∨ i = 3 := by omega
        rcases h8 with rfl | rfl | rfl | rfl <;> omega
      · exact h9
    rw [hsh, hsh3]
    unfold wJ1_resizeb85
    refine ⟨fun _ => main, fun q2 => ?_⟩
    rw [show (0 : Int32) = Int32.ofNat 0 from rfl, i_eq (by omega) (by omega)] at q2
    omega
  · rw [show (1073741824 : Int32) = Int32.ofNat 1073741824 from rfl, i_lt (by omega) (by omega)] at q
    omega
end RS3
