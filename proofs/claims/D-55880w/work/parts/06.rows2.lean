/-! the rows: things made, casts, statics, ends, calls -/
set_option maxRecDepth 100000
section ROWS2
variable {p : Program} {l : Launch} {e : Env} {R : Room} {s : State} {m : MethodId} {args : Array Value} {below : List Frame} {meth : Method} {c : Code} {H : Heap} {locs : List Loc} {cells slots : Nat} {Q : State → Prop} {g : JFrame}
variable {G : gE} {σ : hSt} {cc : ByteArray} {nL : Nat} {own : String} {pc : Nat} {ls : Array Slot} {rest : List Value}
theorem W_have (hS : Sh G σ s H locs) (k : hsum s.heap ≤ σ.2.2 → W p l e R s m args below meth c H locs cells slots Q g) : W p l e R s m args below meth c H locs cells slots Q g := by
  intro T hT X
  refine k ?_ T hT X
  have hb := X.book
  have h0 : s.slotsTrue = true := by
    have h := X.room
    simp only [State.hasRoom, Bool.and_eq_true] at h
    exact h.2
  obtain ⟨x1, x2, x3, x4, x5, x6⟩ := X.same
  have e1 : T.slotsUsed = hsum T.heap := by
    unfold State.slotsTrue at hb
    rw [hsum_fold] at hb
    exact eq_of_beq hb
  have e2 : s.slotsUsed = hsum s.heap := by
    unfold State.slotsTrue at h0
    rw [hsum_fold] at h0
    exact eq_of_beq h0
  have e3 : T.slotsUsed = s.slotsUsed + ((T.heap.toList.drop s.heap.size).map (·.slots.size)).sum := x4
  have e4 : hsum T.heap = σ.2.2 := by rw [hT]; exact hS.1.2.2.1
  omega
theorem tys_at (hKn : gKn G s) {ti : Nat} {ty : FieldType} (h9 : ti < 9) (g1 : gTY[ti]? = some ty) : ArrOfT s (gT G ti) ty ∧ va_RA s (gT G ti) ty := by
  have h1 : (gTys G)[ti]? = some (gT G ti, ty) := by
    unfold gTys
    rw [List.getElem?_map, List.getElem?_range h9]
    simp [List.getD, g1]
  exact hKn.1.2 ti _ h1
theorem cell_cls (hKn : gKn G s) {ci : Nat} {r : vw_C} (hc : gCL[ci]? = some r) : ClassAt s r.1 ((gD G).1 ci) := (hKn.1.1 ci r hc).2
/-- the object, as a receiver -/
theorem rcv_at (hKn : gKn G s) (hS : Sh G σ s H locs) {a ci : Nat} {fs : List Value} (h : σ.1 a = some (.inr (ci, fs))) {r : vw_C} (hc : gCL[ci]? = some r) : ∃ cell : Cell, H[a]? = some cell ∧ cell.vm.isStatics = false ∧ s.vm.findClass r.1 = some cell.cls := by
  obtain ⟨r', g1, g0, cell, q1, q2, q3, q3s, q4, q5, q6⟩ := hS.1.1 a _ h
  cases g1.symm.trans hc
  exact ⟨cell, q1, q3s, by rw [q2]; exact (cell_cls hKn g1).1⟩
-- ===== stores of references =====
theorem r_aast {r y : Option Nat} {LT : List (Nat × List Nat)} {i : Int32} {K : hSt → Prop} (C : xC G p l s m args meth c cc nL own) (hS : Sh G σ s H locs) (hLT : ∀ q ∈ LT, q.1 < 9 ∧ ∃ E, gTY[q.1]? = some (.object E) ∧ ∀ ci ∈ q.2, ∃ r : vw_C, gCL[ci]? = some r ∧ (r.1 = E ∨ Cond.castable r.1 E ∈ lw_tbl)) (hdg : decode cc pc = .ok (.aastore, 1)) (hw : asR G σ r LT i y K)
    (kk : ∀ σ' H1 locs1, K σ' → Sh G σ' s H1 locs1 → W p l e R s m args below meth c H1 locs1 (σ'.2.1 - s.heap.size) (σ'.2.2 - hsum s.heap) Q (F0 m (pc + 1) ls rest)) : W p l e R s m args below meth c H locs cells slots Q (F0 m pc ls (va_rf y :: .int i :: va_rf r :: rest)) := by
  obtain ⟨a, ti, L, n, f, rfl, h1, hLm, hX, h2, hel, h3⟩ := hw
  obtain ⟨h9, E, hE, hcl⟩ := hLT _ hLm
  have h9' : ti < 9 := h9
  have hE' : gTY[ti]? = some (.object E) := hE
  obtain ⟨ty, g1, cell, g2, g3, g4, g5, g6, g7, g8⟩ := hS.1.1 a _ h1
  cases g1.symm.trans hE'
  have hKn := C.2.2.2.2.2.2.2.1
  have hlt : i.toNatClampNeg < n := Nat.not_le.mp fun q => h2 (Or.inr q)
  have h0 : ¬ i < 0 := fun q => h2 (Or.inl q)
  obtain ⟨kA, comp, k1, k2, k3, -⟩ := (tys_at hKn h9' hE').2
  have hvs : ∀ q, cell.vm ≠ .statics q := fun q h => by rw [h] at g5; cases g5
  have g6 := g6 fun q => absurd q hX
  have hk : s.vm.classes[cell.cls]? = some kA := by rw [g6]; exact k1
  have hnew : ∀ v : Value, v = va_rf y → (vp_cell (gT G ti) (n, .inr (.inr (.inr (.inr f))))).setSlot i.toNatClampNeg v = vp_cell (gT G ti) (n, .inr (.inr (.inr (.inr (va_up f i.toNatClampNeg y))))) := by
    intro v hv
    rw [vp_cell_q, vp_cell_q, arrV_store]
    congr 1
    funext q
    by_cases hq : q = i.toNatClampNeg
    · subst hq; simp [updV, va_up, hv]
    · simp [updV, va_up, hq]
  rcases hel with rfl | ⟨b, ci, fs, rfl, hb1, hb2⟩
  · intro T hT X
    have hT' : T.heap[a]? = some cell := by rw [hT]; exact g2
    obtain ⟨X', st⟩ := X.aastoreNullN C.1 hT' g3 rfl g4 (by rw [g7, vpc_size]; exact h2) (g := F0 m pc ls (.null :: .int i :: .ref a :: rest)) rfl rfl (by rw [C.2.1]; exact hdg)
    have hlt2 : a < T.heap.size := (Array.getElem?_eq_some_iff.mp hT').1
    have hS' := put_arr (i := i.toNatClampNeg) (v := .null) (x1 := .inr (.inr (.inr (.inr (va_up f i.toNatClampNeg none))))) (H1 := (T.setCell a (cell.setSlot i.toNatClampNeg .null)).heap) hS hX hE' g2 g3 (g8 hX) (arrOk hKn h9' hE' _) (hnew _ rfl) (heapAt_setCell_self _ hlt2) (by rw [size_setCell, hT]) (fun q hq => by rw [heapAt_setCell_ne _ (Ne.symm hq), hT])
    obtain ⟨t, a1, b1⟩ := W_tight (cells := cells) (slots := slots) hS' (kk _ _ _ h3 hS') _ rfl X'
    exact ⟨t, st t a1, b1⟩
  · obtain ⟨r, hc1, hc2⟩ := hcl ci hb2
    obtain ⟨r', gg1, gg0, cellV, q1, q2, q3, q3s, q4, q5, q6⟩ := hS.1.1 b _ hb1
    cases gg1.symm.trans hc1
    have hca := cell_cls hKn hc1
    obtain ⟨kC, hkC, -⟩ := hca.2
    obtain ⟨kcomp, hkcomp, -⟩ := Vm.findClass_spec k3
    refine W_tight hS (W.aast C.1 C.2.1 g2 hvs g4 hk k2 rfl hkcomp ⟨h0, by rw [g7, vpc_size]; exact hlt⟩ q1 (fun q h => by rw [h] at q3s; cases q3s) (by rw [q2]; exact hkC) ?_ rfl rfl hdg fun H' e1 e2 e3 => ?_)
    · rw [q2]
      rcases hc2 with rfl | hc2
      · cases hca.1.symm.trans k3
        exact va_assign hca
      · obtain ⟨c0, t0, f1, f2, f3⟩ := Cond.castable_spec (va_Nw.use (A := args) rfl (hKn.2.1 _ (gx hc2 rfl)))
        cases hca.1.symm.trans f1
        cases k3.symm.trans f2
        exact f3
    · have hS' := put_arr (i := i.toNatClampNeg) (v := .ref b) (x1 := .inr (.inr (.inr (.inr (va_up f i.toNatClampNeg (some b)))))) hS hX hE' g2 g3 (g8 hX) (arrOk hKn h9' hE' _) (hnew _ rfl) e1 e2 e3
      exact W_tight hS' (kk _ _ _ h3 hS')
-- ===== made =====
theorem r_new {ci idx N : Nat} {Cn : String} {T : u_T} {fs : List Value} {ty : Nat → FieldType} {K : Nat → hSt → Prop} (C : xC G p l s m args meth c cc nL own) (hS : Sh G σ s H locs) (hc : gCL[ci]? = some (Cn, T, N)) (hin : ∀ w ∈ u_ws Cn T N, w ∈ lw_all) (hty : ∀ k, k < N → parseFieldDescriptor (T k).2.2.1 = some (ty k)) (hcl : Cond.classLink own idx Cn ∈ lw_all) (hinst : Cond.instantiable Cn N ∈ lw_all) (hini : Cond.initialized Cn ∈ lw_all) (hlen : fs.length = N) (hfs : ∀ j, j < N → defaultValue (ty j) = vp_V fs j)
    (hR : R.cells = gL G - s.heap.size ∧ R.slots = gU G - hsum s.heap) (hdg : decode cc pc = .ok (.new idx, 3)) (hw : nwO G σ ci N fs K)
    (kk : ∀ q σ' H1 locs1, K q σ' → Sh G σ' s H1 locs1 → W p l e R s m args below meth c H1 locs1 (σ'.2.1 - s.heap.size) (σ'.2.2 - hsum s.heap) Q (F0 m (pc + 3) ls (va_rf (some q) :: rest))) : W p l e R s m args below meth c H locs cells slots Q (F0 m pc ls rest) := by
  obtain ⟨h1, h2, h3⟩ := hw
  obtain ⟨hx, hb, hml, hown, hts, hlocks, htr, hKn, hKz⟩ := C
  have hKn1 := hKn.1.1 ci _ hc
  have hsz : s.heap.size ≤ σ.2.1 := by have := hS.2.1; have := hS.1.2.1; omega
  refine W_have hS fun hz => ?_
  refine W_tight hS (W.newcK hx hb hown (hts _ hcl) (hts _ hinst) (hts _ hini) rfl hdg (by rw [hR.1]; omega) (by rw [hR.2]; omega) hKn1.2.1 rfl fun H1 kC hkC e1 z1 o1 => ?_)
  have hsize : (blank ((gD G).1 ci) kC).slots.size = N := by
    obtain ⟨c1, k1, g1, g2, -, -, -, g3⟩ := Cond.instantiable_spec (hts _ hinst)
    cases g1.symm.trans hKn1.2.1
    cases g2.symm.trans hkC
    simp [blank, g3]
  obtain ⟨cell, b1, b2, b3, b4⟩ := (u_born ty hts hin hKn1 hkC e1 hty).to hfs
  have hfr := hS.1.freshX
  have hS' : Sh G (hnew σ (.inr (ci, fs)) N) s H1 locs := hS.push h1 h2 e1 hsize z1 o1 ⟨(Cn, T, N), hc, hlen, cell, b1, b2, (fun h => nomatch (b3.symm.trans h : VmData.none = VmData.unknown)), (by rw [b3]; rfl), fun _ => ⟨b3, fun _ => by cases Option.some.inj (b1.symm.trans e1); exact ⟨rfl, rfl⟩⟩, fun h => absurd h (by rw [hS.1.2.1]; exact hfr), b4⟩
  have hk := kk _ _ _ _ (h3 hS.1.fresh hfr) hS'
  have e0 : H.size = σ.2.1 := hS.1.2.1
  rw [← e0] at hk
  exact W_tight hS' (by rw [e0] at hk ⊢; exact hk)
theorem r_newa {ti : Nat} {atype : ArrayType} {ty : FieldType} {n : Int32} {x : (Nat → Int32) ⊕ (Nat → Int64) ⊕ (Nat → UInt32) ⊕ (Nat → UInt64) ⊕ (Nat → Option Nat)} {K : Nat → hSt → Prop} (C : xC G p l s m args meth c cc nL own) (hS : Sh G σ s H locs) (h9 : ti < 9) (g1 : gTY[ti]? = some ty) (hty : newarray.typeOf atype = ty) (hprim : ∀ E, ty ≠ .object E) (harr : Cond.arrayClass (newarray.typeOf atype) ∈ lw_all) (hx : ∀ (cA : ClassId) (N : Nat), vp_cell cA (N, x) = arrV cA N (fun _ => defaultValue ty)) (hcb : componentBytes ty ≤ 8)
    (hR : R.cells = gL G - s.heap.size ∧ R.slots = gU G - hsum s.heap) (hdg : decode cc pc = .ok (.newarray atype, 2)) (hw : nwA G σ ti x n K)
    (kk : ∀ q σ' H1 locs1, K q σ' → Sh G σ' s H1 locs1 → W p l e R s m args below meth c H1 locs1 (σ'.2.1 - s.heap.size) (σ'.2.2 - hsum s.heap) Q (F0 m (pc + 2) ls (va_rf (some q) :: rest))) : W p l e R s m args below meth c H locs cells slots Q (F0 m pc ls (.int n :: rest)) := by
  obtain ⟨h0, hbig, h1, h2, h3⟩ := hw
  subst hty
  have hsz : s.heap.size ≤ σ.2.1 := by have := hS.2.1; have := hS.1.2.1; omega
  refine W_have hS fun hz => ?_
  have hbytes : n.toNatClampNeg * componentBytes (newarray.typeOf atype) ≤ 536870912 := Nat.le_trans (Nat.mul_le_mul hbig hcb) (Nat.le_of_ble_eq_true rfl)
  refine W_tight hS (va_newaK C.1 C.2.1 (C.2.2.2.2.1 _ harr) rfl hdg rfl h0 rfl hbytes (by rw [hR.1]; omega) (by rw [hR.2]; omega) rfl fun H1 cA e1 z1 o1 hAr hNm => ?_)
  have hcA : cA = gT G ti := by
    have h5 := (tys_at C.2.2.2.2.2.2.2.1 h9 g1).2
    unfold va_RA at h5
    cases hq : newarray.typeOf atype with
    | object E => exact absurd hq (hprim E)
    | _ =>
      rw [hq] at h5 hNm
      exact Option.some.inj (hNm.symm.trans h5)
  subst hcA
  have hfr := hS.1.freshX
  have e0 : H.size = σ.2.1 := hS.1.2.1
  have hS' : Sh G (hnew σ (.inl (ti, n.toNatClampNeg, x)) n.toNatClampNeg) s H1 locs := hS.push h1 h2 e1 (arrV_size _ _ _) z1 o1 ⟨_, g1, _, e1, hAr _ _, (fun h => nomatch h), rfl, fun _ => rfl, by rw [hx], fun _ => (hx _ _).symm⟩
  have hk := kk _ _ _ _ (h3 hS.1.fresh hfr) hS'
  rw [← e0] at hk
  exact W_tight hS' (by rw [e0] at hk ⊢; exact hk)
theorem r_anewa {ti idx : Nat} {E : String} {n : Int32} {K : Nat → hSt → Prop} (C : xC G p l s m args meth c cc nL own) (hS : Sh G σ s H locs) (h9 : ti < 9) (g1 : gTY[ti]? = some (.object E)) (hcl : Cond.classLink own idx E ∈ lw_all) (hAO : E ∈ gAOs)
    (hR : R.cells = gL G - s.heap.size ∧ R.slots = gU G - hsum s.heap) (hdg : decode cc pc = .ok (.anewarray idx, 3)) (hw : nwA G σ ti (.inr (.inr (.inr (.inr (fun _ => none))))) n K)
    (kk : ∀ q σ' H1 locs1, K q σ' → Sh G σ' s H1 locs1 → W p l e R s m args below meth c H1 locs1 (σ'.2.1 - s.heap.size) (σ'.2.2 - hsum s.heap) Q (F0 m (pc + 3) ls (va_rf (some q) :: rest))) : W p l e R s m args below meth c H locs cells slots Q (F0 m pc ls (.int n :: rest)) := by
  obtain ⟨h0, hbig, h1, h2, h3⟩ := hw
  have hsz : s.heap.size ≤ σ.2.1 := by have := hS.2.1; have := hS.1.2.1; omega
  refine W_have hS fun hz => ?_
  have hbytes : n.toNatClampNeg * 4 ≤ 536870912 := by omega
  have hKn := C.2.2.2.2.2.2.2.1
  refine W_tight hS (W.anew C.1 C.2.1 C.2.2.2.1 (C.2.2.2.2.1 _ hcl) (va_AO.use (hKn.2.2.1 E hAO)) rfl hdg rfl h0 hbytes (by rw [hR.1]; omega) (by rw [hR.2]; omega) fun cA kA comp k1 k2 k3 k4 => ?_)
  obtain ⟨kA', comp', j1, j2, j3, j4⟩ := (tys_at hKn h9 g1).2
  cases k1.symm.trans j4
  have hfr := hS.1.freshX
  have e0 : H.size = σ.2.1 := hS.1.2.1
  have hcc : ({ cls := gT G ti, slots := Array.replicate n.toNatClampNeg .null, vm := .none } : Cell) = vp_cell (gT G ti) (n.toNatClampNeg, .inr (.inr (.inr (.inr (fun _ => none))))) := by
    rw [vp_cell_q]
    unfold arrV
    congr 1
    apply Array.ext
    · simp
    · intro j h1 h2
      simp [va_rf]
  rw [hcc]
  have e9 : (H.push (vp_cell (gT G ti) (n.toNatClampNeg, .inr (.inr (.inr (.inr (fun _ => none)))))))[H.size]? = some (vp_cell (gT G ti) (n.toNatClampNeg, .inr (.inr (.inr (.inr (fun _ => none)))))) := by rw [Array.getElem?_push, if_pos rfl]
  have hS' : Sh G (hnew σ (.inl (ti, n.toNatClampNeg, .inr (.inr (.inr (.inr (fun _ => none)))))) n.toNatClampNeg) s (H.push (vp_cell (gT G ti) (n.toNatClampNeg, .inr (.inr (.inr (.inr (fun _ => none))))))) locs := hS.push h1 h2 e9 (vpc_size _ _) (Array.size_push _) (fun q hq => by rw [Array.getElem?_push, if_neg (Nat.ne_of_lt hq)]) ⟨_, g1, _, e9, arrOk hKn h9 g1 _, (fun h => nomatch h), rfl, fun _ => rfl, rfl, fun _ => rfl⟩
  have hk := kk _ _ _ _ (h3 hS.1.fresh hfr) hS'
  rw [← e0] at hk
  exact W_tight hS' (by rw [e0] at hk ⊢; exact hk)
-- ===== casts =====
theorem r_cast0 {idx : Nat} {nm : String} {r : Option Nat} {L : List Nat} (C : xC G p l s m args meth c cc nL own) (hS : Sh G σ s H locs) (hlink : Cond.classLink own idx nm ∈ lw_all) (hL : ∀ ci ∈ L, ∃ r : vw_C, gCL[ci]? = some r ∧ (Cond.castable r.1 nm ∈ lw_tbl ∨ r.1 = nm)) (hdg : decode cc pc = .ok (.checkcast idx, 3)) (hw : ckO σ r L)
    (kk : W p l e R s m args below meth c H locs cells slots Q (F0 m (pc + 3) ls (va_rf r :: rest))) : W p l e R s m args below meth c H locs cells slots Q (F0 m pc ls (va_rf r :: rest)) := by
  rcases hw with rfl | ⟨a, ci, fs, rfl, h1, h2⟩
  · exact lv_castN C.1 C.2.1 hdg kk
  · obtain ⟨r, hc, hcast | rfl⟩ := hL ci h2
    · exact va_castY C.1 C.2.1 C.2.2.2.1 (C.2.2.2.2.1 _ hlink) (C.2.2.2.2.2.2.2.1.2.1 _ (gx hcast rfl)) (rcv_at C.2.2.2.2.2.2.2.1 hS h1 hc) hdg kk
    · exact va_castE C.1 C.2.1 C.2.2.2.1 (C.2.2.2.2.1 _ hlink) (rcv_at C.2.2.2.2.2.2.2.1 hS h1 hc) hdg kk
theorem r_inst {idx : Nat} {nm : String} {r : Option Nat} {Ly Ln : List Nat} {K : Int32 → Prop} (C : xC G p l s m args meth c cc nL own) (hS : Sh G σ s H locs) (hlink : Cond.classLink own idx nm ∈ lw_all) (hLy : ∀ ci ∈ Ly, ∃ r : vw_C, gCL[ci]? = some r ∧ (Cond.castable r.1 nm ∈ lw_tbl ∨ r.1 = nm)) (hLn : ∀ ci ∈ Ln, ∃ r : vw_C, gCL[ci]? = some r ∧ (r.1, nm) ∈ gNC) (hdg : decode cc pc = .ok (.instanceof idx, 3)) (hw : ioO σ r Ly Ln K)
    (kk : ∀ x, K x → W p l e R s m args below meth c H locs cells slots Q (F0 m (pc + 3) ls (.int x :: rest))) : W p l e R s m args below meth c H locs cells slots Q (F0 m pc ls (va_rf r :: rest)) := by
  rcases hw with ⟨rfl, h⟩ | ⟨a, ci, fs, rfl, h1, ⟨h2, h⟩ | ⟨h2, h⟩⟩
  · exact lv_instN C.1 C.2.1 hdg (kk _ h)
  · obtain ⟨r, hc, hcast | rfl⟩ := hLy ci h2
    · exact va_instY C.1 C.2.1 C.2.2.2.1 (C.2.2.2.2.1 _ hlink) (C.2.2.2.2.2.2.2.1.2.1 _ (gx hcast rfl)) (rcv_at C.2.2.2.2.2.2.2.1 hS h1 hc) hdg (kk _ h)
    · exact va_instE C.1 C.2.1 C.2.2.2.1 (C.2.2.2.2.1 _ hlink) (rcv_at C.2.2.2.2.2.2.2.1 hS h1 hc) hdg (kk _ h)
  · obtain ⟨r, hc, hcast⟩ := hLn ci h2
    exact va_instNo C.1 C.2.1 C.2.2.2.1 (C.2.2.2.2.1 _ hlink) (C.2.2.2.2.2.2.2.1.2.2.2.2.1 _ hcast) (rcv_at C.2.2.2.2.2.2.2.1 hS h1 hc) hdg (kk _ h)
-- ===== statics, texts =====
theorem r_gets {idx : Nat} {C0 n d : String} {v : Value} (C : xC G p l s m args meth c cc nL own) (hS : Sh G σ s H locs) (hm : (C0, n, d, v) ∈ gSTA G) (hlink : Cond.fieldLink own idx C0 n d ∈ lw_all) (hdg : decode cc pc = .ok (.getstatic idx, 3))
    (kk : W p l e R s m args below meth c H locs cells slots Q (F0 m (pc + 3) ls (v :: rest))) : W p l e R s m args below meth c H locs cells slots Q (F0 m pc ls rest) :=
  va_gets C.1 C.2.1 (C.2.2.2.2.2.2.2.2.1 _ hm) hS.2 C.2.2.2.1 (C.2.2.2.2.1 _ hlink) (fun _ h => h) hdg kk
theorem r_getsQ {idx : Nat} {C0 n d : String} (C : xC G p l s m args meth c cc nL own) (hS : Sh G σ s H locs) (hm : va_Zq C0 n d (gF G) s s.heap) (hlink : Cond.fieldLink own idx C0 n d ∈ lw_all) (hdg : decode cc pc = .ok (.getstatic idx, 3))
    (kk : ∀ r : Option Nat, W p l e R s m args below meth c H locs cells slots Q (F0 m (pc + 3) ls (va_rf r :: rest))) : W p l e R s m args below meth c H locs cells slots Q (F0 m pc ls rest) := by
  rcases hm with hm | ⟨t, hm⟩
  · exact va_gets C.1 C.2.1 hm hS.2 C.2.2.2.1 (C.2.2.2.2.1 _ hlink) (fun _ h => h) hdg (kk none)
  · exact va_gets C.1 C.2.1 hm hS.2 C.2.2.2.1 (C.2.2.2.2.1 _ hlink) (fun _ h => h) hdg (kk (some t))
theorem r_ldcS {idx k : Nat} {tx : String} (C : xC G p l s m args meth c cc nL own) (hm : (own, idx, tx, k) ∈ gSTR) (hdg : decode cc pc = .ok (.ldc idx, 2))
    (kk : W p l e R s m args below meth c H locs cells slots Q (F0 m (pc + 2) ls (va_rf (some (gA G k)) :: rest))) : W p l e R s m args below meth c H locs cells slots Q (F0 m pc ls rest) :=
  va_ldcS C.1 C.2.1 C.2.2.2.1 (C.2.2.2.2.2.2.2.1.2.2.2.1 _ hm) hdg kk
-- ===== ends =====
theorem ret_w {k n mc ms : Nat} (hS : Sh G σ s H locs) (hmc : mc = gL G - s.heap.size ∧ ms = gU G - hsum s.heap) (kk : W p l e R s m args below meth c H locs mc ms Q g) : W p l e R s m args below meth c H locs k n Q g := by
  refine W_tight hS (W.widen (k := mc) (n := ms) ?_ ?_ kk)
  · have := hS.1.2.2.2.1
    omega
  · have := hS.1.2.2.2.2.1
    omega
theorem end_q {P : Option Value → hSt → Prop} {a : Array Value} {v : Option Value} (hS : Sh G σ s H locs) (hp : P v σ) (t : State) (ht : t.heap = H) (hW : s.WarmedH t.vm) : cQ G P a s (.returned v) t :=
  ⟨v, σ, rfl, hp, by rw [ht]; exact hS.1.moved hW.alike, hS.2.F ht⟩
theorem r_iret {P : Int32 → hSt → Prop} {PX : Nat → Nat → hSt → Prop} {x : Int32} {mc ms : Nat} (C : xC G p l s m args meth c cc nL own) (hS : Sh G σ s H locs) (hmc : mc = gL G - s.heap.size ∧ ms = gU G - hsum s.heap) (hr : meth.sig.returnType = some .int) (hdg : decode cc pc = .ok (.ireturn, 1)) (hw : P x σ) : W p l e R s m args below meth c H locs cells slots (vx_MQ below (cQ G (pI P)) (cX G PX) args s mc ms (gF G)) (F0 m pc ls [.int x]) :=
  ret_w hS hmc (vx_ret (W.iret C.1 C.2.1 hr (fun t ht hW => end_q hS ⟨x, rfl, hw⟩ t ht hW) hS.2.2.2 hdg C.2.2.2.2.2.1))
theorem r_zret {ty : FieldType} {P : Int32 → hSt → Prop} {PX : Nat → Nat → hSt → Prop} {x : Int32} {mc ms : Nat} (C : xC G p l s m args meth c cc nL own) (hS : Sh G σ s H locs) (hmc : mc = gL G - s.heap.size ∧ ms = gU G - hsum s.heap) (hr : meth.sig.returnType = some ty) (hdg : decode cc pc = .ok (.ireturn, 1)) (hw : okN ty x ∧ P x σ) : W p l e R s m args below meth c H locs cells slots (vx_MQ below (cQ G (pI P)) (cX G PX) args s mc ms (gF G)) (F0 m pc ls [.int x]) :=
  ret_w hS hmc (vx_ret (W.zret C.1 C.2.1 hr hw.1.1 (fun t ht hW => end_q hS ⟨x, rfl, hw.2⟩ t ht hW) hS.2.2.2 hdg C.2.2.2.2.2.1))
theorem r_lret {P : Int64 → hSt → Prop} {PX : Nat → Nat → hSt → Prop} {x : Int64} {mc ms : Nat} (C : xC G p l s m args meth c cc nL own) (hS : Sh G σ s H locs) (hmc : mc = gL G - s.heap.size ∧ ms = gU G - hsum s.heap) (hr : meth.sig.returnType = some .long) (hdg : decode cc pc = .ok (.lreturn, 1)) (hw : P x σ) : W p l e R s m args below meth c H locs cells slots (vx_MQ below (cQ G (pL P)) (cX G PX) args s mc ms (gF G)) (F0 m pc ls [.long x]) :=
  ret_w hS hmc (vx_ret (W.lret C.1 C.2.1 hr (fun t ht hW => end_q hS ⟨x, rfl, hw⟩ t ht hW) hS.2.2.2 hdg C.2.2.2.2.2.1))
theorem r_fret {P : UInt32 → hSt → Prop} {PX : Nat → Nat → hSt → Prop} {x : UInt32} {mc ms : Nat} (C : xC G p l s m args meth c cc nL own) (hS : Sh G σ s H locs) (hmc : mc = gL G - s.heap.size ∧ ms = gU G - hsum s.heap) (hr : meth.sig.returnType = some .float) (hdg : decode cc pc = .ok (.freturn, 1)) (hw : P x σ) : W p l e R s m args below meth c H locs cells slots (vx_MQ below (cQ G (pF P)) (cX G PX) args s mc ms (gF G)) (F0 m pc ls [.float x]) := by
  have hlocks := C.2.2.2.2.2.1
  exact ret_w hS hmc (vx_ret (W.fret C.1 C.2.1 hr (fun t ht hW => end_q hS ⟨x, rfl, hw⟩ t ht hW) hS.2.2.2 hdg hlocks))
theorem r_dret {P : UInt64 → hSt → Prop} {PX : Nat → Nat → hSt → Prop} {x : UInt64} {mc ms : Nat} (C : xC G p l s m args meth c cc nL own) (hS : Sh G σ s H locs) (hmc : mc = gL G - s.heap.size ∧ ms = gU G - hsum s.heap) (hr : meth.sig.returnType = some .double) (hdg : decode cc pc = .ok (.dreturn, 1)) (hw : P x σ) : W p l e R s m args below meth c H locs cells slots (vx_MQ below (cQ G (pD P)) (cX G PX) args s mc ms (gF G)) (F0 m pc ls [.double x]) := by
  have hlocks := C.2.2.2.2.2.1
  exact ret_w hS hmc (vx_ret (W.dret C.1 C.2.1 hr (fun t ht hW => end_q hS ⟨x, rfl, hw⟩ t ht hW) hS.2.2.2 hdg hlocks))
theorem r_aret {rt : FieldType} {P : Option Nat → hSt → Prop} {PX : Nat → Nat → hSt → Prop} {x : Option Nat} {mc ms : Nat} (C : xC G p l s m args meth c cc nL own) (hS : Sh G σ s H locs) (hmc : mc = gL G - s.heap.size ∧ ms = gU G - hsum s.heap) (hr : meth.sig.returnType = some rt) (hrt : (∃ n, rt = .object n) ∨ ∃ t, rt = .array t) (hdg : decode cc pc = .ok (.areturn, 1)) (hw : P x σ) : W p l e R s m args below meth c H locs cells slots (vx_MQ below (cQ G (pR P)) (cX G PX) args s mc ms (gF G)) (F0 m pc ls [va_rf x]) :=
  ret_w hS hmc (vx_ret (W.aret C.1 C.2.1 hr hrt (va_rf_or x) (fun t ht hW => end_q hS ⟨x, rfl, hw⟩ t ht hW) hS.2.2.2 hdg C.2.2.2.2.2.1))
theorem r_vret {P : hSt → Prop} {PX : Nat → Nat → hSt → Prop} {mc ms : Nat} (C : xC G p l s m args meth c cc nL own) (hS : Sh G σ s H locs) (hmc : mc = gL G - s.heap.size ∧ ms = gU G - hsum s.heap) (hr : meth.sig.returnType = none) (hdg : decode cc pc = .ok (.return_, 1)) (hw : P σ) : W p l e R s m args below meth c H locs cells slots (vx_MQ below (cQ G (pV P)) (cX G PX) args s mc ms (gF G)) (F0 m pc ls []) :=
  ret_w hS hmc (vx_ret (W.vret C.1 C.2.1 hr (fun t ht hW => end_q hS ⟨rfl, hw⟩ t ht hW) hS.2.2.2 hdg C.2.2.2.2.2.1))
/-- a thrown object of the kind ci at q, as the walk sees it -/
def thr (G : gE) (s : State) (H : Heap) (ci q : Nat) : Prop := ∃ r ce, gCL[ci]? = some r ∧ H[q]? = some ce ∧ ce.vm = .none ∧ s.vm.findClass r.1 = some ce.cls
theorem r_out {P : Option Value → hSt → Prop} {PX : Nat → Nat → hSt → Prop} {ci q : Nat} {mc ms : Nat} (C : xC G p l s m args meth c cc nL own) (hS : Sh G σ s H locs) (hmc : mc = gL G - s.heap.size ∧ ms = gU G - hsum s.heap) (hout : ∀ x ∈ c.exceptionTable.toList, covers x pc = false) (ht : thr G s H ci q) (hw : PX ci q σ) : vx_W p l e R s m args below meth c H locs cells slots (vx_MQ below (cQ G P) (cX G PX) args s mc ms (gF G)) (F0 m pc ls rest) q := by
  obtain ⟨r, ce, h1, h2, h3, h4⟩ := ht
  refine vx_tight hS (vx_widen (k := mc) (n := ms) ?_ ?_ (vx_out hout C.2.2.2.2.2.1 h2 h3 h4 (fun t ht ha => ⟨ci, σ, r, h1, rfl, hw, by rw [ht]; exact hS.1.moved ha, hS.2.F ht⟩) hS.2.2.2 (Nat.le_refl _) (Nat.le_refl _)))
  · have := hS.1.2.2.2.1
    omega
  · have := hS.1.2.2.2.2.1
    omega
theorem r_athrow {ci : Nat} {r : Option Nat} (C : xC G p l s m args meth c cc nL own) (hS : Sh G σ s H locs) (hci : ¬ (ci = 17 ∨ ci = 25)) (hdg : decode cc pc = .ok (.athrow, 1)) (hw : rcv σ r ci)
    (kk : ∀ q, r = some q → thr G s H ci q → vx_W p l e R s m args below meth c H locs cells slots Q (F0 m pc ls rest) q) : W p l e R s m args below meth c H locs cells slots Q (F0 m pc ls (va_rf r :: rest)) := by
  obtain ⟨a, fs, rfl, h1⟩ := hw
  obtain ⟨r', g1, g0, cell, q1, q2, q3, q3s, q4, q5, q6⟩ := hS.1.1 a _ h1
  exact vx_athrow C.1 C.2.1 hdg (kk a rfl ⟨r', cell, g1, q1, (q4 (fun h => hci (q5 h))).1, by rw [q2]; exact (cell_cls C.2.2.2.2.2.2.2.1 g1).1⟩)
/-- caught here: by the row x of the method's table; the rows ahead don't take it -/
theorem r_catch {ci q : Nat} {name : String} (C : xC G p l s m args meth c cc nL own) (pre : List ExceptionTableEntry) (x : ExceptionTableEntry) (suf : List ExceptionTableEntry) (hsplit : c.exceptionTable.toList = pre ++ x :: suf) {r : vw_C} (hr : gCL[ci]? = some r) (hpass : ∀ z ∈ pre, covers z pc = false ∨ (z.catchType ≠ 0 ∧ ∃ nm : String, Cond.classLink own z.catchType nm ∈ lw_all ∧ (r.1, nm) ∈ gNC)) (hx : covers x pc = true) (h0 : x.catchType ≠ 0) (hlink : Cond.classLink own x.catchType name ∈ lw_all) (hcast : Cond.castable r.1 name ∈ lw_tbl) (ht : thr G s H ci q)
    (kk : W p l e R s m args below meth c H locs cells slots Q (F0 m x.handlerPc ls [va_rf (some q)])) : vx_W p l e R s m args below meth c H locs cells slots Q (F0 m pc ls rest) q := by
  obtain ⟨r', ce, h1, h2, h3, h4⟩ := ht
  cases h1.symm.trans hr
  exact vx_catch C.2.2.2.1 pre x suf hsplit (fun z hz => (hpass z hz).imp id (fun h => ⟨h.1, h.2.choose, C.2.2.2.2.1 _ h.2.choose_spec.1, C.2.2.2.2.2.2.2.1.2.2.2.2.1 _ h.2.choose_spec.2⟩)) hx h0 (C.2.2.2.2.1 _ hlink) (va_Nw.use rfl (C.2.2.2.2.2.2.2.1.2.1 _ (gx hcast rfl))) h2 h3 h4 kk
-- ===== calls =====
theorem cPre_at {vals : List Value} {pre : Prop} (C : xC G p l s m args meth c cc nL own) (hS : Sh G σ s H locs) (hp : pre) (U : State) (hU : U.heap = H) (hW : s.WarmedH U.vm) : cPre G σ vals pre vals.toArray U :=
  ⟨rfl, hp, C.2.2.2.2.2.2.2.1.warm hW, by rw [hU]; exact (C.2.2.2.2.2.2.2.2.kept hS.2.2.1).moved hW.alike, by rw [hU]; exact hS.1.moved hW.alike⟩
/-- behind a call: what came back, by value or by throw -/
theorem r_run {mc ms : Nat} {st0 : List Value} {a : Array Value} {P' : Option Value → hSt → Prop} {PX' : Nat → Nat → hSt → Prop} (hS : Sh G σ s H locs) (hr : vx_Run p l e R s m args below meth c H locs cells slots mc ms (F0 m pc ls st0) rest (cQ G P' a) (cX G PX') (gF G))
    (kx : ∀ ci q σ' H1 locs1, PX' ci q σ' → Sh G σ' s H1 locs1 → thr G s H1 ci q → vx_W p l e R s m args below meth c H1 locs1 (σ'.2.1 - s.heap.size) (σ'.2.2 - hsum s.heap) Q (F0 m pc ls rest) q)
    (kk : ∀ v σ' H1 locs1, P' v σ' → Sh G σ' s H1 locs1 → W p l e R s m args below meth c H1 locs1 (σ'.2.1 - s.heap.size) (σ'.2.2 - hsum s.heap) Q (F0 m (pc + 3) ls (v.toList ++ rest))) : W p l e R s m args below meth c H locs cells slots Q (F0 m pc ls st0) := by
  intro T hT X
  rcases hr T hT X with ⟨v, st₀, t, T', L, h0, X', hL, e1, e2, ⟨v', σ', hv, hp, hs, hF⟩, st⟩ | ⟨q, st₀, t, T', L, E, ce, h0, X', hL, e1, e2, ⟨ci, σ', r, hc1, hc2, hp, hs, hF⟩, hce, hcv, hcl, st⟩
  · cases hv
    obtain ⟨k1, k2, k3⟩ := vx_keep h0 e1 hS.2 (fun _ _ h => h) (fun _ h => h) hL hF
    have hS' : Sh G σ' s T'.heap (locs ++ L) := ⟨by rw [e1]; exact hs.moved (by rw [← e2]; exact X'.warmed.alike.symm), k3⟩
    obtain ⟨t2, a1, b1⟩ := W_tight hS' (kk v σ' T'.heap (locs ++ L) hp hS') T' rfl X'
    exact ⟨t2, st t2 a1, b1⟩
  · obtain ⟨k1, k2, k3⟩ := vx_keep h0 e1 hS.2 (fun _ _ h => h) (fun _ h => h) hL hF
    have hS' : Sh G σ' s T'.heap (locs ++ L) := ⟨by rw [e1]; exact hs.moved (by rw [← e2]; exact X'.warmed.alike.symm), k3⟩
    obtain ⟨t2, a1, b1⟩ := vx_tight hS' (kx ci q σ' T'.heap (locs ++ L) hp hS' ⟨r, ce, hc1, by rw [e1]; exact hce, hcv, by rw [hc2]; exact hcl⟩) T' rfl X'
    exact ⟨t2, st.trans a1, b1⟩
theorem r_run5 {mc ms : Nat} {st0 : List Value} {a : Array Value} {P' : Option Value → hSt → Prop} {PX' : Nat → Nat → hSt → Prop} (hS : Sh G σ s H locs) (hr : vx_Run5 p l e R s m args below meth c H locs cells slots mc ms (F0 m pc ls st0) rest (cQ G P' a) (cX G PX') (gF G))
    (kx : ∀ ci q σ' H1 locs1, PX' ci q σ' → Sh G σ' s H1 locs1 → thr G s H1 ci q → vx_W p l e R s m args below meth c H1 locs1 (σ'.2.1 - s.heap.size) (σ'.2.2 - hsum s.heap) Q (F0 m pc ls rest) q)
    (kk : ∀ v σ' H1 locs1, P' v σ' → Sh G σ' s H1 locs1 → W p l e R s m args below meth c H1 locs1 (σ'.2.1 - s.heap.size) (σ'.2.2 - hsum s.heap) Q (F0 m (pc + 5) ls (v.toList ++ rest))) : W p l e R s m args below meth c H locs cells slots Q (F0 m pc ls st0) := by
  intro T hT X
  rcases hr T hT X with ⟨v, st₀, t, T', L, h0, X', hL, e1, e2, ⟨v', σ', hv, hp, hs, hF⟩, st⟩ | ⟨q, st₀, t, T', L, E, ce, h0, X', hL, e1, e2, ⟨ci, σ', r, hc1, hc2, hp, hs, hF⟩, hce, hcv, hcl, st⟩
  · cases hv
    obtain ⟨k1, k2, k3⟩ := vx_keep h0 e1 hS.2 (fun _ _ h => h) (fun _ h => h) hL hF
    have hS' : Sh G σ' s T'.heap (locs ++ L) := ⟨by rw [e1]; exact hs.moved (by rw [← e2]; exact X'.warmed.alike.symm), k3⟩
    obtain ⟨t2, a1, b1⟩ := W_tight hS' (kk v σ' T'.heap (locs ++ L) hp hS') T' rfl X'
    exact ⟨t2, st t2 a1, b1⟩
  · obtain ⟨k1, k2, k3⟩ := vx_keep h0 e1 hS.2 (fun _ _ h => h) (fun _ h => h) hL hF
    have hS' : Sh G σ' s T'.heap (locs ++ L) := ⟨by rw [e1]; exact hs.moved (by rw [← e2]; exact X'.warmed.alike.symm), k3⟩
    obtain ⟨t2, a1, b1⟩ := vx_tight hS' (kx ci q σ' T'.heap (locs ++ L) hp hS' ⟨r, ce, hc1, by rw [e1]; exact hce, hcv, by rw [hc2]; exact hcl⟩) T' rfl X'
    exact ⟨t2, st.trans a1, b1⟩
end ROWS2
