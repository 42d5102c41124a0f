/-! the rows: null, statics, natives -/
set_option maxRecDepth 100000
/-- a stretch of ints, chars, bytes copied -/
def acI (G : gE) (σ : hSt) (r0 : Option Nat) (sp : Int32) (r1 : Option Nat) (dp n : Int32) (ti : Nat) (ty : FieldType) (K : hSt → Prop) : Prop := ∃ a0 n0 f a1 n1 g, r0 = some a0 ∧ σ.1 a0 = some (.inl (ti, n0, .inl f)) ∧ r1 = some a1 ∧ σ.1 a1 = some (.inl (ti, n1, .inl g)) ∧ ¬ gX G a1 ∧ ¬ sp < 0 ∧ ¬ dp < 0 ∧ ¬ n < 0 ∧ sp.toNatClampNeg + n.toNatClampNeg ≤ n0 ∧ dp.toNatClampNeg + n.toNatClampNeg ≤ n1 ∧ (∀ i, i < n.toNatClampNeg → fits ty (.int (f (sp.toNatClampNeg + i))) = true) ∧ K (hset σ a1 (.inl (ti, n1, .inl (va_cpy f g sp.toNatClampNeg dp.toNatClampNeg n.toNatClampNeg))))
/-- a stretch of Object[] copied -/
def acR (G : gE) (σ : hSt) (r0 : Option Nat) (sp : Int32) (r1 : Option Nat) (dp n : Int32) (L : List Nat) (K : hSt → Prop) : Prop := ∃ a0 n0 f a1 n1 g, r0 = some a0 ∧ σ.1 a0 = some (.inl (5, n0, .inr (.inr (.inr (.inr f))))) ∧ r1 = some a1 ∧ σ.1 a1 = some (.inl (5, n1, .inr (.inr (.inr (.inr g))))) ∧ ¬ gX G a1 ∧ ¬ sp < 0 ∧ ¬ dp < 0 ∧ ¬ n < 0 ∧ sp.toNatClampNeg + n.toNatClampNeg ≤ n0 ∧ dp.toNatClampNeg + n.toNatClampNeg ≤ n1 ∧ (∀ i, i < n.toNatClampNeg → elOk σ L (f (sp.toNatClampNeg + i))) ∧ K (hset σ a1 (.inl (5, n1, .inr (.inr (.inr (.inr (va_cpy f g sp.toNatClampNeg dp.toNatClampNeg n.toNatClampNeg)))))))
def acL : List Nat := [1, 6, 7]
def acA (G : gE) (σ : hSt) (r0 : Option Nat) (sp : Int32) (r1 : Option Nat) (dp n : Int32) (K : hSt → Prop) : Prop := acI G σ r0 sp r1 dp n 0 .int K ∨ acI G σ r0 sp r1 dp n 2 .byte K ∨ acI G σ r0 sp r1 dp n 3 .char K ∨ acR G σ r0 sp r1 dp n acL K
/-- bytes cloned -/
def clB (G : gE) (σ : hSt) (r : Option Nat) (K : Nat → hSt → Prop) : Prop := ∃ a n f, r = some a ∧ σ.1 a = some (.inl (2, n, .inl f)) ∧ (∀ i, i < n → fits .byte (.int (f i)) = true) ∧ σ.2.1 + 1 ≤ gL G ∧ σ.2.2 + n ≤ gU G ∧ (σ.1 σ.2.1 = none → ¬ gX G σ.2.1 → K σ.2.1 (hnew σ (.inl (2, n, .inl f)) n))
/-- the class of Object[] -/
def gcO (σ : hSt) (r : Option Nat) : Prop := ∃ a n x, r = some a ∧ σ.1 a = some (.inl (5, n, x))
section ROWS3
variable {p : Program} {l : Launch} {e : Env} {R : Room} {s : State} {m : MethodId} {args : Array Value} {below : List Frame} {meth : Method} {c : Code} {H : Heap} {locs : List Loc} {cells slots : Nat} {Q : State → Prop}
variable {G : gE} {σ : hSt} {cc : ByteArray} {nL : Nat} {own : String} {pc : Nat} {ls : Array Slot} {rest : List Value}
theorem Sh.putL {H1 : Heap} {a : Nat} {e0 e1 : hE} {c0 c1 : Cell} {L : List Loc} (hS : Sh G σ s H locs) (ha : gF G a) (h0 : H[a]? = some c0) (h1 : H1[a]? = some c1) (hz : c1.slots.size = c0.slots.size) (z : H1.size = H.size) (o : ∀ q, q ≠ a → H1[q]? = H[q]?) (he : gCell G s H1 a e1) (hL : ∀ x ∈ L, x.base = a) : Sh G (hset σ a e1) s H1 (locs ++ L) := by
  have h9 := Sh.put (i := 0) (e0 := e0) hS ha h0 h1 hz z o he
  refine ⟨h9.1, h9.2.1, h9.2.2.1, fun x hx => ?_⟩
  rcases List.mem_append.mp hx with h | h
  · exact h9.2.2.2 x (List.mem_append_left _ h)
  · rw [hL x h]; exact ha
theorem r_null (C : xC G p l s m args meth c cc nL own) (hdg : decode cc pc = .ok (.aconst_null, 1)) (kk : W p l e R s m args below meth c H locs cells slots Q (F0 m (pc + 1) ls (va_rf none :: rest))) : W p l e R s m args below meth c H locs cells slots Q (F0 m pc ls rest) := lv_null C.1 C.2.1 hdg kk
theorem r_getsR {idx k : Nat} {C0 n d : String} (C : xC G p l s m args meth c cc nL own) (hS : Sh G σ s H locs) (hm : (C0, n, d, Value.ref (gA G k)) ∈ gSTA G) (hlink : Cond.fieldLink own idx C0 n d ∈ lw_all) (hdg : decode cc pc = .ok (.getstatic idx, 3))
    (kk : W p l e R s m args below meth c H locs cells slots Q (F0 m (pc + 3) ls (va_rf (some (gA G k)) :: rest))) : W p l e R s m args below meth c H locs cells slots Q (F0 m pc ls rest) := r_gets C hS hm hlink hdg kk
theorem nn_i (z : Int32) (hz : ¬ z < 0) : z.toInt = (z.toNatClampNeg : Int) := by
  have hz0 : (0 : Int) ≤ z.toInt := by
    have := Int32.not_lt.mp hz
    simpa using Int32.le_iff_toInt_le.mp this
  show z.toInt = ((z.toInt.toNat : Nat) : Int)
  omega
theorem r_acI {index ti : Nat} {ty : FieldType} {r0 r1 : Option Nat} {sp dp n : Int32} {K : hSt → Prop} (C : xC G p l s m args meth c cc nL own) (hS : Sh G σ s H locs) (hsz : ls.size = nL) (hlink : Cond.methodLink own index arraycopyName ∈ lw_all) (hnat : Cond.native arraycopyName ∈ lw_all) (hstat : Cond.static arraycopyName ∈ lw_all) (hini : Cond.initialized "java/lang/System" ∈ lw_all)
    (h9 : ti < 9) (ht : gTY[ti]? = some ty) (hprim : refKind ty = false) (hframes : 1 ≤ R.frames) (hlocals : 8 + (nativeFrameWords "java/lang/System" "arraycopy" 5 + 11) ≤ R.locals) (hW : rest.length ≤ 4) (hdg : decode cc pc = .ok (.invokestatic index, 3)) (hw : acI G σ r0 sp r1 dp n ti ty K)
    (kk : ∀ σ' H1 locs1, K σ' → Sh G σ' s H1 locs1 → W p l e R s m args below meth c H1 locs1 (σ'.2.1 - s.heap.size) (σ'.2.2 - hsum s.heap) Q (F0 m (pc + 3) ls rest)) : W p l e R s m args below meth c H locs cells slots Q (F0 m pc ls (.int n :: .int dp :: va_rf r1 :: .int sp :: va_rf r0 :: rest)) := by
  obtain ⟨a0, n0, f, a, n1, g, rfl, s0, rfl, s1, hX, h1, h2, h3, h4, h5, hfit, hk⟩ := hw
  have hts := C.2.2.2.2.1
  have hKn := C.2.2.2.2.2.2.2.1
  obtain ⟨ty0, g1, cs, g2, g3, g4, g5, g6, g7, g8⟩ := hS.1.1 a0 _ s0
  obtain ⟨ty1, j1, cd, j2, j3, j4, j5, j6, j7, j8⟩ := hS.1.1 a _ s1
  cases g1.symm.trans ht
  cases j1.symm.trans ht
  have jc := j8 hX
  subst jc
  obtain ⟨-, k0, hk0, cm0, hkk0⟩ := g3
  obtain ⟨-, k1, hk1, cm1, hkk1⟩ := j3
  intro T hT X
  obtain ⟨vm', X', step⟩ := X.arraycopy C.1 C.2.2.2.1 (hts _ hlink) (hts _ hnat) (hts _ hstat) (hts _ hini) (src := a0) (dst := a) (cs := cs) (cd := vp_cell (gT G ti) (n1, .inl g)) (srcPos := sp) (destPos := dp) (n := n) (by rw [hT]; exact g2) (by rw [hT]; exact j2)
    (fun _ h => by rw [h] at g5; cases g5) (fun _ h => by cases h) g4 (fun h => by cases h) hk0 hk1 hkk0 hkk1 (by simp [hprim]) h1 h2 h3
    (by rw [nn_i sp h1, nn_i n h3, g7, vpc_size]; omega)
    (by rw [nn_i dp h2, nn_i n h3, vpc_size]; omega)
    (fun vm₁ _ i hi => by
      have e : cs.slots.getD (sp.toNatClampNeg + i) .null = .int (f (sp.toNatClampNeg + i)) := by
        rw [g7]
        show (arrV (gT G ti) n0 (fun j => .int (f j))).slots.getD _ _ = _
        rw [Array.getD_eq_getD_getElem?, arrV_read _ _ (by omega)]
        rfl
      refine ⟨?_, ?_⟩
      · rw [e]
        exact hfit i hi
      · rw [e]
        exact trivial)
    (g := F0 m pc ls (.int n :: .int dp :: .ref a :: .int sp :: .ref a0 :: rest)) rfl (by rw [C.2.2.1]; exact hsz) (rest := rest) rfl (by rw [C.2.1]; exact hdg) hframes (by have := cs_le hW; show 2 * 0 + _ + _ ≤ _; omega)
  have e1 : copied cs (vp_cell (gT G ti) (n1, .inl g)) sp dp n = vp_cell (gT G ti) (n1, .inl (va_cpy f g sp.toNatClampNeg dp.toNatClampNeg n.toNatClampNeg)) := va_copiedX (fun z => .int z) cs (gT G ti) f g (fun j hj => by
    rw [g7]
    show (arrV (gT G ti) n0 (fun j => .int (f j))).slots[j]? = _
    exact arrV_read _ _ hj) h4
  rw [e1] at X' step
  have hl : a < H.size := (Array.getElem?_eq_some_iff.mp j2).1
  have hheap : ((T.setVm vm').setCell a (vp_cell (gT G ti) (n1, .inl (va_cpy f g sp.toNatClampNeg dp.toNatClampNeg n.toNatClampNeg)))).heap = H.setIfInBounds a (vp_cell (gT G ti) (n1, .inl (va_cpy f g sp.toNatClampNeg dp.toNatClampNeg n.toNatClampNeg))) := by rw [← hT]; rfl
  have ea : (H.setIfInBounds a (vp_cell (gT G ti) (n1, .inl (va_cpy f g sp.toNatClampNeg dp.toNatClampNeg n.toNatClampNeg))))[a]? = some (vp_cell (gT G ti) (n1, .inl (va_cpy f g sp.toNatClampNeg dp.toNatClampNeg n.toNatClampNeg))) := by simp [Array.getElem?_setIfInBounds, hl]
  have hS' := Sh.putL (e0 := .inl (ti, n1, .inl g)) (e1 := .inl (ti, n1, .inl (va_cpy f g sp.toNatClampNeg dp.toNatClampNeg n.toNatClampNeg))) (L := (cs.stretch sp.toNatClampNeg n.toNatClampNeg).zipIdx.map fun q => ⟨a, dp.toNatClampNeg + q.2⟩) hS hX j2 ea (by rw [vpc_size, vpc_size]) (by simp) (fun q hq => by simp [Array.getElem?_setIfInBounds, Ne.symm hq])
    ⟨ty, ht, _, ea, arrOk hKn h9 ht _, (fun h => nomatch h), rfl, fun _ => rfl, rfl, fun _ => rfl⟩ (fun x hx => by
      obtain ⟨z, -, hz⟩ := List.mem_map.mp hx
      rw [← hz])
  obtain ⟨t, a1, b1⟩ := W_tight hS' (kk _ _ _ hk hS') _ hheap X'
  exact ⟨t, step t a1, b1⟩
theorem r_acR {index : Nat} {r0 r1 : Option Nat} {sp dp n : Int32} {L : List Nat} {K : hSt → Prop} (C : xC G p l s m args meth c cc nL own) (hS : Sh G σ s H locs) (hsz : ls.size = nL) (hlink : Cond.methodLink own index arraycopyName ∈ lw_all) (hnat : Cond.native arraycopyName ∈ lw_all) (hstat : Cond.static arraycopyName ∈ lw_all) (hini : Cond.initialized "java/lang/System" ∈ lw_all)
    (hL : ∀ ci ∈ L, ∃ r : vw_C, gCL[ci]? = some r ∧ Cond.castable r.1 "java/lang/Object" ∈ lw_tbl) (hframes : 1 ≤ R.frames) (hlocals : 8 + (nativeFrameWords "java/lang/System" "arraycopy" 5 + 11) ≤ R.locals) (hW : rest.length ≤ 4) (hdg : decode cc pc = .ok (.invokestatic index, 3)) (hw : acR G σ r0 sp r1 dp n L K)
    (kk : ∀ σ' H1 locs1, K σ' → Sh G σ' s H1 locs1 → W p l e R s m args below meth c H1 locs1 (σ'.2.1 - s.heap.size) (σ'.2.2 - hsum s.heap) Q (F0 m (pc + 3) ls rest)) : W p l e R s m args below meth c H locs cells slots Q (F0 m pc ls (.int n :: .int dp :: va_rf r1 :: .int sp :: va_rf r0 :: rest)) := by
  obtain ⟨a0, n0, f, a, n1, g, rfl, s0, rfl, s1, hX, h1, h2, h3, h4, h5, hel, hk⟩ := hw
  have hts := C.2.2.2.2.1
  have hKn := C.2.2.2.2.2.2.2.1
  have ht : gTY[5]? = some (.object "java/lang/Object") := rfl
  have h9 : 5 < 9 := by omega
  obtain ⟨ty0, g1, cs, g2, g3, g4, g5, g6, g7, g8⟩ := hS.1.1 a0 _ s0
  obtain ⟨ty1, j1, cd, j2, j3, j4, j5, j6, j7, j8⟩ := hS.1.1 a _ s1
  have g6 := g6 fun _ => (by decide : (5 : Nat) ≠ 0)
  cases g1.symm.trans ht
  cases j1.symm.trans ht
  have jc := j8 hX
  subst jc
  obtain ⟨kA, comp, k1, k2, k3, -⟩ := (tys_at hKn h9 ht).2
  obtain ⟨kE, hkE, -⟩ := Vm.findClass_spec k3
  intro T hT X
  obtain ⟨vm', X', step⟩ := X.arraycopy C.1 C.2.2.2.1 (hts _ hlink) (hts _ hnat) (hts _ hstat) (hts _ hini) (src := a0) (dst := a) (cs := cs) (cd := vp_cell (gT G 5) (n1, .inr (.inr (.inr (.inr g))))) (srcPos := sp) (destPos := dp) (n := n) (by rw [hT]; exact g2) (by rw [hT]; exact j2)
    (fun _ h => by rw [h] at g5; cases g5) (fun _ h => by cases h) g4 (fun h => by cases h) (by rw [g6]; exact k1) k1 k2 k2 rfl h1 h2 h3
    (by rw [nn_i sp h1, nn_i n h3, g7, vpc_size]; omega)
    (by rw [nn_i dp h2, nn_i n h3, vpc_size]; omega)
    (fun vm₁ hal i hi => by
      have e : cs.slots.getD (sp.toNatClampNeg + i) .null = va_rf (f (sp.toNatClampNeg + i)) := by
        rw [g7]
        show (arrV (gT G 5) n0 (fun j => va_rf (f j))).slots.getD _ _ = _
        rw [Array.getD_eq_getD_getElem?, arrV_read _ _ (by omega)]
        rfl
      rw [e]
      rcases hel i hi with hy | ⟨y, ci, fs, hy, hy1, hy2⟩
      · rw [hy]; exact ⟨rfl, trivial⟩
      · rw [hy]
        obtain ⟨r, hc1, hc2⟩ := hL ci hy2
        obtain ⟨r', gg1, gg0, cellV, q1, q2, q3, q3s, q4, q5, q6⟩ := hS.1.1 y _ hy1
        cases gg1.symm.trans hc1
        have hca := cell_cls hKn hc1
        obtain ⟨kC, hkC, -⟩ := hca.2
        obtain ⟨kC', hkC', -⟩ := hal.2.2 _ _ hkC
        obtain ⟨kE', hkE', -⟩ := hal.2.2 _ _ hkE
        refine ⟨rfl, cellV, (show T.heap[y]? = some cellV by rw [hT]; exact q1), (fun q h => by rw [h] at q3s; cases q3s), ⟨kC', by rw [q2]; exact hkC'⟩, ?_, ?_⟩
        · exact ⟨kE', hkE'⟩
        · show vm₁.assignable _ _ = true
          rw [hal.assignable, q2]
          exact vb_asgC (hKn.2.1 _ (gx hc2 rfl)) _ _ k3 hca.1)
    (g := F0 m pc ls (.int n :: .int dp :: .ref a :: .int sp :: .ref a0 :: rest)) rfl (by rw [C.2.2.1]; exact hsz) (rest := rest) rfl (by rw [C.2.1]; exact hdg) hframes (by have := cs_le hW; show 2 * 0 + _ + _ ≤ _; omega)
  have e1 : copied cs (vp_cell (gT G 5) (n1, .inr (.inr (.inr (.inr g))))) sp dp n = vp_cell (gT G 5) (n1, .inr (.inr (.inr (.inr (va_cpy f g sp.toNatClampNeg dp.toNatClampNeg n.toNatClampNeg))))) := by
    rw [vp_cell_q, vp_cell_q]
    exact va_copiedX (fun z => va_rf z) cs (gT G 5) f g (fun j hj => by
      rw [g7]
      show (arrV (gT G 5) n0 (fun j => va_rf (f j))).slots[j]? = _
      exact arrV_read _ _ hj) h4
  rw [e1] at X' step
  have hl : a < H.size := (Array.getElem?_eq_some_iff.mp j2).1
  have hheap : ((T.setVm vm').setCell a (vp_cell (gT G 5) (n1, .inr (.inr (.inr (.inr (va_cpy f g sp.toNatClampNeg dp.toNatClampNeg n.toNatClampNeg))))))).heap = H.setIfInBounds a (vp_cell (gT G 5) (n1, .inr (.inr (.inr (.inr (va_cpy f g sp.toNatClampNeg dp.toNatClampNeg n.toNatClampNeg)))))) := by rw [← hT]; rfl
  have ea : (H.setIfInBounds a (vp_cell (gT G 5) (n1, .inr (.inr (.inr (.inr (va_cpy f g sp.toNatClampNeg dp.toNatClampNeg n.toNatClampNeg)))))))[a]? = some (vp_cell (gT G 5) (n1, .inr (.inr (.inr (.inr (va_cpy f g sp.toNatClampNeg dp.toNatClampNeg n.toNatClampNeg)))))) := by simp [Array.getElem?_setIfInBounds, hl]
  have hS' := Sh.putL (e0 := .inl (5, n1, .inr (.inr (.inr (.inr g))))) (e1 := .inl (5, n1, .inr (.inr (.inr (.inr (va_cpy f g sp.toNatClampNeg dp.toNatClampNeg n.toNatClampNeg)))))) (L := (cs.stretch sp.toNatClampNeg n.toNatClampNeg).zipIdx.map fun q => ⟨a, dp.toNatClampNeg + q.2⟩) hS hX j2 ea (by rw [vpc_size, vpc_size]) (by simp) (fun q hq => by simp [Array.getElem?_setIfInBounds, Ne.symm hq])
    ⟨_, ht, _, ea, arrOk hKn h9 ht _, (fun h => nomatch h), rfl, fun _ => rfl, rfl, fun _ => rfl⟩ (fun x hx => by
      obtain ⟨z, -, hz⟩ := List.mem_map.mp hx
      rw [← hz])
  obtain ⟨t, a1, b1⟩ := W_tight hS' (kk _ _ _ hk hS') _ hheap X'
  exact ⟨t, step t a1, b1⟩
theorem r_acA {index : Nat} {r0 r1 : Option Nat} {sp dp n : Int32} {K : hSt → Prop} (C : xC G p l s m args meth c cc nL own) (hS : Sh G σ s H locs) (hsz : ls.size = nL) (hlink : Cond.methodLink own index arraycopyName ∈ lw_all) (hnat : Cond.native arraycopyName ∈ lw_all) (hstat : Cond.static arraycopyName ∈ lw_all) (hini : Cond.initialized "java/lang/System" ∈ lw_all)
    (hL : ∀ ci ∈ acL, ∃ r : vw_C, gCL[ci]? = some r ∧ Cond.castable r.1 "java/lang/Object" ∈ lw_tbl) (hframes : 1 ≤ R.frames) (hlocals : 8 + (nativeFrameWords "java/lang/System" "arraycopy" 5 + 11) ≤ R.locals) (hW : rest.length ≤ 4) (hdg : decode cc pc = .ok (.invokestatic index, 3)) (hw : acA G σ r0 sp r1 dp n K)
    (kk : ∀ σ' H1 locs1, K σ' → Sh G σ' s H1 locs1 → W p l e R s m args below meth c H1 locs1 (σ'.2.1 - s.heap.size) (σ'.2.2 - hsum s.heap) Q (F0 m (pc + 3) ls rest)) : W p l e R s m args below meth c H locs cells slots Q (F0 m pc ls (.int n :: .int dp :: va_rf r1 :: .int sp :: va_rf r0 :: rest)) := by
  rcases hw with hw | hw | hw | hw
  · exact r_acI C hS hsz hlink hnat hstat hini (by omega) rfl rfl hframes hlocals hW hdg hw kk
  · exact r_acI C hS hsz hlink hnat hstat hini (by omega) rfl rfl hframes hlocals hW hdg hw kk
  · exact r_acI C hS hsz hlink hnat hstat hini (by omega) rfl rfl hframes hlocals hW hdg hw kk
  · exact r_acR C hS hsz hlink hnat hstat hini hL hframes hlocals hW hdg hw kk
theorem r_castB {idx : Nat} {r : Option Nat} (C : xC G p l s m args meth c cc nL own) (hS : Sh G σ s H locs) (hlink : Cond.classLink own idx "[B" ∈ lw_all) (hdg : decode cc pc = .ok (.checkcast idx, 3)) (hw : ckA σ r [2])
    (kk : W p l e R s m args below meth c H locs cells slots Q (F0 m (pc + 3) ls (va_rf r :: rest))) : W p l e R s m args below meth c H locs cells slots Q (F0 m pc ls (va_rf r :: rest)) := by
  rcases hw with rfl | ⟨a, ti, x, rfl, h1, h2⟩
  · exact lv_castN C.1 C.2.1 hdg kk
  · have h3 : ti = 2 := List.mem_singleton.mp h2
    subst h3
    obtain ⟨ty, g1, cell, g2, g3, g4, g5, g6, g7, g8⟩ := hS.1.1 a _ h1
    have g6 := g6 fun _ => (by decide : (2 : Nat) ≠ 0)
    have j4 : va_RA s (gT G 2) .byte := (tys_at C.2.2.2.2.2.2.2.1 (ti := 2) (by omega) rfl).2
    intro T hT X
    obtain ⟨vm', X', st⟩ := X.checkcastYes C.1 C.2.2.2.1 (C.2.2.2.2.1 _ hlink) (by rw [hT]; exact g2) g5 (show s.vm.findClass "[B" = some (gT G 2) from j4) (by rw [g6]; exact va_asg _ _) (g := F0 m pc ls (.ref a :: rest)) rfl rfl (by rw [C.2.1]; exact hdg)
    obtain ⟨t, a1, b1⟩ := kk (T.setVm vm') hT X'
    exact ⟨t, st t a1, b1⟩
theorem r_clone {index : Nat} {r : Option Nat} {K : Nat → hSt → Prop} (C : xC G p l s m args meth c cc nL own) (hS : Sh G σ s H locs) (hsz : ls.size = nL) (hlink : Cond.methodLink own index ⟨"[B", "clone", "()Ljava/lang/Object;"⟩ ∈ lw_all) (hsame : Cond.sameMethod "[B" "java/lang/Object" "clone" "()Ljava/lang/Object;" ∈ lw_all) (hnat : Cond.native ⟨"java/lang/Object", "clone", "()Ljava/lang/Object;"⟩ ∈ lw_all) (hinst : Cond.instanceMethod ⟨"java/lang/Object", "clone", "()Ljava/lang/Object;"⟩ ∈ lw_all) (hsel : Cond.selects "[B" ⟨"[B", "clone", "()Ljava/lang/Object;"⟩ ⟨"java/lang/Object", "clone", "()Ljava/lang/Object;"⟩ ∈ lw_all) (hcl : Cond.castable "[B" "java/lang/Cloneable" ∈ lw_tbl)
    (hR : R.cells = gL G - s.heap.size ∧ R.slots = gU G - hsum s.heap) (hframes : 1 ≤ R.frames) (hlocals : 22 ≤ R.locals) (hW : rest.length ≤ 4) (hdg : decode cc pc = .ok (.invokevirtual index, 3)) (hw : clB G σ r K)
    (kk : ∀ q σ' H1 locs1, K q σ' → Sh G σ' s H1 locs1 → W p l e R s m args below meth c H1 locs1 (σ'.2.1 - s.heap.size) (σ'.2.2 - hsum s.heap) Q (F0 m (pc + 3) ls (va_rf (some q) :: rest))) : W p l e R s m args below meth c H locs cells slots Q (F0 m pc ls (va_rf r :: rest)) := by
  obtain ⟨a, n, f, rfl, s1, hfit, h1, h2, h3⟩ := hw
  have hts := C.2.2.2.2.1
  have hKn := C.2.2.2.2.2.2.2.1
  have h9 : 2 < 9 := by omega
  have ht : gTY[2]? = some .byte := rfl
  obtain ⟨ty, g1, cell, g2, g3, g4, g5, g6, g7, g8⟩ := hS.1.1 a _ s1
  have g6 := g6 fun _ => (by decide : (2 : Nat) ≠ 0)
  cases g1.symm.trans ht
  have j4 : s.vm.findClass "[B" = some (gT G 2) := (tys_at hKn h9 ht).2
  have hsz1 : s.heap.size ≤ σ.2.1 := by have := hS.2.1; have := hS.1.2.1; omega
  have hszc : cell.slots.size = n := by rw [g7]; exact arrV_size _ _ _
  refine W_tight hS (W_have hS fun hz => ?_)
  obtain ⟨c0, t0', f1, f2, f3⟩ := Cond.castable_spec (va_Nw.use (A := args) rfl (hKn.2.1 _ (gx hcl rfl)))
  cases j4.symm.trans f1
  intro T hT X
  have hcellT : T.heap[a]? = some cell := by rw [hT]; exact g2
  obtain ⟨-, kA, hkA, comp, hkind⟩ := State.isArrayOf_alike X.warmed.alike g3
  obtain ⟨-, kS, hkS, compS, hkindS⟩ := g3
  obtain ⟨vm', X', st⟩ := X.cloneArray C.1 C.2.2.2.1 (hts _ hlink) (hts _ hsame) (hts _ hnat) (hts _ hinst) (hts _ hsel) (a := a) (cell := cell) hcellT (fun k h => by rw [h] at g5; cases g5) g4 (by rw [g6]; exact j4) f2 (by rw [g6]; exact f3)
    (fun i v hv => by
      have hk' : T.vm.classes[cell.cls]? = some kA := hkA
      have hv2 : i < n ∧ v = .int (f i) := by
        rw [g7] at hv
        have hi : i < n := by
          have := (Array.getElem?_eq_some_iff.mp hv).1
          rw [vpc_size] at this
          exact this
        refine ⟨hi, ?_⟩
        have h5 : (vp_cell (gT G 2) (n, .inl f)).slots[i]? = some (.int (f i)) := arrV_read _ _ hi
        exact Option.some.inj (hv.symm.trans h5)
      rw [hv2.2]
      simpa [State.fitsSlot, State.slotType?, hk', hkind] using hfit i hv2.1)
    (g := F0 m pc ls (.ref a :: rest)) rfl (by rw [C.2.2.1]; exact hsz) rfl (by rw [C.2.1]; exact hdg) hframes (by have := cs_le hW; show 2 * 0 + _ + 14 ≤ _; omega) (by rw [hR.1]; omega) (by rw [hszc, hR.2]; omega) (hloader := Vm.clonesLoader_of_array hkS hkindS)
  have hcellE : ({ cls := cell.cls, slots := cell.slots } : Cell) = vp_cell (gT G 2) (n, .inl f) := by
    rw [g6, g7]; rfl
  rw [hcellE, hszc] at X'
  have e9 : (H.push (vp_cell (gT G 2) (n, .inl f)))[H.size]? = some (vp_cell (gT G 2) (n, .inl f)) := by rw [Array.getElem?_push, if_pos rfl]
  have hfr := hS.1.freshX
  have e0 : H.size = σ.2.1 := hS.1.2.1
  have hS' : Sh G (hnew σ (.inl (2, n, .inl f)) n) s (H.push (vp_cell (gT G 2) (n, .inl f))) locs := hS.push h1 h2 e9 (vpc_size _ _) (Array.size_push _) (fun q hq => by rw [Array.getElem?_push, if_neg (Nat.ne_of_lt hq)]) ⟨_, ht, _, e9, arrOk hKn h9 ht _, (fun h => nomatch h), rfl, fun _ => rfl, rfl, fun _ => rfl⟩
  have hk := kk _ _ _ _ (h3 hS.1.fresh hfr) hS'
  have hheap : ((T.setVm vm').pushCell (vp_cell (gT G 2) (n, .inl f))).heap = H.push (vp_cell (gT G 2) (n, .inl f)) := by rw [← hT]; rfl
  obtain ⟨t, b1, b2⟩ := W_tight (cells := σ.2.1 - s.heap.size + 1) (slots := σ.2.2 - hsum s.heap + n) hS' hk _ hheap X'
  refine ⟨t, st t ?_, b2⟩
  rw [hcellE, hT, e0]
  exact b1
theorem r_getC {index : Nat} {r : Option Nat} (C : xC G p l s m args meth c cc nL own) (hS : Sh G σ s H locs) (hsz : ls.size = nL) (hlink : Cond.methodLink own index ⟨"java/lang/Object", "getClass", "()Ljava/lang/Class;"⟩ ∈ lw_all) (hdecl : Cond.declares ⟨"java/lang/Object", "getClass", "()Ljava/lang/Class;"⟩ ∈ lw_tbl) (hsel : Cond.selects "[Ljava/lang/Object;" ⟨"java/lang/Object", "getClass", "()Ljava/lang/Class;"⟩ ⟨"java/lang/Object", "getClass", "()Ljava/lang/Class;"⟩ ∈ lw_all) (hinst : Cond.instanceMethod ⟨"java/lang/Object", "getClass", "()Ljava/lang/Class;"⟩ ∈ lw_all) (hnat : Cond.native ⟨"java/lang/Object", "getClass", "()Ljava/lang/Class;"⟩ ∈ lw_all)
    (hframes : 1 ≤ R.frames) (hlocals : 22 ≤ R.locals) (hW : rest.length ≤ 4) (hdg : decode cc pc = .ok (.invokevirtual index, 3)) (hw : gcO σ r)
    (kk : W p l e R s m args below meth c H locs cells slots Q (F0 m (pc + 3) ls (va_rf (some (gA G 45)) :: rest))) : W p l e R s m args below meth c H locs cells slots Q (F0 m pc ls (va_rf r :: rest)) := by
  obtain ⟨a, n, x, rfl, h1⟩ := hw
  have hts := C.2.2.2.2.1
  have hKn := C.2.2.2.2.2.2.2.1
  obtain ⟨ty, g1, cell, g2, g3, g4, g5, g6, g7, g8⟩ := hS.1.1 a _ h1
  have g6 := g6 fun _ => (by decide : (5 : Nat) ≠ 0)
  obtain ⟨kA, comp, j1, j2, j3, j4⟩ := (tys_at hKn (ti := 5) (by omega) rfl).2
  exact va_getC C.1 C.2.1 (C.2.2.1.trans hsz.symm) C.2.2.2.1 (hts _ hlink) (va_Nw.use rfl (hKn.2.1 _ (gx hdecl (by decide)))) (hts _ hsel) (hts _ hinst) (hts _ hnat) hKn.2.2.2.2.2 ⟨cell, g2, g5, by rw [g6]; exact j4⟩ hframes (by have := cs_le hW; omega) hdg kk
theorem r_ldcM {index : Nat} (C : xC G p l s m args meth c cc nL own) (hlink : Cond.classLink own index "[Ljava/lang/Object;" ∈ lw_all) (hdg : decode cc pc = .ok (.ldc index, 2))
    (kk : W p l e R s m args below meth c H locs cells slots Q (F0 m (pc + 2) ls (va_rf (some (gA G 45)) :: rest))) : W p l e R s m args below meth c H locs cells slots Q (F0 m pc ls rest) := va_ldcM C.1 C.2.1 C.2.2.2.1 (C.2.2.2.2.1 _ hlink) C.2.2.2.2.2.2.2.1.2.2.2.2.2 hdg kk
theorem r_d2l {index : Nat} {b : UInt64} (C : xC G p l s m args meth c cc nL own) (hsz : ls.size = nL) (hlink : Cond.methodLink own index ⟨"java/lang/Double", "doubleToRawLongBits", "(D)J"⟩ ∈ lw_all) (hnat : Cond.native ⟨"java/lang/Double", "doubleToRawLongBits", "(D)J"⟩ ∈ lw_all) (hstat : Cond.static ⟨"java/lang/Double", "doubleToRawLongBits", "(D)J"⟩ ∈ lw_all) (hini : Cond.initialized "java/lang/Double" ∈ lw_all) (hframes : 1 ≤ R.frames) (hlocals : 23 ≤ R.locals) (hW : rest.length ≤ 4) (hdg : decode cc pc = .ok (.invokestatic index, 3))
    (kk : W p l e R s m args below meth c H locs cells slots Q (F0 m (pc + 3) ls (.long b.toInt64 :: rest))) : W p l e R s m args below meth c H locs cells slots Q (F0 m pc ls (.double b :: rest)) := by
  have hts := C.2.2.2.2.1
  exact vn_d2l C.1 C.2.1 (C.2.2.1.trans hsz.symm) C.2.2.2.1 (hts _ hlink) (hts _ hnat) (hts _ hstat) (hts _ hini) hframes (by have := cs_le hW; omega) hdg kk
theorem r_l2d {index : Nat} {b : Int64} (C : xC G p l s m args meth c cc nL own) (hsz : ls.size = nL) (hlink : Cond.methodLink own index ⟨"java/lang/Double", "longBitsToDouble", "(J)D"⟩ ∈ lw_all) (hnat : Cond.native ⟨"java/lang/Double", "longBitsToDouble", "(J)D"⟩ ∈ lw_all) (hstat : Cond.static ⟨"java/lang/Double", "longBitsToDouble", "(J)D"⟩ ∈ lw_all) (hini : Cond.initialized "java/lang/Double" ∈ lw_all) (hv : vn_snl2d b = false) (hframes : 1 ≤ R.frames) (hlocals : 23 ≤ R.locals) (hW : rest.length ≤ 4) (hdg : decode cc pc = .ok (.invokestatic index, 3))
    (kk : W p l e R s m args below meth c H locs cells slots Q (F0 m (pc + 3) ls (.double b.toUInt64 :: rest))) : W p l e R s m args below meth c H locs cells slots Q (F0 m pc ls (.long b :: rest)) := by
  have hts := C.2.2.2.2.1
  exact vn_l2d C.1 C.2.1 (C.2.2.1.trans hsz.symm) C.2.2.2.1 (hts _ hlink) (hts _ hnat) (hts _ hstat) (hts _ hini) hv hframes (by have := cs_le hW; omega) hdg kk
end ROWS3
/-- an exception of the machine's library, made -/
def mkE (G : gE) (σ : hSt) (ci : Nat) (K : Nat → hSt → Prop) : Prop := σ.2.1 + 1 ≤ gL G ∧ σ.2.2 + 6 ≤ gU G ∧ ∀ N, N ≤ 6 → (σ.1 σ.2.1 = none → ¬ gX G σ.2.1 → K σ.2.1 (hnew σ (.inr (ci, [])) N))
section ROWS4
variable {p : Program} {l : Launch} {e : Env} {R : Room} {s : State} {m : MethodId} {args : Array Value} {below : List Frame} {meth : Method} {c : Code} {H : Heap} {locs : List Loc} {cells slots : Nat} {Q : State → Prop}
variable {G : gE} {σ : hSt} {cc : ByteArray} {nL : Nat} {own : String} {pc : Nat} {ls : Array Slot} {rest : List Value}
/-- passes every row of the method's table -/
theorem r_pass {P : Option Value → hSt → Prop} {PX : Nat → Nat → hSt → Prop} {ci q : Nat} {mc ms : Nat} {r : vw_C} (C : xC G p l s m args meth c cc nL own) (hS : Sh G σ s H locs) (hmc : mc = gL G - s.heap.size ∧ ms = gU G - hsum s.heap) (hr : gCL[ci]? = some r) (hpass : ∀ z ∈ c.exceptionTable.toList, covers z pc = false ∨ (z.catchType ≠ 0 ∧ ∃ nm : String, Cond.classLink own z.catchType nm ∈ lw_all ∧ (r.1, nm) ∈ gNC)) (ht : thr G s H ci q) (hw : PX ci q σ) : vx_W p l e R s m args below meth c H locs cells slots (vx_MQ below (cQ G P) (cX G PX) args s mc ms (gF G)) (F0 m pc ls rest) q := by
  obtain ⟨r', ce, h1, h2, h3, h4⟩ := ht
  cases h1.symm.trans hr
  refine vx_tight hS (vx_widen (k := mc) (n := ms) ?_ ?_ (vx_outP (own := own) C.2.2.2.1 C.2.2.2.2.2.1 (fun z hz => (hpass z hz).imp id (fun h => ⟨h.1, h.2.choose, C.2.2.2.2.1 _ h.2.choose_spec.1, C.2.2.2.2.2.2.2.1.2.2.2.2.1 _ h.2.choose_spec.2⟩)) h2 h3 h4 (fun t ht ha => ⟨ci, σ, _, h1, rfl, hw, by rw [ht]; exact hS.1.moved ha, hS.2.F ht⟩) hS.2.2.2 (Nat.le_refl _) (Nat.le_refl _)))
  · have := hS.1.2.2.2.1
    omega
  · have := hS.1.2.2.2.2.1
    omega
def anyOk (w : Cond) : Bool := goodWord w || (nwOk w && w.onTables)
theorem w_any {w : Cond} (C : xC G p l s m args meth c cc nL own) (h : w ∈ lw_tbl) (g : anyOk w = true) : w.before args s = true := by
  unfold anyOk at g
  rw [Bool.or_eq_true] at g
  rcases g with g | g
  · exact C.2.2.2.2.1 _ (List.mem_filter.mpr ⟨h, g⟩)
  · rw [Bool.and_eq_true] at g
    exact va_Nw.use g.2 (C.2.2.2.2.2.2.2.1.2.1 _ (gx h g.1))
theorem r_make {ik ic ci : Nat} {cls : String} {names : List String} {T0 : u_T} {K : Nat → hSt → Prop} (C : xC G p l s m args meth c cc nL own) (hS : Sh G σ s H locs) (hsz : ls.size = nL) (hc : gCL[ci]? = some (cls, T0, 0)) (hcls : Bundle.fit cls = true) (hnames : ∀ n ∈ names, Bundle.fit n = true) (hk : Cond.classLink own ik cls ∈ lw_all) (hini : Cond.initialized cls ∈ lw_all)
    (hat : ∀ w ∈ vx_at0 own ic cls names, w ∈ lw_tbl ∧ anyOk w = true) (hgood : ∀ w ∈ Cond.classLink own ik cls :: Cond.initialized cls :: vx_at0 own ic cls names, vx_ot w = true)
    (hR : R.cells = gL G - s.heap.size ∧ R.slots = gU G - hsum s.heap) (d0 : decode cc pc = .ok (.new ik, 3)) (d3 : decode cc (pc + 3) = .ok (.dup, 1)) (d4 : decode cc (pc + 4) = .ok (.invokespecial ic, 3)) (hfr : names.length + 3 < R.frames) (hlo : 8 + (13 * (names.length + 1) + 42) ≤ R.locals) (hW : rest.length ≤ 4) (hw : mkE G σ ci K)
    (kk : ∀ q σ' H1 locs1, K q σ' → Sh G σ' s H1 locs1 → W p l e R s m args below meth c H1 locs1 (σ'.2.1 - s.heap.size) (σ'.2.2 - hsum s.heap) Q (F0 m (pc + 7) ls (va_rf (some q) :: rest))) : W p l e R s m args below meth c H locs cells slots Q (F0 m pc ls rest) := by
  obtain ⟨h1, h2, h3⟩ := hw
  have hts := C.2.2.2.2.1
  have hKn := C.2.2.2.2.2.2.2.1
  have hKz := C.2.2.2.2.2.2.2.2
  have hsz1 : s.heap.size ≤ σ.2.1 := by have := hS.2.1; have := hS.1.2.1; omega
  refine W_tight hS (W_have hS fun hz => ?_)
  refine mk0 C.1 C.2.1 C.2.2.2.2.2.2.1 C.2.2.2.1 hcls hnames (hts _ hk) (hts _ hini) (fun w hw => w_any C (hat w hw).1 (hat w hw).2) hgood hKz.2.1 hKz.2.2.1 hS.2 (hsz.trans C.2.2.1.symm) d0 d3 d4 hKn.1 hc hfr (by have := cs_le hW; omega) (by rw [hR.1]; omega) (by rw [hR.2]; omega) fun H1 ce e1 e2 e3 e4 e5 e6 => ?_
  have hfr := hS.1.freshX
  have e0 : H.size = σ.2.1 := hS.1.2.1
  have hS' : Sh G (hnew σ (.inr (ci, [])) ce.slots.size) s H1 locs := hS.push h1 (by omega) e2 rfl e1 e6 ⟨(cls, T0, 0), hc, rfl, ce, e2, e3, (fun h => nomatch (e4.symm.trans h : VmData.none = VmData.unknown)), (by rw [e4]; rfl), fun _ => ⟨e4, fun h => by
    rcases h with rfl | rfl
    · have h9 : (some (RX9, TX9, 8) : Option vw_C) = some (cls, T0, 0) := hc
      exact absurd (congrArg (fun o : Option vw_C => o.map (·.2.2)) h9) (by simp)
    · have h9 : (some (RX12, TX12, 7) : Option vw_C) = some (cls, T0, 0) := hc
      exact absurd (congrArg (fun o : Option vw_C => o.map (·.2.2)) h9) (by simp)⟩, fun h => absurd h (by rw [e0]; exact hfr), fun k hk => absurd hk (Nat.not_lt_zero k)⟩
  have hk := kk _ _ _ _ (h3 _ e5 hS.1.fresh hfr) hS'
  rw [e0]
  exact W_tight hS' hk
end ROWS4
/-- the library's constructor of an exception of the program's own kind -/
def exI (G : gE) (σ : hSt) (r : Option Nat) (ci : Nat) (K : hSt → Prop) : Prop := ∃ a fs, r = some a ∧ σ.1 a = some (.inr (ci, fs)) ∧ fs[4]? = some Value.null ∧ ∀ u v : Value, K (hset σ a (.inr (ci, (((fs.set 0 (.ref a)).set 1 u).set 2 v).set 1 u)))
def exA (own : String) (ic : Nat) (cls : String) (names : List String) (kd : String) (n : Nat) : List Cond := Bundle.throwableAtoms ++ Bundle.chain0Atoms cls names ++ [.methodLink own ic (Bundle.init0 cls), .instantiable kd n, .selects kd Bundle.tFill0 Bundle.tFill0, .selects kd Bundle.tFill Bundle.tFill, .lays kd Bundle.tN "cause" "Ljava/lang/Throwable;", .lays kd Bundle.tN "stackTrace" Bundle.steD, .lays kd Bundle.tN "suppressedExceptions" Bundle.listD,
  .isRef (.static Bundle.tN "UNASSIGNED_STACK" Bundle.steD), .isRef (.static Bundle.tN "SUPPRESSED_SENTINEL" Bundle.listD), .fieldLink Bundle.tN 198 Bundle.tN "backtrace" "Ljava/lang/Object;", .lays Bundle.tN Bundle.tN "backtrace" "Ljava/lang/Object;", .lays kd Bundle.tN "backtrace" "Ljava/lang/Object;"]
section ROWS5
variable {p : Program} {l : Launch} {e : Env} {R : Room} {s : State} {m : MethodId} {args : Array Value} {below : List Frame} {meth : Method} {c : Code} {H : Heap} {locs : List Loc} {cells slots : Nat} {Q : State → Prop}
variable {G : gE} {σ : hSt} {cc : ByteArray} {nL : Nat} {own : String} {pc : Nat} {ls : Array Slot} {rest : List Value}
set_option maxHeartbeats 2000000 in
theorem r_exinit {ic ci N : Nat} {cls kd : String} {names : List String} {T0 : u_T} {ty0 : Nat → FieldType} {r : Option Nat} {K : hSt → Prop} (C : xC G p l s m args meth c cc nL own) (hS : Sh G σ s H locs) (hsz : ls.size = nL) (hci : ci = 8 ∨ ci = 11) (hc : gCL[ci]? = some (kd, T0, N)) (hin : ∀ w ∈ u_ws kd T0 N, w ∈ lw_all) (hty : ∀ k, k < N → parseFieldDescriptor (T0 k).2.2.1 = some (ty0 k)) (hnm : ∀ a, a < N → ∀ b, b < N → a ≠ b → (T0 a).2.1 ≠ (T0 b).2.1) (hN : 5 ≤ N)
    (t0 : T0 0 = ("java/lang/Throwable", "cause", "Ljava/lang/Throwable;", false)) (t1 : T0 1 = ("java/lang/Throwable", "stackTrace", "[Ljava/lang/StackTraceElement;", false)) (t2 : T0 2 = ("java/lang/Throwable", "suppressedExceptions", "Ljava/util/List;", false)) (t4 : T0 4 = ("java/lang/Throwable", "backtrace", "Ljava/lang/Object;", false))
    (hcls : Bundle.fit cls = true) (hnames : ∀ n ∈ names, Bundle.fit n = true) (hat : ∀ w ∈ (exA own ic cls names kd N).filter vx_no, w ∈ lw_tbl ∧ anyOk w = true) (hfr : names.length + 3 < R.frames) (hlo : 8 + (13 * (names.length + 1) + 42) ≤ R.locals) (hW : rest.length ≤ 3) (hdg : decode cc pc = .ok (.invokespecial ic, 3)) (hw : exI G σ r ci K)
    (kk : ∀ σ' H1 locs1, K σ' → Sh G σ' s H1 locs1 → W p l e R s m args below meth c H1 locs1 (σ'.2.1 - s.heap.size) (σ'.2.2 - hsum s.heap) Q (F0 m (pc + 3) ls rest)) : W p l e R s m args below meth c H locs cells slots Q (F0 m pc ls (va_rf r :: rest)) := by
  obtain ⟨a, fs, rfl, h1, hb4, hk⟩ := hw
  have hts := C.2.2.2.2.1
  have hKn := C.2.2.2.2.2.2.2.1
  have hKz := C.2.2.2.2.2.2.2.2
  obtain ⟨r', g1, g0, cell, q1, q2, q3, q3s, q4, q5, q6⟩ := hS.1.1 a _ h1
  cases g1.symm.trans hc
  have hXa : gF G a := fun h => by have := q5 h; omega
  have g0 : fs.length = N := g0
  have q6 : ∀ k, k < N → cell.slots[(gD G).2 ci k]? = some (vp_V fs k) := q6
  obtain ⟨qv, qm⟩ := q4 hXa
  obtain ⟨hfree, hcount⟩ := qm hci
  obtain ⟨hSl, hfc, kX, hkX, hord⟩ := hKn.1.1 ci _ hc
  have hap := va_apart (own := own) hts hin ty0 hty hnm hKn.1 hc
  intro T1 hT1 X
  have htr : e.platform.stackTraces = false := (show e.platform.stackTraces = l.stackTraces by rw [X.admits.platform]).trans C.2.2.2.2.2.2.1
  have howns : e.platform.frameOwnsMonitors = true := by rw [X.admits.platform]
  have hfin : e.platform.finalization = false := by rw [X.admits.platform]
  have hpl : e.platform.magicAccessors = ({} : Platform).magicAccessors := by rw [X.admits.platform]
  have h : ∀ w ∈ exA own ic cls names kd N, w.before args s = true := vx_own (fun w hw => w_any C (hat w hw).1 (hat w hw).2) (vx_isRefq hKz.2.1.1) (vx_isRefq hKz.2.2.1.1) hKz.2.1.2.word hKz.2.2.1.2.word
  have a' : ∀ x, x ∈ exA own ic cls names kd N → x.holds args s none s [] = true := fun x hx => h x hx
  obtain ⟨T, Z, L, LZ, Y⟩ := ThrowableC.of_atoms (args := args) howns hfin hpl (fun x hx => h x (by simp [exA, hx]))
  obtain ⟨P1, Ps, hlen, L1, hL, hP1m, hlink1, hlink⟩ := Bundle.chain0 (args := args) hpl Y.init0 names cls hcls hnames (fun x hx => h x (by simp [exA, hx]))
  have hsel0 : selectMethod e.platform s.vm cell.cls T.fill0 = .method T.fill0 := by
    obtain ⟨c2, r2, m2, q1', q2', q3', q4', -⟩ := Cond.selects_spec (a' (.selects kd Bundle.tFill0 Bundle.tFill0) (by simp [exA]))
    cases Option.some.inj (q1'.symm.trans hfc)
    cases Option.some.inj (q2'.symm.trans (State.methodFound?_of_named Y.fill0 (by decide)))
    cases Option.some.inj (q3'.symm.trans Y.fill0)
    rw [Launch.admits_selectMethod X.admits, q2]; exact q4'
  have hselF : selectMethod e.platform s.vm cell.cls T.fill = .method T.fill := by
    obtain ⟨c2, r2, m2, q1', q2', q3', q4', -⟩ := Cond.selects_spec (a' (.selects kd Bundle.tFill Bundle.tFill) (by simp [exA]))
    cases Option.some.inj (q1'.symm.trans hfc)
    cases Option.some.inj (q2'.symm.trans (State.methodFound?_of_named Y.fill (by decide)))
    cases Option.some.inj (q3'.symm.trans Y.fill)
    rw [Launch.admits_selectMethod X.admits, q2]; exact q4'
  obtain ⟨cellS0, hcS0, hiss⟩ := Y.statics
  obtain ⟨u0, hu0⟩ := Cond.staticRefV Y.unassigned L.unassignedStatic L.statics hcS0 hiss (a' (.isRef (.static Bundle.tN "UNASSIGNED_STACK" Bundle.steD)) (by simp [exA]))
  obtain ⟨sen, hsen⟩ := Cond.staticRefV Y.sentinel L.sentinelStatic L.statics hcS0 hiss (a' (.isRef (.static Bundle.tN "SUPPRESSED_SENTINEL" Bundle.listD)) (by simp [exA]))
  obtain ⟨ci198, i198, fB, hk198, hg198, ha198, hsB, -, hnB, htB, hffB⟩ := Cond.ownField (t := .object "java/lang/Object") Y.found L.cls (by decide +kernel) (a' (.fieldLink Bundle.tN 198 Bundle.tN "backtrace" "Ljava/lang/Object;") (by simp [exA])) (a' (.lays Bundle.tN Bundle.tN "backtrace" "Ljava/lang/Object;") (by simp [exA])) e.platform hpl
  have hXS : ¬ gF G T.aS := by
    obtain ⟨c9, k9, i9, f9, a9, cell9, y1, y2, y3, y4, y5, y6, y7, y8, y9, y10⟩ := hKz.2.1.2
    cases Option.some.inj (y2.symm.trans Y.unassigned)
    cases Option.some.inj (y4.symm.trans L.statics)
    exact y10
  obtain ⟨cellS, hcS', heS, -, hkeep⟩ := X.same.2.2.2.2.2 T.aS cellS0 hcS0
  have hcellS : T1.heap[T.aS]? = some cellS := hcS'
  have hout' : ∀ i, (⟨T.aS, i⟩ : Loc) ∉ locs := fun i hmem => hXS (hS.2.2.2 _ hmem)
  have hknownS : cellS.vm ≠ .unknown := by
    rw [heS]; intro hu
    rw [show cellS0.vm = .unknown from hu] at hiss
    cases hiss
  have hneS : T.aS ≠ a := fun h => hXS (by rw [h]; exact hXa)
  have sl : ∀ (k : Nat) (dn fn fd : String) (fin : Bool) (c9 : ClassId) (k9 : Class) (i9 : Nat) (f9 : Field), k < N → T0 k = (dn, fn, fd, fin) → s.fieldFound? dn fn fd = some (c9, k9, i9, f9) → f9.slot = (gD G).2 ci k := by
    intro k dn fn fd fin c9 k9 i9 f9 hk ht hf
    obtain ⟨cf, kf, fi, f, hi, hsl⟩ := hSl k hk
    simp only [ht] at hi
    cases Option.some.inj (hi.symm.trans hf)
    exact hsl
  have s0 := sl 0 _ _ _ _ _ _ _ _ (by omega) t0 Y.cause
  have s1 := sl 1 _ _ _ _ _ _ _ _ (by omega) t1 Y.stack
  have s2 := sl 2 _ _ _ _ _ _ _ _ (by omega) t2 Y.supp
  have s4 := sl 4 _ _ _ _ _ _ _ _ (by omega) t4 hffB
  have v0 := q6 0 (by omega)
  have hin0 : ∀ k, k < N → (gD G).2 ci k < cell.slots.size := fun k hk => (Array.getElem?_eq_some_iff.mp (q6 k hk)).1
  have takes : ∀ (k : Nat) (f9 : Field) (v : Value), k < N → f9.slot = (gD G).2 ci k → kX.instanceTypes[f9.slot]? = some f9.type → fits f9.type v = true → Takes s cell f9 v := by
    intro k f9 v hk hs hty9 hf9
    refine ⟨by rw [hs]; exact hin0 k hk, ?_⟩
    rw [q2]
    simp [State.fitsSlot, State.slotType?, hkX, hord, hty9, hf9, qv]
  obtain ⟨tyC, dC, hdC, hdnC⟩ := Cond.laysAt hfc hkX Y.cause (a' (.lays kd Bundle.tN "cause" "Ljava/lang/Throwable;") (by simp [exA]))
  obtain ⟨tyS, dS, hdS, hdnS⟩ := Cond.laysAt hfc hkX Y.stack (a' (.lays kd Bundle.tN "stackTrace" Bundle.steD) (by simp [exA]))
  obtain ⟨tyP, dP, hdP, hdnP⟩ := Cond.laysAt hfc hkX Y.supp (a' (.lays kd Bundle.tN "suppressedExceptions" Bundle.listD) (by simp [exA]))
  have ap : ∀ i j, i < N → j < N → i ≠ j → (gD G).2 ci i ≠ (gD G).2 ci j := hap
  have w0 : ∀ j, j < N → (cell.setSlot T.fCause.slot (.ref a)).slots[(gD G).2 ci j]? = some (vp_V (fs.set 0 (.ref a)) j) := fun j hj => by
    rw [s0]
    have h9 := t_set (V := vp_V fs) (fun k hk => q6 k hk) hap (k := 0) (by omega) (.ref a) j hj
    rw [h9]
    exact congrArg some (vp_updV_set (by omega) _ j)
  have w1 : ∀ j, j < N → ((cell.setSlot T.fCause.slot (.ref a)).setSlot T.fStack.slot u0.v).slots[(gD G).2 ci j]? = some (vp_V ((fs.set 0 (.ref a)).set 1 u0.v) j) := fun j hj => by
    rw [s1]
    have h9 := t_set (V := vp_V (fs.set 0 (.ref a))) (fun k hk => w0 k hk) hap (k := 1) (by omega) u0.v j hj
    rw [h9]
    exact congrArg some (vp_updV_set (by rw [List.length_set]; omega) _ j)
  have w2 : ∀ j, j < N → (preparedCellV T.toThrowableT cell a u0 sen).slots[(gD G).2 ci j]? = some (vp_V (((fs.set 0 (.ref a)).set 1 u0.v).set 2 sen.v) j) := fun j hj => by
    show (((cell.setSlot T.fCause.slot (.ref a)).setSlot T.fStack.slot u0.v).setSlot T.fSupp.slot sen.v).slots[_]? = _
    rw [s2]
    have h9 := t_set (V := vp_V ((fs.set 0 (.ref a)).set 1 u0.v)) (fun k hk => w1 k hk) hap (k := 2) (by omega) sen.v j hj
    rw [h9]
    exact congrArg some (vp_updV_set (by rw [List.length_set, List.length_set]; omega) _ j)
  have w3 : ∀ j, j < N → ((preparedCellV T.toThrowableT cell a u0 sen).setSlot T.fStack.slot u0.v).slots[(gD G).2 ci j]? = some (vp_V ((((fs.set 0 (.ref a)).set 1 u0.v).set 2 sen.v).set 1 u0.v) j) := fun j hj => by
    rw [s1]
    have h9 := t_set (V := vp_V (((fs.set 0 (.ref a)).set 1 u0.v).set 2 sen.v)) (fun k hk => w2 k hk) hap (k := 1) (by omega) u0.v j hj
    rw [h9]
    exact congrArg some (vp_updV_set (by rw [List.length_set, List.length_set, List.length_set]; omega) _ j)
  have hback : (preparedCellV T.toThrowableT cell a u0 sen).slots[fB.slot]? = some .null := by
    rw [s4, w2 4 (by omega)]
    have : (((fs.set 0 (.ref a)).set 1 u0.v).set 2 sen.v)[4]? = some Value.null := by simpa using hb4
    simp [vp_V, this]
  have hskip : SkipFacts T e.platform s (fun u => u) u0 ((preparedCellV T.toThrowableT cell a u0 sen).withEntry T1.cur) :=
    ⟨{ ci198 := ci198, i198 := i198, fBack := fB }, ⟨hk198, hg198, ha198, hsB⟩, hback, fun _ _ => rfl⟩
  obtain ⟨tm, methC, cdC, kC, vm₁, hnC, -, -, -, -, -, -, -, hW₁, st1⟩ := Steps.initCold (tb := p.tables) (e := e) (below := below) (s := s) (U := T1) X.here C.1 X.warmed hpl C.2.2.2.1 (t := Bundle.init0 cls) rfl rfl (Bundle.fit_spec hcls).2
    (a' (.methodLink own ic (Bundle.init0 cls)) (by simp [exA])) (h (.instanceMethod (Bundle.init0 cls)) (by cases names <;> simp [exA, Bundle.chain0Atoms, Bundle.passAtoms])) (bytes := Bundle.five) (maxL := 1) (h (.code (Bundle.init0 cls) Bundle.five 1 none) (by cases names <;> simp [exA, Bundle.chain0Atoms, Bundle.passAtoms]))
    (f := F0 m pc ls (.ref a :: rest)) rfl (a := a) (rest := rest) rfl (by rw [C.2.1]; exact hdg)
  cases Option.some.inj (hnC.symm.trans hP1m)
  have X₁ := X.noted hW₁
  obtain ⟨vm₂, X₂, st2⟩ := X₁.ctorPlainOffV C.1 (g := F0 m pc ls rest) rfl (hsz.trans C.2.2.1.symm) T L Z LZ (P1 :: Ps)
    (fun P hP => by rcases List.mem_cons.mp hP with rfl | hP; exact L1; exact hL P hP) ⟨hlink1, hlink⟩ (u0 := u0) (sen := sen) (self := a) (cell := cell) (cellS := cellS)
    (by show T1.heap[a]? = some cell; rw [hT1]; exact q1) (fun k h => by rw [h] at q3s; cases q3s) q3 hfree hcount hsel0 hselF hcellS hneS hknownS (by rw [hkeep _ (hout' _)]; exact hu0) (by rw [hkeep _ (hout' _)]; exact hsen)
    (takes 0 _ _ (by omega) s0 tyC (by rw [Y.causeType]; rfl)) (takes 1 _ _ (by omega) s1 tyS (by rw [Y.stackType]; exact fits_refV_array _ u0)) (takes 2 _ _ (by omega) s2 tyP (by rw [Y.suppType]; exact fits_refV_object _ sen)) Y.objLocals hskip htr [] (by rw [C.2.1]; exact hdg)
    (by simp only [List.length_cons, hlen]; omega) (by have := cs_le (st := rest) (by omega); simp only [List.length_cons, hlen]; show 2 * 0 + (rest.map fun v => v.category).sum + _ ≤ _; omega)
  have hlt : a < H.size := (Array.getElem?_eq_some_iff.mp q1).1
  generalize hcell9 : (preparedCellV T.toThrowableT cell a u0 sen).setSlot T.fStack.slot u0.v = cell9 at X₂ st2 w3
  have c9 : cell9.cls = cell.cls ∧ cell9.vm = cell.vm ∧ cell9.monitor = cell.monitor ∧ cell9.slots.size = cell.slots.size := by
    rw [← hcell9]
    refine ⟨rfl, rfl, rfl, ?_⟩
    simp [preparedCellV, Cell.setSlot]
  have hheap : (((T1.setVm vm₁).setVm vm₂).setCell a cell9).heap = H.setIfInBounds a cell9 := by rw [← hT1]; rfl
  have ea : (H.setIfInBounds a cell9)[a]? = some cell9 := by simp [Array.getElem?_setIfInBounds, hlt]
  have hS' := Sh.putL (L := [⟨a, T.fCause.slot⟩, ⟨a, T.fStack.slot⟩, ⟨a, T.fSupp.slot⟩, ⟨a, T.fStack.slot⟩]) (e0 := .inr (ci, fs)) (e1 := .inr (ci, (((fs.set 0 (.ref a)).set 1 u0.v).set 2 sen.v).set 1 u0.v)) hS hXa q1 ea c9.2.2.2 (by simp) (fun q hq => by simp [Array.getElem?_setIfInBounds, Ne.symm hq])
    ⟨(kd, T0, N), hc, by simp only [List.length_set]; exact g0, cell9, ea, by rw [c9.1]; exact q2, by rw [c9.2.1]; exact q3, by rw [c9.2.1]; exact q3s, fun _ => ⟨by rw [c9.2.1]; exact qv, fun _ => by rw [c9.2.2.1]; exact ⟨hfree, hcount⟩⟩, fun h => absurd h hXa, w3⟩ (fun x hx => by
      simp only [List.mem_cons, List.not_mem_nil, or_false] at hx
      rcases hx with rfl | rfl | rfl | rfl <;> rfl)
  obtain ⟨t, b1, b2⟩ := W_tight (cells := cells) (slots := slots) hS' (kk _ _ _ (hk _ _) hS') _ hheap X₂
  refine ⟨t, st1 _ (fun acts => ?_), b2⟩
  rw [doInvoke_state]
  exact st2 _ b1
end ROWS5
theorem xw_in (ws : List Cond) (ps : List Nat) (hp : ws = ps.filterMap (fun i => lw_tbl[i]?)) (hg : ws.all anyOk = true) : ∀ w ∈ ws, w ∈ lw_tbl ∧ anyOk w = true := by
  intro w h
  have h1 := List.all_eq_true.mp hg w h
  rw [hp] at h
  obtain ⟨i, -, hi⟩ := List.mem_filterMap.mp h
  exact ⟨List.mem_of_getElem? hi, h1⟩
