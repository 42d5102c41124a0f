/-! the rows: arrays, things made, casts, statics, calls, ends -/
set_option maxRecDepth 100000
theorem va_rf_cat (r : Option Nat) : (va_rf r).category = 1 := by cases r <;> rfl
theorem va_rf_ref (r : Option Nat) : (va_rf r).isRef = true := by cases r <;> rfl
theorem fits_rfO (n : String) (r : Option Nat) : fits (.object n) (va_rf r) = true := by cases r <;> rfl
theorem fits_rfA (t : FieldType) (r : Option Nat) : fits (.array t) (va_rf r) = true := by cases r <;> rfl
theorem narrow_rfO (n : String) (r : Option Nat) : narrow (.object n) (va_rf r) = va_rf r := by cases r <;> rfl
theorem narrow_rfA (t : FieldType) (r : Option Nat) : narrow (.array t) (va_rf r) = va_rf r := by cases r <;> rfl
/-- what the listed locals are behind a store -/
def lsOk (l : List (Nat × Value)) (i : Nat) (v : Value) (l' : List (Nat × Value)) : Prop := ∀ q ∈ l', q = (i, v) ∨ (q ∈ l ∧ q.1 ≠ i ∧ (q.1 + 1 = i → q.2.category = 1))
theorem ls_nil {l : List (Nat × Value)} {i : Nat} {v : Value} : lsOk l i v [] := fun _ h => nomatch h
theorem ls_new {l l' : List (Nat × Value)} {i : Nat} {v : Value} (t : lsOk l i v l') : lsOk l i v ((i, v) :: l') := fun q h => (List.mem_cons.mp h).elim (fun e => Or.inl e) (t q)
theorem ls_old {l l' : List (Nat × Value)} {i j : Nat} {v w : Value} (k : Nat) (hk : l[k]? = some (j, w)) (hn : (j == i) = false) (hc : (j + 1 == i) = false ∨ w.category = 1) (t : lsOk l i v l') : lsOk l i v ((j, w) :: l') := fun q h => (List.mem_cons.mp h).elim (fun e => Or.inr (by
  subst e
  refine ⟨List.mem_of_getElem? hk, by simpa using hn, fun z => ?_⟩
  rcases hc with hc | hc
  · have z' : j + 1 = i := z
    rw [z'] at hc
    simp at hc
  · exact hc)) (t q)
theorem ls_get {ls : Array Slot} {l l' : List (Nat × Value)} {i nL : Nat} {v : Value} (h : lv_has ls nL l) (hi : i < nL) (hc : v.category = 1) (hl : lsOk l i v l') : ∃ ls', storeLocals ls i v = some ls' ∧ lv_has ls' nL l' := by
  obtain ⟨ls', e, h1, h2, h3⟩ := lv_store1 h hi hc
  refine ⟨ls', e, h1, h2, fun q hq => ?_⟩
  rcases hl q hq with rfl | ⟨g1, g2, g3⟩
  · exact h3 _ List.mem_cons_self
  · refine h3 q (List.mem_cons_of_mem _ (List.mem_filter.mpr ⟨g1, ?_⟩))
    by_cases z : q.1 + 1 = i
    · have := g3 z
      simp [g2, this]
    · simp [g2, z]
/-- the same for what takes two places -/
def lsOk2 (l : List (Nat × Value)) (i : Nat) (v : Value) (l' : List (Nat × Value)) : Prop := ∀ q ∈ l', q = (i, v) ∨ (q ∈ l ∧ q.1 ≠ i ∧ q.1 ≠ i + 1 ∧ (q.1 + 1 = i → q.2.category = 1))
theorem ls_nil2 {l : List (Nat × Value)} {i : Nat} {v : Value} : lsOk2 l i v [] := fun _ h => nomatch h
theorem ls_new2 {l l' : List (Nat × Value)} {i : Nat} {v : Value} (t : lsOk2 l i v l') : lsOk2 l i v ((i, v) :: l') := fun q h => (List.mem_cons.mp h).elim (fun e => Or.inl e) (t q)
theorem ls_old2 {l l' : List (Nat × Value)} {i j : Nat} {v w : Value} (k : Nat) (hk : l[k]? = some (j, w)) (hn : (j == i) = false) (hn2 : (j == i + 1) = false) (hc : (j + 1 == i) = false ∨ w.category = 1) (t : lsOk2 l i v l') : lsOk2 l i v ((j, w) :: l') := fun q h => (List.mem_cons.mp h).elim (fun e => Or.inr (by
  subst e
  refine ⟨List.mem_of_getElem? hk, by simpa using hn, by simpa using hn2, fun z => ?_⟩
  rcases hc with hc | hc
  · have z' : j + 1 = i := z
    rw [z'] at hc
    simp at hc
  · exact hc)) (t q)
theorem ls_get2 {ls : Array Slot} {l l' : List (Nat × Value)} {i nL : Nat} {v : Value} (h : lv_has ls nL l) (hi : i + 1 < nL) (hc : v.category = 2) (hl : lsOk2 l i v l') : ∃ ls', storeLocals ls i v = some ls' ∧ lv_has ls' nL l' := by
  obtain ⟨ls', e, h1, h2, h3⟩ := lv_store2 h hi hc
  refine ⟨ls', e, h1, h2, fun q hq => ?_⟩
  rcases hl q hq with rfl | ⟨g1, g2, g2b, g3⟩
  · exact h3 _ List.mem_cons_self
  · refine h3 q (List.mem_cons_of_mem _ (List.mem_filter.mpr ⟨g1, ?_⟩))
    by_cases z : q.1 + 1 = i
    · have := g3 z
      simp [g2, g2b, this]
    · simp [g2, g2b, z]
section ROWS
variable {p : Program} {l : Launch} {e : Env} {R : Room} {s : State} {m : MethodId} {args : Array Value} {below : List Frame} {meth : Method} {c : Code} {H : Heap} {locs : List Loc} {cells slots : Nat} {Q : State → Prop} {g : JFrame}
variable {G : gE} {σ : hSt} {cc : ByteArray} {nL : Nat} {own : String} {pc : Nat} {ls : Array Slot} {rest : List Value}
-- ===== locals that are references, stores =====
theorem r_aload_n {k : Fin 4} {i : Nat} {r : Option Nat} (hx : p.tables.exec = Jvm.exec) (hb : c.code = cc) (hdg : decode cc pc = .ok (.aload_n k, 1)) (hi : (k : Nat) = i) (hl : ls[i]? = some (.val (va_rf r)))
    (kk : W p l e R s m args below meth c H locs cells slots Q (F0 m (pc + 1) ls (va_rf r :: rest))) : W p l e R s m args below meth c H locs cells slots Q (F0 m pc ls rest) := by
  cases r with
  | none => exact lv_aload_nN hx hb hdg hi hl kk
  | some x => exact lv_aload_n hx hb hdg hi hl kk
theorem r_aload {i : Nat} {r : Option Nat} (hx : p.tables.exec = Jvm.exec) (hb : c.code = cc) (hdg : decode cc pc = .ok (.aload i, 2)) (hl : ls[i]? = some (.val (va_rf r)))
    (kk : W p l e R s m args below meth c H locs cells slots Q (F0 m (pc + 2) ls (va_rf r :: rest))) : W p l e R s m args below meth c H locs cells slots Q (F0 m pc ls rest) := by
  cases r with
  | none => exact lv_aloadN hx hb hdg hl kk
  | some x => exact lv_aload hx hb hdg hl kk
theorem r_astore_n {k : Fin 4} {i : Nat} {r : Option Nat} {lv lv' : List (Nat × Value)} (hx : p.tables.exec = Jvm.exec) (hb : c.code = cc) (hdg : decode cc pc = .ok (.astore_n k, 1)) (hi : (k : Nat) = i) (h : lv_has ls nL lv) (hn : i < nL) (hl : lsOk lv i (va_rf r) lv')
    (kk : ∀ ls' : Array Slot, lv_has ls' nL lv' → W p l e R s m args below meth c H locs cells slots Q (F0 m (pc + 1) ls' rest)) : W p l e R s m args below meth c H locs cells slots Q (F0 m pc ls (va_rf r :: rest)) := by
  subst hi
  obtain ⟨ls', e', h'⟩ := ls_get h hn (va_rf_cat r) hl
  intro T hT X
  obtain ⟨t, a, b⟩ := kk ls' h' T hT X
  refine ⟨t, ?_, b⟩
  cases r <;> (simp only [va_rf] at e'; jvm_step X.here [X.here.top, ↓top_set X.here.top, hx, hb, hdg, va_rf, e', Value.isRef]; first | exact a | exact ⟨_, rfl, a⟩ | exact ⟨_, e', a⟩)
theorem r_astore {i : Nat} {r : Option Nat} {lv lv' : List (Nat × Value)} (hx : p.tables.exec = Jvm.exec) (hb : c.code = cc) (hdg : decode cc pc = .ok (.astore i, 2)) (h : lv_has ls nL lv) (hn : i < nL) (hl : lsOk lv i (va_rf r) lv')
    (kk : ∀ ls' : Array Slot, lv_has ls' nL lv' → W p l e R s m args below meth c H locs cells slots Q (F0 m (pc + 2) ls' rest)) : W p l e R s m args below meth c H locs cells slots Q (F0 m pc ls (va_rf r :: rest)) := by
  obtain ⟨ls', e', h'⟩ := ls_get h hn (va_rf_cat r) hl
  intro T hT X
  obtain ⟨t, a, b⟩ := kk ls' h' T hT X
  refine ⟨t, ?_, b⟩
  cases r <;> (simp only [va_rf] at e'; jvm_step X.here [X.here.top, ↓top_set X.here.top, hx, hb, hdg, va_rf, e', Value.isRef]; first | exact a | exact ⟨_, rfl, a⟩ | exact ⟨_, e', a⟩)
theorem r_istore_n {k : Fin 4} {i : Nat} {x : Int32} {lv lv' : List (Nat × Value)} (hx : p.tables.exec = Jvm.exec) (hb : c.code = cc) (hdg : decode cc pc = .ok (.istore_n k, 1)) (hi : (k : Nat) = i) (h : lv_has ls nL lv) (hn : i < nL) (hl : lsOk lv i (.int x) lv')
    (kk : ∀ ls' : Array Slot, lv_has ls' nL lv' → W p l e R s m args below meth c H locs cells slots Q (F0 m (pc + 1) ls' rest)) : W p l e R s m args below meth c H locs cells slots Q (F0 m pc ls (.int x :: rest)) := by
  subst hi
  obtain ⟨ls', e', h'⟩ := ls_get h hn rfl hl
  intro T hT X
  obtain ⟨t, a, b⟩ := kk ls' h' T hT X
  refine ⟨t, ?_, b⟩
  jvm_step X.here [X.here.top, ↓top_set X.here.top, hx, hb, hdg, e']
  exact a
theorem r_istore {i : Nat} {x : Int32} {lv lv' : List (Nat × Value)} (hx : p.tables.exec = Jvm.exec) (hb : c.code = cc) (hdg : decode cc pc = .ok (.istore i, 2)) (h : lv_has ls nL lv) (hn : i < nL) (hl : lsOk lv i (.int x) lv')
    (kk : ∀ ls' : Array Slot, lv_has ls' nL lv' → W p l e R s m args below meth c H locs cells slots Q (F0 m (pc + 2) ls' rest)) : W p l e R s m args below meth c H locs cells slots Q (F0 m pc ls (.int x :: rest)) := by
  obtain ⟨ls', e', h'⟩ := ls_get h hn rfl hl
  intro T hT X
  obtain ⟨t, a, b⟩ := kk ls' h' T hT X
  refine ⟨t, ?_, b⟩
  jvm_step X.here [X.here.top, ↓top_set X.here.top, hx, hb, hdg, e']
  exact a
theorem r_fstore {i : Nat} {x : UInt32} {lv lv' : List (Nat × Value)} (hx : p.tables.exec = Jvm.exec) (hb : c.code = cc) (hdg : decode cc pc = .ok (.fstore i, 2)) (h : lv_has ls nL lv) (hn : i < nL) (hl : lsOk lv i (.float x) lv')
    (kk : ∀ ls' : Array Slot, lv_has ls' nL lv' → W p l e R s m args below meth c H locs cells slots Q (F0 m (pc + 2) ls' rest)) : W p l e R s m args below meth c H locs cells slots Q (F0 m pc ls (.float x :: rest)) := by
  obtain ⟨ls', e', h'⟩ := ls_get h hn rfl hl
  intro T hT X
  obtain ⟨t, a, b⟩ := kk ls' h' T hT X
  refine ⟨t, ?_, b⟩
  jvm_step X.here [X.here.top, ↓top_set X.here.top, hx, hb, hdg, e']
  exact a
theorem r_dstore {i : Nat} {x : UInt64} {lv lv' : List (Nat × Value)} (hx : p.tables.exec = Jvm.exec) (hb : c.code = cc) (hdg : decode cc pc = .ok (.dstore i, 2)) (h : lv_has ls nL lv) (hn : i + 1 < nL) (hl : lsOk2 lv i (.double x) lv')
    (kk : ∀ ls' : Array Slot, lv_has ls' nL lv' → W p l e R s m args below meth c H locs cells slots Q (F0 m (pc + 2) ls' rest)) : W p l e R s m args below meth c H locs cells slots Q (F0 m pc ls (.double x :: rest)) := by
  obtain ⟨ls', e', h'⟩ := ls_get2 h hn rfl hl
  intro T hT X
  obtain ⟨t, a, b⟩ := kk ls' h' T hT X
  refine ⟨t, ?_, b⟩
  jvm_step X.here [X.here.top, ↓top_set X.here.top, hx, hb, hdg, e']
  exact a
theorem r_lstore {i : Nat} {x : Int64} {lv lv' : List (Nat × Value)} (hx : p.tables.exec = Jvm.exec) (hb : c.code = cc) (hdg : decode cc pc = .ok (.lstore i, 2)) (h : lv_has ls nL lv) (hn : i + 1 < nL) (hl : lsOk2 lv i (.long x) lv')
    (kk : ∀ ls' : Array Slot, lv_has ls' nL lv' → W p l e R s m args below meth c H locs cells slots Q (F0 m (pc + 2) ls' rest)) : W p l e R s m args below meth c H locs cells slots Q (F0 m pc ls (.long x :: rest)) := by
  obtain ⟨ls', e', h'⟩ := ls_get2 h hn rfl hl
  intro T hT X
  obtain ⟨t, a, b⟩ := kk ls' h' T hT X
  refine ⟨t, ?_, b⟩
  jvm_step X.here [X.here.top, ↓top_set X.here.top, hx, hb, hdg, e']
  exact a
theorem r_iinc {i k : Nat} {n : Int} {x v : Int32} {lv lv' : List (Nat × Value)} (hx : p.tables.exec = Jvm.exec) (hb : c.code = cc) (hdg : decode cc pc = .ok (.iinc i n, 3)) (h : lv_has ls nL lv) (hk : lv[k]? = some (i, .int x)) (hv : Int32.ofInt n = v) (hn : i < nL) (hl : lsOk lv i (.int (x + v)) lv')
    (kk : ∀ ls' : Array Slot, lv_has ls' nL lv' → W p l e R s m args below meth c H locs cells slots Q (F0 m (pc + 3) ls' rest)) : W p l e R s m args below meth c H locs cells slots Q (F0 m pc ls rest) := by
  subst hv
  have hg := lv_at h k hk
  obtain ⟨ls', e', h'⟩ := ls_get (v := .int (x + Int32.ofInt n)) h hn rfl hl
  intro T hT X
  obtain ⟨t, a, b⟩ := kk ls' h' T hT X
  refine ⟨t, ?_, b⟩
  jvm_step X.here [X.here.top, ↓top_set X.here.top, hx, hb, hdg, hg, e']
  exact a
theorem r_ifnull {r : Option Nat} {off : Int} {tgt : Nat} (hx : p.tables.exec = Jvm.exec) (hb : c.code = cc) (hdg : decode cc pc = .ok (.ifnull off, 3)) (ht : (pc : Int) + off = (tgt : Int))
    (kt : r = none → W p l e R s m args below meth c H locs cells slots Q (F0 m tgt ls rest)) (kf : ¬ r = none → W p l e R s m args below meth c H locs cells slots Q (F0 m (pc + 3) ls rest)) : W p l e R s m args below meth c H locs cells slots Q (F0 m pc ls (va_rf r :: rest)) := by
  cases r with
  | none => exact lv_ifnullN hx hb hdg ht (kt rfl)
  | some x => exact lv_ifnull hx hb hdg (kf (fun h => nomatch h))
theorem r_ifnonnull {r : Option Nat} {off : Int} {tgt : Nat} (hx : p.tables.exec = Jvm.exec) (hb : c.code = cc) (hdg : decode cc pc = .ok (.ifnonnull off, 3)) (ht : (pc : Int) + off = (tgt : Int))
    (kt : ¬ r = none → W p l e R s m args below meth c H locs cells slots Q (F0 m tgt ls rest)) (kf : r = none → W p l e R s m args below meth c H locs cells slots Q (F0 m (pc + 3) ls rest)) : W p l e R s m args below meth c H locs cells slots Q (F0 m pc ls (va_rf r :: rest)) := by
  cases r with
  | none => exact lv_ifnonnullN hx hb hdg (kf rfl)
  | some x => exact lv_ifnonnull hx hb hdg ht (kt (fun h => nomatch h))
-- ===== arrays =====
theorem vpc_size (cA : ClassId) (x : vp_A) : (vp_cell cA x).slots.size = x.1 := by
  obtain ⟨n, f | f | f | f | f⟩ := x
  · rw [vp_cell_i, arrV_size]
  · rw [vp_cell_l, arrV_size]
  · rw [vp_cell_f, arrV_size]
  · rw [vp_cell_d, arrV_size]
  · rw [vp_cell_q, arrV_size]
theorem r_iald {r : Option Nat} {i : Int32} {K : Int32 → Prop} (C : xC G p l s m args meth c cc nL own) (hS : Sh G σ s H locs) (hdg : decode cc pc = .ok (.iaload, 1)) (hw : alI σ r 0 i K)
    (kk : ∀ x, K x → W p l e R s m args below meth c H locs cells slots Q (F0 m (pc + 1) ls (.int x :: rest))) : W p l e R s m args below meth c H locs cells slots Q (F0 m pc ls (.int i :: va_rf r :: rest)) := by
  obtain ⟨a, n, f, rfl, h1, h2, h3⟩ := hw
  obtain ⟨ty, g1, cell, g2, g3, g4, g5, g6, g7, g8⟩ := hS.1.1 a _ h1
  cases g1
  have hlt : i.toNatClampNeg < n := Nat.not_le.mp fun q => h2 (Or.inr q)
  exact W.iald C.1 C.2.1 g2 g3 g4 (by rw [g7, vpc_size]; exact h2) (v := .int (f i.toNatClampNeg)) (by rw [g7, vp_cell_i, arrV_read _ _ hlt]) rfl rfl hdg (kk _ h3)
theorem r_bald {r : Option Nat} {i : Int32} {K : Int32 → Prop} (C : xC G p l s m args meth c cc nL own) (hS : Sh G σ s H locs) (hdg : decode cc pc = .ok (.baload, 1)) (hw : alI σ r 2 i K)
    (kk : ∀ x, K x → W p l e R s m args below meth c H locs cells slots Q (F0 m (pc + 1) ls (.int x :: rest))) : W p l e R s m args below meth c H locs cells slots Q (F0 m pc ls (.int i :: va_rf r :: rest)) := by
  obtain ⟨a, n, f, rfl, h1, h2, h3⟩ := hw
  obtain ⟨ty, g1, cell, g2, g3, g4, g5, g6, g7, g8⟩ := hS.1.1 a _ h1
  cases g1
  have hlt : i.toNatClampNeg < n := Nat.not_le.mp fun q => h2 (Or.inr q)
  exact W.bald C.1 C.2.1 g2 g3 g4 (by rw [g7, vpc_size]; exact h2) (v := .int (f i.toNatClampNeg)) (by rw [g7, vp_cell_i, arrV_read _ _ hlt]) rfl rfl hdg (kk _ h3)
theorem r_cald {r : Option Nat} {i : Int32} {K : Int32 → Prop} (C : xC G p l s m args meth c cc nL own) (hS : Sh G σ s H locs) (hdg : decode cc pc = .ok (.caload, 1)) (hw : alI σ r 3 i K)
    (kk : ∀ x, K x → W p l e R s m args below meth c H locs cells slots Q (F0 m (pc + 1) ls (.int x :: rest))) : W p l e R s m args below meth c H locs cells slots Q (F0 m pc ls (.int i :: va_rf r :: rest)) := by
  obtain ⟨a, n, f, rfl, h1, h2, h3⟩ := hw
  obtain ⟨ty, g1, cell, g2, g3, g4, g5, g6, g7, g8⟩ := hS.1.1 a _ h1
  cases g1
  have hlt : i.toNatClampNeg < n := Nat.not_le.mp fun q => h2 (Or.inr q)
  exact W.cald C.1 C.2.1 g2 g3 g4 (by rw [g7, vpc_size]; exact h2) (v := .int (f i.toNatClampNeg)) (by rw [g7, vp_cell_i, arrV_read _ _ hlt]) rfl rfl hdg (kk _ h3)
theorem r_lald {r : Option Nat} {i : Int32} {K : Int64 → Prop} (C : xC G p l s m args meth c cc nL own) (hS : Sh G σ s H locs) (hdg : decode cc pc = .ok (.laload, 1)) (hw : alL σ r i K)
    (kk : ∀ x, K x → W p l e R s m args below meth c H locs cells slots Q (F0 m (pc + 1) ls (.long x :: rest))) : W p l e R s m args below meth c H locs cells slots Q (F0 m pc ls (.int i :: va_rf r :: rest)) := by
  obtain ⟨a, n, f, rfl, h1, h2, h3⟩ := hw
  obtain ⟨ty, g1, cell, g2, g3, g4, g5, g6, g7, g8⟩ := hS.1.1 a _ h1
  cases g1
  have hlt : i.toNatClampNeg < n := Nat.not_le.mp fun q => h2 (Or.inr q)
  exact W.lald C.1 C.2.1 g2 g3 g4 (by rw [g7, vpc_size]; exact h2) (v := .long (f i.toNatClampNeg)) (by rw [g7, vp_cell_l, arrV_read _ _ hlt]) rfl rfl hdg (kk _ h3)
theorem r_dald {r : Option Nat} {i : Int32} {K : UInt64 → Prop} (C : xC G p l s m args meth c cc nL own) (hS : Sh G σ s H locs) (hdg : decode cc pc = .ok (.daload, 1)) (hw : alD σ r i K)
    (kk : ∀ x, K x → W p l e R s m args below meth c H locs cells slots Q (F0 m (pc + 1) ls (.double x :: rest))) : W p l e R s m args below meth c H locs cells slots Q (F0 m pc ls (.int i :: va_rf r :: rest)) := by
  obtain ⟨a, n, f, rfl, h1, h2, h3⟩ := hw
  obtain ⟨ty, g1, cell, g2, g3, g4, g5, g6, g7, g8⟩ := hS.1.1 a _ h1
  cases g1
  have hlt : i.toNatClampNeg < n := Nat.not_le.mp fun q => h2 (Or.inr q)
  exact W.dald C.1 C.2.1 g2 g3 g4 (by rw [g7, vpc_size]; exact h2) (v := .double (f i.toNatClampNeg)) (by rw [g7, vp_cell_d, arrV_read _ _ hlt]) rfl rfl hdg (kk _ h3)
theorem r_aald {r : Option Nat} {L : List Nat} {i : Int32} {K : Option Nat → Prop} (C : xC G p l s m args meth c cc nL own) (hS : Sh G σ s H locs) (hL : ∀ ti ∈ L, ∀ ty, gTY[ti]? = some ty → ty.isReference = true) (hdg : decode cc pc = .ok (.aaload, 1)) (hw : alR σ r L i K)
    (kk : ∀ x, K x → W p l e R s m args below meth c H locs cells slots Q (F0 m (pc + 1) ls (va_rf x :: rest))) : W p l e R s m args below meth c H locs cells slots Q (F0 m pc ls (.int i :: va_rf r :: rest)) := by
  obtain ⟨a, ti, n, f, rfl, h1, h0, h2, h3⟩ := hw
  obtain ⟨ty, g1, cell, g2, g3, g4, g5, g6, g7, g8⟩ := hS.1.1 a _ h1
  have hlt : i.toNatClampNeg < n := Nat.not_le.mp fun q => h2 (Or.inr q)
  exact W.aald C.1 C.2.1 g2 g3 (hL ti h0 ty g1) g4 (by rw [g7, vpc_size]; exact h2) (v := va_rf (f i.toNatClampNeg)) (by rw [g7, vp_cell_q, arrV_read _ _ hlt]) rfl rfl hdg (kk _ h3)
theorem r_alen {r : Option Nat} {K : Int32 → Prop} (C : xC G p l s m args meth c cc nL own) (hS : Sh G σ s H locs) (hdg : decode cc pc = .ok (.arraylength, 1)) (hw : aln σ r K)
    (kk : ∀ x, K x → W p l e R s m args below meth c H locs cells slots Q (F0 m (pc + 1) ls (.int x :: rest))) : W p l e R s m args below meth c H locs cells slots Q (F0 m pc ls (va_rf r :: rest)) := by
  obtain ⟨a, ti, n, x, rfl, h1, h3⟩ := hw
  obtain ⟨ty, g1, cell, g2, g3, g4, g5, g6, g7, g8⟩ := hS.1.1 a _ h1
  exact W.alen (n := Int32.ofNat n) C.1 C.2.1 g2 g3 (by rw [g7, vpc_size] <;> rfl) rfl rfl hdg (kk _ h3)
/-- an array's new contents -/
theorem put_arr {a ti n i : Nat} {x0 x1 : (Nat → Int32) ⊕ (Nat → Int64) ⊕ (Nat → UInt32) ⊕ (Nat → UInt64) ⊕ (Nat → Option Nat)} {ty : FieldType} {cell : Cell} {v : Value} {H1 : Heap} (hS : Sh G σ s H locs) (ha : gF G a) (g1 : gTY[ti]? = some ty) (g2 : H[a]? = some cell) (g3 : s.isArrayOf cell ty) (g8 : cell = vp_cell (gT G ti) (n, x0)) (hA : s.isArrayOf (vp_cell (gT G ti) (n, x1)) ty) (hv : (vp_cell (gT G ti) (n, x0)).setSlot i v = vp_cell (gT G ti) (n, x1)) (e1 : H1[a]? = some (cell.setSlot i v)) (e2 : H1.size = H.size) (e3 : ∀ q, q ≠ a → H1[q]? = H[q]?) : Sh G (hset σ a (.inl (ti, n, x1))) s H1 (locs ++ [⟨a, i⟩]) := by
  subst g8
  rw [hv] at e1
  refine hS.put (e0 := .inl (ti, n, x0)) ha g2 e1 (by rw [vpc_size, vpc_size]) e2 e3 ⟨ty, g1, _, e1, hA, ?_, ?_, ?_, rfl, fun _ => rfl⟩
  · obtain f | f | f | f | f := x1 <;> exact fun h => nomatch h
  · obtain f | f | f | f | f := x1 <;> rfl
  · obtain f | f | f | f | f := x1 <;> exact fun _ => rfl
theorem arrOk (hKn : gKn G s) {ti : Nat} {ty : FieldType} (h9 : ti < 9) (g1 : gTY[ti]? = some ty) (x : vp_A) : s.isArrayOf (vp_cell (gT G ti) x) ty := by
  have h1 : (gTys G)[ti]? = some (gT G ti, ty) := by
    unfold gTys
    rw [List.getElem?_map, List.getElem?_range h9]
    simp [List.getD, g1]
  obtain ⟨n, f | f | f | f | f⟩ := x
  · exact (hKn.1.2 ti _ h1).1 n (fun j => .int (f j))
  · exact (hKn.1.2 ti _ h1).1 n (fun j => .long (f j))
  · exact (hKn.1.2 ti _ h1).1 n (fun j => .float (f j))
  · exact (hKn.1.2 ti _ h1).1 n (fun j => .double (f j))
  · exact (hKn.1.2 ti _ h1).1 n (fun j => va_rf (f j))
theorem r_iast {r : Option Nat} {i x : Int32} {K : hSt → Prop} (C : xC G p l s m args meth c cc nL own) (hS : Sh G σ s H locs) (hdg : decode cc pc = .ok (.iastore, 1)) (hw : asI G σ r 0 .int i x K)
    (kk : ∀ σ' H1 locs1, K σ' → Sh G σ' s H1 locs1 → W p l e R s m args below meth c H1 locs1 (σ'.2.1 - s.heap.size) (σ'.2.2 - hsum s.heap) Q (F0 m (pc + 1) ls rest)) : W p l e R s m args below meth c H locs cells slots Q (F0 m pc ls (.int x :: .int i :: va_rf r :: rest)) := by
  obtain ⟨a, n, f, rfl, h1, hX, h2, h3⟩ := hw
  obtain ⟨ty, g1, cell, g2, g3, g4, g5, g6, g7, g8⟩ := hS.1.1 a _ h1
  cases g1
  refine W_tight hS (W.iast C.1 C.2.1 g2 g3 g4 (by rw [g7, vpc_size]; exact h2) rfl rfl hdg fun H' e1 e2 e3 => ?_)
  have hS' := put_arr (i := i.toNatClampNeg) (x1 := .inl (upd f i.toNatClampNeg (vp_nar .int x))) hS hX (ty := .int) rfl g2 g3 (g8 hX) (arrOk C.2.2.2.2.2.2.2.1 (by decide) rfl _) (by
    rw [vp_cell_i, vp_cell_i, arrV_store]
    congr 1
    funext q
    by_cases hq : q = i.toNatClampNeg
    · subst hq; simp [updV, upd, vp_nar, narrow]
    · simp [updV, upd, hq]) e1 e2 e3
  exact W_tight hS' (kk _ _ _ h3 hS')
theorem r_bast {r : Option Nat} {i x : Int32} {K : hSt → Prop} (C : xC G p l s m args meth c cc nL own) (hS : Sh G σ s H locs) (hdg : decode cc pc = .ok (.bastore, 1)) (hw : asI G σ r 2 .byte i x K)
    (kk : ∀ σ' H1 locs1, K σ' → Sh G σ' s H1 locs1 → W p l e R s m args below meth c H1 locs1 (σ'.2.1 - s.heap.size) (σ'.2.2 - hsum s.heap) Q (F0 m (pc + 1) ls rest)) : W p l e R s m args below meth c H locs cells slots Q (F0 m pc ls (.int x :: .int i :: va_rf r :: rest)) := by
  obtain ⟨a, n, f, rfl, h1, hX, h2, h3⟩ := hw
  obtain ⟨ty, g1, cell, g2, g3, g4, g5, g6, g7, g8⟩ := hS.1.1 a _ h1
  cases g1
  refine W_tight hS (W.bast C.1 C.2.1 g2 g3 g4 (by rw [g7, vpc_size]; exact h2) rfl rfl hdg fun H' e1 e2 e3 => ?_)
  have hS' := put_arr (i := i.toNatClampNeg) (x1 := .inl (upd f i.toNatClampNeg (vp_nar .byte x))) hS hX (ty := .byte) rfl g2 g3 (g8 hX) (arrOk C.2.2.2.2.2.2.2.1 (by decide) rfl _) (by
    rw [vp_cell_i, vp_cell_i, arrV_store]
    congr 1
    funext q
    by_cases hq : q = i.toNatClampNeg
    · subst hq; simp [updV, upd, vp_nar, narrow]
    · simp [updV, upd, hq]) e1 e2 e3
  exact W_tight hS' (kk _ _ _ h3 hS')
theorem r_cast {r : Option Nat} {i x : Int32} {K : hSt → Prop} (C : xC G p l s m args meth c cc nL own) (hS : Sh G σ s H locs) (hdg : decode cc pc = .ok (.castore, 1)) (hw : asI G σ r 3 .char i x K)
    (kk : ∀ σ' H1 locs1, K σ' → Sh G σ' s H1 locs1 → W p l e R s m args below meth c H1 locs1 (σ'.2.1 - s.heap.size) (σ'.2.2 - hsum s.heap) Q (F0 m (pc + 1) ls rest)) : W p l e R s m args below meth c H locs cells slots Q (F0 m pc ls (.int x :: .int i :: va_rf r :: rest)) := by
  obtain ⟨a, n, f, rfl, h1, hX, h2, h3⟩ := hw
  obtain ⟨ty, g1, cell, g2, g3, g4, g5, g6, g7, g8⟩ := hS.1.1 a _ h1
  cases g1
  refine W_tight hS (W.cast C.1 C.2.1 g2 g3 g4 (by rw [g7, vpc_size]; exact h2) rfl rfl hdg fun H' e1 e2 e3 => ?_)
  have hS' := put_arr (i := i.toNatClampNeg) (x1 := .inl (upd f i.toNatClampNeg (vp_nar .char x))) hS hX (ty := .char) rfl g2 g3 (g8 hX) (arrOk C.2.2.2.2.2.2.2.1 (by decide) rfl _) (by
    rw [vp_cell_i, vp_cell_i, arrV_store]
    congr 1
    funext q
    by_cases hq : q = i.toNatClampNeg
    · subst hq; simp [updV, upd, vp_nar, narrow]
    · simp [updV, upd, hq]) e1 e2 e3
  exact W_tight hS' (kk _ _ _ h3 hS')
theorem r_last {r : Option Nat} {i : Int32} {x : Int64} {K : hSt → Prop} (C : xC G p l s m args meth c cc nL own) (hS : Sh G σ s H locs) (hdg : decode cc pc = .ok (.lastore, 1)) (hw : asL G σ r i x K)
    (kk : ∀ σ' H1 locs1, K σ' → Sh G σ' s H1 locs1 → W p l e R s m args below meth c H1 locs1 (σ'.2.1 - s.heap.size) (σ'.2.2 - hsum s.heap) Q (F0 m (pc + 1) ls rest)) : W p l e R s m args below meth c H locs cells slots Q (F0 m pc ls (.long x :: .int i :: va_rf r :: rest)) := by
  obtain ⟨a, n, f, rfl, h1, hX, h2, h3⟩ := hw
  obtain ⟨ty, g1, cell, g2, g3, g4, g5, g6, g7, g8⟩ := hS.1.1 a _ h1
  cases g1
  refine W_tight hS (W.last C.1 C.2.1 g2 g3 g4 (by rw [g7, vpc_size]; exact h2) rfl rfl hdg fun H' e1 e2 e3 => ?_)
  have hS' := put_arr (i := i.toNatClampNeg) (x1 := .inr (.inl (vp_updL f i.toNatClampNeg x))) hS hX (ty := .long) rfl g2 g3 (g8 hX) (arrOk C.2.2.2.2.2.2.2.1 (by decide) rfl _) (by
    rw [vp_cell_l, vp_cell_l, arrV_store]
    congr 1
    funext q
    by_cases hq : q = i.toNatClampNeg
    · subst hq; simp [updV, vp_updL]
    · simp [updV, vp_updL, hq]) e1 e2 e3
  exact W_tight hS' (kk _ _ _ h3 hS')
theorem r_dast {r : Option Nat} {i : Int32} {x : UInt64} {K : hSt → Prop} (C : xC G p l s m args meth c cc nL own) (hS : Sh G σ s H locs) (hdg : decode cc pc = .ok (.dastore, 1)) (hw : asD G σ r i x K)
    (kk : ∀ σ' H1 locs1, K σ' → Sh G σ' s H1 locs1 → W p l e R s m args below meth c H1 locs1 (σ'.2.1 - s.heap.size) (σ'.2.2 - hsum s.heap) Q (F0 m (pc + 1) ls rest)) : W p l e R s m args below meth c H locs cells slots Q (F0 m pc ls (.double x :: .int i :: va_rf r :: rest)) := by
  obtain ⟨a, n, f, rfl, h1, hX, h2, h3⟩ := hw
  obtain ⟨ty, g1, cell, g2, g3, g4, g5, g6, g7, g8⟩ := hS.1.1 a _ h1
  cases g1
  refine W_tight hS (W.dast C.1 C.2.1 g2 g3 g4 (by rw [g7, vpc_size]; exact h2) rfl rfl hdg fun H' e1 e2 e3 => ?_)
  have hS' := put_arr (i := i.toNatClampNeg) (x1 := .inr (.inr (.inr (.inl (vf_upd f i.toNatClampNeg x))))) hS hX (ty := .double) rfl g2 g3 (g8 hX) (arrOk C.2.2.2.2.2.2.2.1 (by decide) rfl _) (by
    rw [vp_cell_d, vp_cell_d, arrV_store]
    congr 1
    funext q
    by_cases hq : q = i.toNatClampNeg
    · subst hq; simp [updV, vf_upd]
    · simp [updV, vf_upd, hq]) e1 e2 e3
  exact W_tight hS' (kk _ _ _ h3 hS')
end ROWS
