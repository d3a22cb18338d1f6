/-! a whole 'new E()' of an exception (follows kit/laws EXCEPTIONS, vx_make0; beside it the heap's size is told) -/
def am_cdb : Cond → Bool
  | .castable _ _ => true
  | .declares _ => true
  | _ => false
theorem am_cdb_at {Y : am_Y} {X : am_X} {y : MethodName} {cc : ByteArray} (hA : am_A Y X y cc) {w : Cond} (h : am_cdb w = true) (hw : w ∈ lw_tbl) : w.before X.args X.s = true := by
  obtain ⟨a0, h0⟩ := hA.2.2.2.2.2.2.2.2.1
  cases w <;> first | (cases h; done) | skip
  · exact va_Nw.use rfl (va_Nw.warmD hA.2.2.2.2.1 (va_Nw.of rfl (h0 _ hw)))
  · exact va_Nw.use rfl (va_Nw.warmC hA.2.2.2.2.1 (va_Nw.of rfl (h0 _ hw)))
def am_XK (own : String) (ik ic : Nat) (cls : String) (names : List String) : Prop := Bundle.fit cls = true ∧ (∀ n ∈ names, Bundle.fit n = true) ∧ names.length ≤ 4 ∧ Cond.classLink own ik cls ∈ lw_all ∧ Cond.initialized cls ∈ lw_all ∧
  (∀ w ∈ vx_at0 own ic cls names, w ∈ lw_all ∨ (am_cdb w = true ∧ w ∈ lw_tbl)) ∧ ∀ w ∈ Cond.classLink own ik cls :: Cond.initialized cls :: vx_at0 own ic cls names, vx_ot w = true
/-- the two statics of Throwable that its constructor reads -/
def am_ZT (Y : am_Y) : Prop := vx_Zq Bundle.tN "UNASSIGNED_STACK" Bundle.steD (fun q => Y.base ≤ q) Y.s0 Y.s0.heap ∧ vx_Zq Bundle.tN "SUPPRESSED_SENTINEL" Bundle.listD (fun q => Y.base ≤ q) Y.s0 Y.s0.heap
section AMK
variable {Y : am_Y} {X : am_X} {y : MethodName} {cc : ByteArray} {pc n : Nat} {ls st : List Value} {H : am_H} {pc' : Nat} {ls' st' : List Value} {H' : am_H}
set_option maxHeartbeats 1000000 in
theorem am_so_make (hA : am_A Y X y cc) (hC : am_CL Y) {L : Nat} {ret : Option FieldType} {hh : List (Nat × Nat × Nat × Nat)} (hB : am_B X L ret hh) (hBg : am_big X) (hLen : ls.length = L) (hl : X.l.stackTraces = false) (hZT : am_ZT Y) {ik ic k : Nat} {cls : String} {names : List String} {T0 : u_T} (hr : Y.cl[k]? = some (cls, T0, 0)) (hXK : am_XK y.cls ik ic cls names)
    (d0 : decode cc pc = .ok (.new ik, 3)) (d3 : decode cc (pc + 3) = .ok (.dup, 1)) (d4 : decode cc (pc + 4) = .ok (.invokespecial ic, 3)) (hro : am_room X H) (hro' : am_room X H') (hs : am_mk k (pc + 7) ls st H = am_nx pc' ls' st' H') (kk : am_W Y X pc' ls' st' H') : am_W Y X pc ls st H := by
  unfold am_mk at hs
  by_cases hcut : am_cut 10 st = true
  case neg => rw [if_neg hcut] at hs; cases hs
  rw [if_pos hcut] at hs
  cases hs
  obtain ⟨hcls, hnames, hnl, hk, hini, hat, hgood⟩ := hXK
  have hts := hA.2.2.2.2.2.2.2.1
  have hown := hA.2.2.1
  have hk := hts _ hk
  have hini := hts _ hini
  have hat : ∀ w ∈ vx_at0 y.cls ic cls names, w.before X.args X.s = true := fun w hw => by
    rcases hat w hw with h | ⟨h1, h⟩
    · exact hts _ h
    · exact am_cdb_at hA h1 h
  have hRframes : names.length + 3 < X.R.frames := by have := hBg.1; omega
  have hsum := am_cut_sum _ _ hcut
  have hRlocals : (st.map fun v => v.category).sum + (13 * (names.length + 1) + 42) ≤ X.R.locals := by have := hBg.2; omega
  obtain ⟨g1, g2, -, -⟩ := id hro
  obtain ⟨-, -, g3, g4⟩ := hro'
  simp only [am_new] at g3 g4
  have hRcells : (H.2.1 - X.z) + 1 ≤ X.R.cells := by omega
  have hRslots : (H.2.2 - X.u) + 6 ≤ X.R.slots := by omega
  intro Hm lsA locs hR hL hlo
  have hS := am_vaS hA hro hR hlo
  have hU : vx_Zq Bundle.tN "UNASSIGNED_STACK" Bundle.steD (fun q => Y.base ≤ q) X.s X.s.heap := (vx_Zq.moved hA.2.2.2.2.1.alike hZT.1).kept fun a _ hn => hA.2.2.2.2.2.2.2.2.2.2.2 a (Nat.not_le.mp hn)
  have hN : vx_Zq Bundle.tN "SUPPRESSED_SENTINEL" Bundle.listD (fun q => Y.base ≤ q) X.s X.s.heap := (vx_Zq.moved hA.2.2.2.2.1.alike hZT.2).kept fun a _ hn => hA.2.2.2.2.2.2.2.2.2.2.2 a (Nat.not_le.mp hn)
  have hsize : lsA.size = X.c.maxLocals := by rw [hB.1, ← hLen]; exact hL.1
  have hb := hA.2.1
  have hexec := hA.1
  intro T hT S
  have htr : X.e.platform.stackTraces = false := (show X.e.platform.stackTraces = X.l.stackTraces by rw [S.admits.platform]).trans hl
  have Y0 := vx_rebase S (R' := { frames := X.R.frames, locals := X.R.locals, cells := 1, slots := 6 }) (Nat.le_refl _) (Nat.le_refl _) hRcells hRslots
  obtain ⟨s', hA'⟩ : ∃ z, z = (T.setVm X.s.vm).setFrames (.invoking X.m X.args :: X.below) := ⟨_, rfl⟩
  rw [← hA'] at Y0
  have hvm : s'.vm = X.s.vm := by rw [hA']; rfl
  have hhp : s'.heap = T.heap := by rw [hA']; rfl
  have hW0 : X.s.WarmedH s'.vm := by rw [hvm]; exact State.WarmedH.refl X.s
  have hat' : ∀ w ∈ vx_at0 y.cls ic cls names, w.before X.args s' = true := fun w hw => vx_ot_at hW0 hvm.symm (hgood w (List.mem_cons_of_mem _ (List.mem_cons_of_mem _ hw))) (hat w hw)
  have hk' : (Cond.classLink y.cls ik cls).before X.args s' = true := vx_ot_at hW0 hvm.symm (hgood _ List.mem_cons_self) hk
  have hini' : (Cond.initialized cls).before X.args s' = true := vx_ot_at hW0 hvm.symm (hgood _ (List.mem_cons_of_mem _ List.mem_cons_self)) hini
  have hU' : vx_Zq Bundle.tN "UNASSIGNED_STACK" Bundle.steD (fun q => Y.base ≤ q) s' s'.heap := by rw [hhp, hT]; exact vx_Zq.moved hW0.alike (hU.kept hS.2.1)
  have hN' : vx_Zq Bundle.tN "SUPPRESSED_SENTINEL" Bundle.listD (fun q => Y.base ≤ q) s' s'.heap := by rw [hhp, hT]; exact vx_Zq.moved hW0.alike (hN.kept hS.2.1)
  have h : ∀ w ∈ Bundle.ownAtoms0 y.cls ic cls names, w.before X.args s' = true := vx_own hat' (vx_isRefq hU'.1) (vx_isRefq hN'.1) hU'.2.word hN'.2.word
  have hown' : s'.vm.findClass y.cls = some X.m.cls := by rw [hvm]; exact hown
  have hins : (Cond.instantiable cls 6).before X.args s' = true := h _ (by simp [Bundle.ownAtoms0])
  obtain ⟨vm₁, cX, kX, hfX, hkX, -, -, X₁, st1⟩ := Y0.newCold hexec (own := y.cls) (C := cls) (index := ik) (n := 6) hown' hk' hins hini'
    (g := F0 X.m pc lsA st) rfl (by rw [hb]; exact d0) (Nat.le_refl _) (Nat.le_refl _)
  generalize hT1 : (T.setVm vm₁).pushCell { cls := cX, slots := kX.instanceTypes.map defaultValue, vm := .none } = T1 at X₁ st1
  have hcat : (Value.ref T.heap.size).category = 1 := rfl
  have hcellA : T1.heap[T.heap.size]? = some (freshCell cX kX) := by rw [← hT1]; exact State.heap_pushCell_size _ _
  have d3' : decode X.c.code (pc + 3) = .ok (.dup, 1) := by rw [hb]; exact d3
  obtain ⟨V, ce, LL, Z, hL2, hlt, hcl9, hvm9, step⟩ := vx_ctorMade0 X₁ hexec htr (own := y.cls) (cls := cls) (names := names) (ic := ic) hown' hcls hnames h (fun x hx => nomatch hx) hfX hkX hcellA (by rw [hhp]; exact Nat.le_refl _)
    (g := { method := X.m, pc := pc + 4, locals := lsA, stack := .ref T.heap.size :: .ref T.heap.size :: st, locked := none }) rfl hsize (rest := st) rfl
    (by rw [hb]; exact d4) hRframes (by simp only [List.map_cons, List.sum_cons, hcat]; omega)
  have Z0 := Stand.forget (locs := []) Z (fun y hy => by rw [hL2 y hy, hhp]; exact Nat.le_refl _)
  obtain ⟨f1, f2⟩ := vx_frame Z0.same
  have f3 := Z0.same.2.2.1
  rw [hhp] at f1 f2 f3
  have hcid : ce.cls = Y.D.1 k := by
    rw [hcl9]
    have h1 := (hA.2.2.2.2.2.1.1 k _ hr).2.1
    rw [hvm] at hfX
    exact Option.some.inj (hfX.symm.trans h1)
  have hh2 : (V.setCell T.heap.size ce).heap[T.heap.size]? = some ce := heapAt_setCell_self (s := V) ce hlt
  have hsz : (V.setCell T.heap.size ce).heap.size = T.heap.size + 1 := by
    have q1 : T.heap.size < (V.setCell T.heap.size ce).heap.size := (Array.getElem?_eq_some_iff.mp hh2).1
    have q2 : (V.setCell T.heap.size ce).heap.size ≤ T.heap.size + 1 := f3
    omega
  subst hA'
  have X5 := vx_back9 S Y0 Z0
  have X6 : Stand X.p X.l X.e X.R X.s X.m X.args X.below X.meth X.c (V.setCell T.heap.size ce) locs (H.2.1 - X.z + 1) (H.2.2 - X.u + 6) := { X5 with same := X5.same.mono (by omega) (by omega) }
  have hcell : am_cell Y Hm.size (k, []) ce := by
    refine ⟨(by rw [hvm9]; exact fun h => (by cases h)), by rw [hvm9]; rfl, fun _ => hvm9, Or.inl ⟨(hC k _ hr).1, hcid, _, hr, rfl, fun j v hv => by cases hv⟩⟩
  rw [hT] at hsz f2 hh2
  have h9 := kk (V.setCell T.heap.size ce).heap lsA locs (am_R_new hR (by rw [hT]; exact hsz) (fun b hb => by rw [hT]; exact f2 b hb (fun z hz => nomatch hz)) ⟨_, by rw [hT]; exact hh2, hcell⟩) hL hlo
  simp only [am_new] at h9
  rw [show H.2.1 + 1 - X.z = H.2.1 - X.z + 1 by omega, show H.2.2 + 6 - X.u = H.2.2 - X.u + 6 by omega] at h9
  obtain ⟨t, a1, b1⟩ := h9 _ rfl X6
  refine ⟨t, st1 _ ?_, b1⟩
  show Steps X.p.tables X.e X.below (T1.setTop { method := X.m, pc := pc + 3, locals := lsA, stack := .ref T.heap.size :: st, locked := none }) _
  jvm_step X₁.here [X₁.here.top, hexec, d3', Value.category]
  refine step _ ?_
  rw [show T.heap.size = H.2.1 by rw [hT]; exact hR.1] at a1 ⊢
  exact a1
end AMK
