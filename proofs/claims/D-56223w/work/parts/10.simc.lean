/-! System.arraycopy, new int[n][k], new E() -/
theorem am_cpy_get {n sp dp : Nat} {vs vd : List Value} (h1 : sp + n ≤ vs.length) (h2 : dp + n ≤ vd.length) (j : Nat) : (am_cpy n sp dp vs vd)[j]? = if dp ≤ j ∧ j < dp + n then vs[sp + (j - dp)]? else vd[j]? := by
  unfold am_cpy
  have e1 : (vd.take dp).length = dp := by rw [List.length_take]; omega
  have e2 : ((vs.drop sp).take n).length = n := by rw [List.length_take, List.length_drop]; omega
  by_cases hj : j < dp
  · rw [List.getElem?_append_left (by omega), List.getElem?_take, if_pos hj, if_neg (by omega)]
  · rw [List.getElem?_append_right (by omega), e1]
    by_cases hj2 : j < dp + n
    · rw [List.getElem?_append_left (by omega), List.getElem?_take, if_pos (by omega), List.getElem?_drop, if_pos (by omega)]
    · rw [List.getElem?_append_right (by omega), e2, List.getElem?_drop, if_neg (by omega)]
      congr 1
      omega
theorem am_cpy_length {n sp dp : Nat} {vs vd : List Value} (h1 : sp + n ≤ vs.length) (h2 : dp + n ≤ vd.length) : (am_cpy n sp dp vs vd).length = vd.length := by
  unfold am_cpy
  simp only [List.length_append, List.length_take, List.length_drop]
  omega
theorem am_cpy_mem {n sp dp : Nat} {vs vd : List Value} {v : Value} (h : v ∈ am_cpy n sp dp vs vd) : v ∈ vs ∨ v ∈ vd := by
  unfold am_cpy at h
  simp only [List.mem_append] at h
  rcases h with h | h | h
  · exact Or.inr (List.mem_of_mem_take h)
  · exact Or.inl (List.mem_of_mem_drop (List.mem_of_mem_take h))
  · exact Or.inr (List.mem_of_mem_drop h)
section AMC
variable {Y : am_Y} {X : am_X} {y : MethodName} {cc : ByteArray} {pc n : Nat} {ls st : List Value} {H : am_H} {pc' : Nat} {ls' st' : List Value} {H' : am_H} {E : Nat → Nat} {r : am_S}
theorem am_copy_spec {base : Nat} (hs : am_copy base n ls st H = some r) : ∃ (x dp sp : Int32) (d s : Nat) (rest : List Value) (t : Nat) (vs vd : List Value), st = .int x :: .int dp :: .ref d :: .int sp :: .ref s :: rest ∧ H.1 s = some (1000 + t, vs) ∧ H.1 d = some (1000 + t, vd) ∧ base ≤ d ∧ ¬ x < 0 ∧ ¬ sp < 0 ∧ ¬ dp < 0 ∧ sp.toNatClampNeg + x.toNatClampNeg ≤ vs.length ∧ dp.toNatClampNeg + x.toNatClampNeg ≤ vd.length ∧ am_cut 10 rest = true ∧ (t < 10 ∨ ((vs.drop sp.toNatClampNeg).take x.toNatClampNeg).all (am_stok H t) = true) ∧ (.inl (n, ls, rest, am_put H d (1000 + t, am_cpy x.toNatClampNeg sp.toNatClampNeg dp.toNatClampNeg vs vd)) : am_S) = r := by
  unfold am_copy at hs
  split at hs
  · rename_i x dp d sp s rest
    obtain ⟨t, vs, hHs, hs1⟩ := am_arr_spec hs
    obtain ⟨t', vd, hHd, hs2⟩ := am_arr_spec hs1
    clear hs hs1
    split at hs2
    · rename_i hb
      simp only [Bool.and_eq_true, Bool.or_eq_true, Bool.not_eq_true', decide_eq_true_eq, decide_eq_false_iff_not] at hb
      obtain ⟨⟨⟨⟨⟨⟨⟨⟨b0, b1⟩, b2⟩, b3⟩, b4⟩, b5⟩, b6⟩, b7⟩, b8⟩ := hb
      have ht : t' = t := by omega
      subst ht
      refine ⟨x, dp, sp, d, s, rest, t', vs, vd, rfl, hHs, hHd, b1, b2, b3, b4, b5, b6, b7, ?_, Option.some.inj hs2⟩
      rcases b8 with b8 | b8
      · exact Or.inl (by omega)
      · exact Or.inr (by rw [Nat.add_sub_cancel_left] at b8; exact b8)
    · cases hs2
  · cases hs
theorem am_so_copy (hA : am_A Y X y cc) (hOB : am_OB Y) {L : Nat} {ret : Option FieldType} {hh : List (Nat × Nat × Nat × Nat)} (hB : am_B X L ret hh) (hBg : am_big X) (hLen : ls.length = L) {idx : Nat} (hlk : Cond.methodLink y.cls idx arraycopyName ∈ lw_all) (hnat : Cond.native arraycopyName ∈ lw_all) (hstt : Cond.static arraycopyName ∈ lw_all) (hini : Cond.initialized "java/lang/System" ∈ lw_all)
    (hd : decode cc pc = .ok (.invokestatic idx, 3)) (hs : am_copy Y.base (pc + 3) ls st H = am_nx pc' ls' st' H') (kk : am_W Y X pc' ls' st' H') : am_W Y X pc ls st H := by
  have hts := hA.2.2.2.2.2.2.2.1
  obtain ⟨x, dp, sp, d, s, rest, t, vs, vd, rfl, hHs, hHd, hbd, h3, h1, h2, h4, h5, hcut, hel, e⟩ := am_copy_spec hs
  cases e
  have hsum := am_cut_sum _ _ hcut
  obtain ⟨b1, b2⟩ := hBg
  intro Hm lsA locs hR hL hl
  obtain ⟨cs, hcs, hxs⟩ := hR.2.2.2 s _ hHs
  obtain ⟨cd, hcd, hxd⟩ := hR.2.2.2 d _ hHd
  obtain ⟨ty, kA, comp, hty, hcl, hkA, hkd, hst, hsv, hle, -, hft, hRA⟩ := am_arr_facts hA hxs
  obtain ⟨ty', kB, comp', hty', hcl', hkB, hkd', hst', hdv, hdle, hdex, hdft, -⟩ := am_arr_facts hA hxd
  cases hty.symm.trans hty'
  have hcc : comp' = comp := by
    rw [hcl] at hkA
    rw [hcl'] at hkB
    cases hkA.symm.trans hkB
    cases hkd.symm.trans hkd'
    rfl
  subst hcc
  have nn : ∀ z : Int32, ¬ z < 0 → z.toInt = (z.toNatClampNeg : Int) := fun z hz => (toNatClampNeg_of_not_neg32 z hz).symm
  intro T hT S
  obtain ⟨vm', S', step⟩ := S.arraycopy hA.1 hA.2.2.1 (hts _ hlk) (hts _ hnat) (hts _ hstt) (hts _ hini) (src := s) (dst := d) (cs := cs) (cd := cd) (srcPos := sp) (destPos := dp) (n := x) (by rw [hT]; exact hcs) (by rw [hT]; exact hcd)
    hst hst' hxs.1 hxd.1 hkA hkB hkd hkd' (by cases hrk : refKind ty <;> simp [hrk]) h1 h2 h3
    (by rw [nn sp h1, nn x h3]; omega) (by rw [nn dp h2, nn x h3]; omega)
    (fun vm₁ hal i hi => by
      have hlt : sp.toNatClampNeg + i < vs.length := by omega
      have e : cs.slots.getD (sp.toNatClampNeg + i) .null = vs[sp.toNatClampNeg + i] := by
        rw [Array.getD_eq_getD_getElem?, hsv _ _ (List.getElem?_eq_getElem hlt)]
        rfl
      rw [e]
      have hf := hft _ (List.getElem_mem hlt)
      refine ⟨hf, ?_⟩
      rcases hel with ht | hel
      · refine State.takes_of_prim _ _ ?_ hf
        unfold am_aty at hty
        split at hty <;> first | (exfalso; omega) | (cases hty; rfl) | cases hty
      · have h6 := List.all_eq_true.mp hel (vs[sp.toNatClampNeg + i]) (List.mem_of_getElem? (i := i) (by rw [List.getElem?_take, if_pos hi, List.getElem?_drop, List.getElem?_eq_getElem hlt]))
        generalize vs[sp.toNatClampNeg + i] = v at h6
        cases v <;> first | (cases h6; done) | exact trivial | skip
        rename_i b
        dsimp only [am_stok] at h6
        cases hHb : H.1 b with
        | none => rw [hHb] at h6; cases h6
        | some q =>
          obtain ⟨kb, ws⟩ := q
          rw [hHb] at h6
          dsimp only at h6
          obtain ⟨xb, hxb, hcb1, hcb2, -, hcb4⟩ := hR.2.2.2 b _ hHb
          simp only [am_sto, Bool.or_eq_true, Bool.and_eq_true, beq_iff_eq, decide_eq_true_eq] at h6
          have hkb : kb < 1000 := by rcases h6 with ⟨-, q⟩ | ⟨-, q⟩ <;> omega
          rcases hcb4 with ⟨-, hclb, rb, hrb, -⟩ | ⟨hge, -⟩
          · obtain ⟨hS, hcls⟩ := hA.2.2.2.2.2.1.1 kb rb hrb
            obtain ⟨kC, hkC, -⟩ := id hcls.2
            obtain ⟨kC', hkC', -⟩ := hal.2.2 _ _ hkC
            have hfin : ∀ C, ty = .object C → (∃ c2, X.s.vm.findClass C = some c2 ∧ X.s.vm.assignable xb.cls c2 = true) → (T.setVm vm₁).takes comp' (.ref b) := by
              rintro C rfl ⟨c2, g1, g2⟩
              obtain ⟨kA2, comp2, r1, r2, r3, -⟩ := hRA
              rw [← hcl] at r1
              cases hkA.symm.trans r1
              cases hkd.symm.trans r2
              cases r3.symm.trans g1
              obtain ⟨kE, hkE, -⟩ := Vm.findClass_spec r3
              obtain ⟨kE', hkE', -⟩ := hal.2.2 _ _ hkE
              refine ⟨xb, (show T.heap[b]? = some xb by rw [hT]; exact hxb), (fun q h => by rw [h] at hcb2; cases hcb2), ⟨kC', by rw [hclb]; exact hkC'⟩, ⟨kE', hkE'⟩, ?_⟩
              show vm₁.assignable _ _ = true
              rw [hal.assignable]
              exact g2
            rcases h6 with ⟨rfl, -⟩ | ⟨rfl, rfl⟩
            · cases hty
              obtain ⟨c0, t1, f1, f2, f3⟩ := Cond.castable_spec (am_castW hA (hOB.1 kb rb hrb))
              cases hcls.1.symm.trans f1
              exact hfin _ rfl ⟨_, f2, by rw [hclb]; exact f3⟩
            · cases hty
              obtain ⟨r0, hr0, hn0⟩ := hOB.2
              cases hr0.symm.trans hrb
              rw [hn0] at hcls
              exact hfin _ rfl ⟨_, hcls.1, by rw [hclb]; exact va_assign hcls⟩
          · dsimp only at hge; omega)
    (g := F0 X.m pc lsA (.int x :: .int dp :: .ref d :: .int sp :: .ref s :: st')) rfl (by rw [hB.1, ← hLen]; exact hL.1) (rest := st') rfl (by rw [hA.2.1]; exact hd) (by omega)
    (by have hw : nativeFrameWords "java/lang/System" "arraycopy" 5 ≤ 60 := by decide
        show 2 * 0 + _ + _ ≤ _; omega)
  have hszd : cd.slots.size = vd.length := hdex hbd
  have hslen : (cs.stretch sp.toNatClampNeg x.toNatClampNeg).length = x.toNatClampNeg := Cell.stretch_length _ _ _
  obtain ⟨f1, f2, f3, -, -⟩ := Cell.storeRun_facts cd dp.toNatClampNeg (cs.stretch sp.toNatClampNeg x.toNatClampNeg)
  have hcell : am_cell Y d (1000 + t, am_cpy x.toNatClampNeg sp.toNatClampNeg dp.toNatClampNeg vs vd) (copied cs cd sp dp x) := by
    unfold copied
    obtain ⟨q1, q2, q3, q4⟩ := hxd
    refine ⟨by rw [f2]; exact q1, by rw [f2]; exact q2, fun hb => by rw [f2]; exact q3 hb, Or.inr ?_⟩
    rcases q4 with ⟨hk, -⟩ | ⟨g1, g2, g3, g4, g5, g6, g7, g8⟩
    · dsimp only at hk; omega
    · refine ⟨g1, g2, by rw [f1]; exact g3, fun j v hv => ?_, by rw [f3]; dsimp only; rw [am_cpy_length h4 h5]; exact g5, by rw [f3]; dsimp only; rw [am_cpy_length h4 h5]; exact g6, fun hb => by rw [f3]; dsimp only; rw [am_cpy_length h4 h5]; exact g7 hb, fun ty' hty2 v hv => ?_⟩
      · dsimp only at hv
        rw [am_cpy_get h4 h5] at hv
        rw [Cell.storeRun_get _ _ _ _ (by rw [hslen]; omega), hslen]
        by_cases hj : dp.toNatClampNeg ≤ j ∧ j < dp.toNatClampNeg + x.toNatClampNeg
        · rw [if_pos hj] at hv ⊢
          have hlt := (List.getElem?_eq_some_iff.mp hv).1
          unfold Cell.stretch
          rw [List.getElem?_map, List.getElem?_range (by omega)]
          show some _ = _
          dsimp only
          rw [Array.getD_eq_getD_getElem?, hsv _ _ hv]
          rfl
        · rw [if_neg hj] at hv ⊢
          exact hdv j v hv
      · dsimp only at hty2 hv
        rw [Nat.add_sub_cancel_left] at hty2
        cases hty.symm.trans hty2
        rcases am_cpy_mem hv with h | h
        · exact hft v h
        · exact hdft v h
  have hlt : d < Hm.size := (Array.getElem?_eq_some_iff.mp hcd).1
  obtain ⟨t9, a1, b9⟩ := kk (Hm.setIfInBounds d (copied cs cd sp dp x)) lsA _ (am_R_put hR hbd (by simp) (fun q hq => by simp [Array.getElem?_setIfInBounds, Ne.symm hq]) ⟨_, by simp [Array.getElem?_setIfInBounds, hlt], hcell⟩) hL (fun z hz => by
    rcases List.mem_append.mp hz with h | h
    · exact hl z h
    · obtain ⟨w, -, rfl⟩ := List.mem_map.mp h
      exact hbd) _ (by rw [← hT]; rfl) S'
  exact ⟨t9, step t9 a1, b9⟩
theorem am_aoA_moved {u U : State} (hvm : u.vm.Alike U.vm) {A B : Array Value} (h : (Cond.arrayOver (.array .int)).before A u = true) : (Cond.arrayOver (.array .int)).before B U = true := by
  simp only [Cond.before, Cond.holds, Cond.value, beq_iff_eq] at h
  cases hc : u.vm.findClass (FieldType.array .int).toString with
  | none => simp [hc] at h
  | some comp =>
    simp only [hc, Option.bind_some, Option.bind_eq_some_iff, Option.map_eq_some_iff] at h
    obtain ⟨c, h2, k, h3, hb⟩ := h
    obtain ⟨k', hk', he⟩ := hvm.2.2 _ _ h3
    have hbare : U.vm.bare = u.vm.bare := by first | exact hvm.bare_eq | exact hvm.bare_eq.symm
    have hi := ((va_idx_bare U.vm comp).symm.trans ((congrArg (fun v : Vm => v.classes.findIdx? fun (x : Class) => match x.kind with | .array component _ => component == comp | _ => false) hbare).trans (va_idx_bare u.vm comp))).trans h2
    have f1 : U.vm.findClass (FieldType.array .int).toString = some comp := by rw [hvm.findClass]; exact hc
    have hkk : k'.kind = k.kind := by rw [he]
    have hfc : ∀ n, U.vm.findClass n = u.vm.findClass n := fun n => hvm.findClass n none
    unfold Cond.before Cond.holds
    simp only [Cond.value]
    rw [f1, Option.bind_some]
    refine (congrArg (fun o : Option Nat => (o.bind (fun c => (U.vm.classes[c]?).map fun (k : Class) => match k.kind with | .array _ ty => decide (ty = FieldType.array .int) && decide (U.vm.findClass ("[" ++ (FieldType.array .int).toString) = some c) | _ => false) == some true)) hi).trans ?_
    simp only [Option.bind_some, hk', Option.map_some, hkk, hfc]
    exact beq_iff_eq.mpr (congrArg some hb)
theorem am_outer (c : ClassId) (N h0 : Nat) : ∀ i, i ≤ N → ∀ j, j < i → (Jvm.Free.Multi.outerC c N h0 i).slots[j]? = some (.ref (h0 + 1 + j))
  | 0, _, j, hj => absurd hj (Nat.not_lt_zero _)
  | i + 1, hi, j, hj => by
    have hsz := (Jvm.Free.Multi.outerC_facts c N h0 i).2.2
    show ((Jvm.Free.Multi.outerC c N h0 i).setSlot i (.ref (h0 + 1 + i))).slots[j]? = _
    by_cases hji : j = i
    · subst hji
      exact Cell.slots_setSlot_self _ (by omega)
    · rw [slot_ne _ _ (Ne.symm hji)]
      exact am_outer c N h0 i (by omega) j (by omega)
/-- new int[n][k] -/
theorem am_multi_spec (hs : am_multi n ls st H = some r) : ∃ x z s, st = .int z :: .int x :: s ∧ ¬ x < 0 ∧ ¬ z < 0 ∧ x.toNatClampNeg ≤ 255 ∧ z.toNatClampNeg ≤ 255 ∧ (.inl (n, ls, .ref H.2.1 :: s, am_grid x.toNatClampNeg z.toNatClampNeg H) : am_S) = r := by
  unfold am_multi at hs
  split at hs
  · split at hs
    · cases hs
    · rename_i h
      simp only [not_or] at h
      exact ⟨_, _, _, rfl, h.1, h.2.1, by omega, by omega, Option.some.inj hs⟩
  · cases hs
theorem am_so_multi (hA : am_A Y X y cc) {idx : Nat} (hcl : Cond.classLink y.cls idx ("[" ++ (FieldType.array .int).toString) ∈ lw_all) (hov : Cond.arrayOver (.array .int) ∈ lw_tbl) (hac : Cond.arrayClass .int ∈ lw_all)
    (hd : decode cc pc = .ok (.multianewarray idx 2, 4)) (hro : am_room X H) (hro' : am_room X H') (hs : am_multi (pc + 4) ls st H = am_nx pc' ls' st' H') (kk : am_W Y X pc' ls' st' H') : am_W Y X pc ls st H := by
  have hts := hA.2.2.2.2.2.2.2.1
  obtain ⟨x, z, s, rfl, hx0, hz0, hx, hz, e⟩ := am_multi_spec hs
  cases e
  obtain ⟨g1, g2, -, -⟩ := hro
  obtain ⟨-, -, g3, g4⟩ := hro'
  simp only [am_grid] at g3 g4
  obtain ⟨a0, ha0⟩ := hA.2.2.2.2.2.2.2.2.1
  have hover : (Cond.arrayOver (.array .int)).before X.args X.s = true := am_aoA_moved hA.2.2.2.2.1.alike (ha0 _ hov)
  obtain ⟨hArO, hRO⟩ := hA.2.2.2.2.2.1.2 12 _ rfl
  obtain ⟨hArI, hRI⟩ := hA.2.2.2.2.2.1.2 0 _ rfl
  have hRO : X.s.vm.findClass ("[" ++ (FieldType.array .int).toString) = some (Y.aC 12) := hRO
  have hRI : X.s.vm.findClass ("[" ++ FieldType.int.toString) = some (Y.aC 0) := hRI
  intro Hm lsA locs hR hL hl
  intro T hT S
  have hmul : x.toNatClampNeg * z.toNatClampNeg ≤ x.toNatClampNeg * z.toNatClampNeg := Nat.le_refl _
  obtain ⟨vm₁, cA, comp, hW1, hfA, hfC, -, -, S', step⟩ := S.multianewarray2F hA.1 (ty := .int) hA.2.2.1 (hts _ hcl) hover (hts _ hac) (g := F0 X.m pc lsA _) rfl (by rw [hA.2.1]; exact hd) (n := x) (k := z) rfl hx0 hz0 (by omega) (by show z.toNatClampNeg * 4 ≤ _; omega) (by omega) rfl rfl (by omega) (by omega)
  have e1 : cA = Y.aC 12 := Option.some.inj (hfA.symm.trans hRO)
  have e2 : comp = Y.aC 0 := Option.some.inj (hfC.symm.trans hRI)
  subst e1; subst e2
  have hTs : (T.setVm vm₁).heap = Hm := hT
  obtain ⟨f1, f2, -, -⟩ := Jvm.Free.Multi.fill_facts (T.setVm vm₁) (Y.aC 12) (Y.aC 0) x.toNatClampNeg z.toNatClampNeg (defaultValue .int) x.toNatClampNeg
  have f3 := fun j hj => Jvm.Free.Multi.fill_inner (T.setVm vm₁) (Y.aC 12) (Y.aC 0) x.toNatClampNeg z.toNatClampNeg (defaultValue .int) x.toNatClampNeg j hj
  have f4 := fun (a : Addr) (ha : a < (T.setVm vm₁).heap.size) => Jvm.Free.Multi.fill_old (T.setVm vm₁) (Y.aC 12) (Y.aC 0) x.toNatClampNeg z.toNatClampNeg (defaultValue .int) ha x.toNatClampNeg
  rw [hTs] at f1 f2 f3 f4
  generalize hF : Jvm.Free.Multi.fill (T.setVm vm₁) (Y.aC 12) (Y.aC 0) x.toNatClampNeg z.toNatClampNeg (defaultValue .int) x.toNatClampNeg = F at S' step f1 f2 f3 f4
  obtain ⟨o1, o2, o3⟩ := Jvm.Free.Multi.outerC_facts (Y.aC 12) x.toNatClampNeg Hm.size x.toNatClampNeg
  have hRF : am_R Y (am_grid x.toNatClampNeg z.toNatClampNeg H) F.heap := by
    obtain ⟨r1, r2, r3, r4⟩ := id hR
    refine ⟨by rw [f1, r1]; rfl, by omega, fun q hq => (f4 q (Nat.lt_of_lt_of_le hq r2)).trans (r3 q hq), fun a q hq => ?_⟩
    simp only [am_grid] at hq
    by_cases ha : a = H.2.1
    · subst ha
      rw [if_pos rfl] at hq
      cases hq
      rw [← r1]
      refine ⟨_, f2, ?_⟩
      show am_cell Y Hm.size (1000 + 12, (List.range x.toNatClampNeg).map fun j => .ref (Hm.size + 1 + j)) _
      refine ⟨(by rw [o2]; exact fun h => (by cases h)), by rw [o2]; rfl, fun _ => o2, Or.inr ⟨Nat.le_add_right 1000 12, (by dsimp only; rw [Nat.add_sub_cancel_left]; rfl), (by dsimp only; rw [Nat.add_sub_cancel_left]; exact o1), fun j v hv => ?_, by rw [o3]; simp, by rw [o3]; simp, fun _ => by rw [o3]; simp, fun ty hty v hv => ?_⟩⟩
      · simp only [List.getElem?_map, Option.map_eq_some_iff] at hv
        obtain ⟨j', hj', rfl⟩ := hv
        obtain ⟨g1', g2'⟩ := List.getElem?_eq_some_iff.mp hj'
        have : j' = j := by rw [← g2']; simp
        subst this
        exact am_outer _ _ _ _ (Nat.le_refl _) _ (by simpa using g1')
      · dsimp only at hty hv
        rw [Nat.add_sub_cancel_left] at hty
        cases hty
        obtain ⟨j, -, rfl⟩ := List.mem_map.mp hv
        rfl
    · rw [if_neg ha] at hq
      by_cases hb : H.2.1 < a ∧ a ≤ H.2.1 + x.toNatClampNeg
      · rw [if_pos hb] at hq
        cases hq
        have h6 := f3 (a - (Hm.size + 1)) (by omega)
        rw [show Hm.size + 1 + (a - (Hm.size + 1)) = a by omega] at h6
        exact ⟨_, h6, am_cell_arr (t := 0) rfl (by omega) rfl⟩
      · rw [if_neg hb] at hq
        rw [f4 a (am_R_lt hR hq)]
        exact r4 a q hq
  have h := kk F.heap lsA locs hRF hL hl
  simp only [am_grid] at h
  rw [show H.2.1 + 1 + x.toNatClampNeg - X.z = H.2.1 - X.z + 1 + x.toNatClampNeg by omega, show H.2.2 + x.toNatClampNeg + x.toNatClampNeg * z.toNatClampNeg - X.u = H.2.2 - X.u + x.toNatClampNeg + x.toNatClampNeg * z.toNatClampNeg by omega] at h
  obtain ⟨t9, a1, b9⟩ := h F rfl S'
  refine ⟨t9, step t9 ?_, b9⟩
  rw [show T.heap.size = H.2.1 by rw [hT]; exact hR.1]
  exact a1
end AMC
