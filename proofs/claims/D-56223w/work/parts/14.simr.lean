set_option maxRecDepth 100000
/-! calls: from the abstract run of the callee to the caller's next instruction -/
theorem am_good {w : Cond} (h : w ∈ lw_all) {s : State} {args : Array Value} (hw : w.before args s = true) {a' : Array Value} {U : State} (hW : s.WarmedH U.vm) : w.before a' U = true := word_at hW (good_of_word (List.mem_filter.mp h).2) hw
/-- what every call asks of its callee -/
def am_EC (I : am_I) (n : Nat) : Prop := am_cw I ∈ lw_all ∧ Cond.initialized I.1.cls ∈ lw_all ∧ (I.1.cls ≠ "java/lang/invoke/MethodHandle" ∧ I.1.cls ≠ "java/lang/invoke/VarHandle") ∧ (parseMethodDescriptor I.1.desc).map (fun d => d.parameters.length) = some n ∧ I.2.2.1 ≤ 33
def am_kont (Y : am_Y) (X : am_X) (out : am_O) (pc npc : Nat) (ls rest : List Value) (Hf : am_H) : Prop := match out with
  | .ok v => am_W Y X npc ls (v.toList ++ rest) Hf
  | .error q => am_V Y X pc ls q Hf
section AMS
variable {Y : am_Y} {X : am_X} {y : MethodName} {cc : ByteArray} {pc n d : Nat} {ls st rest : List Value} {H Hf : am_H} {I : am_I} {as : List Value} {out : am_O} {len : Nat} {a : Array Value}
/-- the room that a call at depth d asks of its caller -/
def am_deep (X : am_X) (d : Nat) : Prop := d + 9 ≤ X.R.frames ∧ 64 * (d + 9) ≤ X.R.locals
theorem am_backX (hA : am_A Y X y cc) (hM : am_MX Y X.l I d as H out Hf) (hE : am_EC I n) (hD : am_deep X d) : vx_Back X.l X.R X.p X.e X.below X.s X.args I.1 len 20 (am_PreC Y X.R as H Hf) (am_PostC Y H out Hf) (am_PostX Y H out Hf) := by
  have hts := hA.2.2.2.2.2.2.2.1
  obtain ⟨h1, h2, -, -, h5⟩ := hE
  obtain ⟨d1, d2⟩ := hD
  exact am_back hM (by omega) (by omega) hA.2.2.2.2.1 (fun a' U hW => am_good h1 (hts _ h1) hW) (fun a' U hW => am_good h2 (hts _ h2) hW)
theorem am_kcOf (hA : am_A Y X y cc) (hE : am_EC I n) : am_kc I.1 X.s := by
  obtain ⟨mk, meth, c, h1, h2, -, -, -, -, -, -, h3⟩ := am_cw_spec (hA.2.2.2.2.2.2.2.1 _ hE.1)
  exact ⟨mk, meth, h1, h2, h3⟩
theorem am_nlen (hE : am_EC I n) (hn : as.length = n) : ∀ sig, parseMethodDescriptor I.1.desc = some sig → as.length = sig.parameters.length := fun sig h => by
  have h4 := hE.2.2.2.1
  rw [h] at h4
  exact hn.trans (Option.some.inj h4).symm
theorem am_fin {lsA : Array Slot} {locs : List Jvm.Loc} {T : State} (hL : am_L lsA ls) (hl : ∀ z ∈ locs, Y.base ≤ z.base) (hmono : H.2.1 ≤ Hf.2.1 ∧ H.2.2 ≤ Hf.2.2) (hro : am_room X H)
    (hres : (∃ (v : Option Value) (vm₁ : Vm) (B : Pt), X.s.WarmedH vm₁ ∧ Stand X.p X.l X.e X.R X.s X.m X.args X.below X.meth X.c B.U B.locs B.cells B.slots ∧ am_PostC Y H out Hf ⟨T.setVm vm₁, locs, H.2.1 - X.z, H.2.2 - X.u⟩ a v B ∧
      ∀ target, Steps X.p.tables X.e X.below (B.U.setTop { (F0 X.m pc lsA st) with pc := (F0 X.m pc lsA st).pc + len, stack := v.toList ++ rest }) target → Steps X.p.tables X.e X.below (T.setTop (F0 X.m pc lsA st)) target) ∨
    (∃ (q : Addr) (vm₁ : Vm) (B : Pt), X.s.WarmedH vm₁ ∧ Stand X.p X.l X.e X.R X.s X.m X.args X.below X.meth X.c B.U B.locs B.cells B.slots ∧ am_PostX Y H out Hf ⟨T.setVm vm₁, locs, H.2.1 - X.z, H.2.2 - X.u⟩ a q B ∧
      Steps X.p.tables X.e X.below (T.setTop (F0 X.m pc lsA st)) ((B.U.setTop { (F0 X.m pc lsA st) with stack := rest }).pushFrame (.throwing q))))
    (k : am_kont Y X out pc (pc + len) ls rest Hf) : ∃ t, Steps X.p.tables X.e X.below (T.setTop (F0 X.m pc lsA st)) t ∧ X.Q t := by
  obtain ⟨g1, g2, -, -⟩ := hro
  obtain ⟨m1, m2⟩ := hmono
  rcases hres with ⟨v, vm₁, ⟨U', l2, c2, s2⟩, -, S', ⟨rfl, hRf, ⟨L, e1, hL2⟩, e2, e3⟩, step⟩ | ⟨q, vm₁, ⟨U', l2, c2, s2⟩, -, S', ⟨rfl, hRf, ⟨L, e1, hL2⟩, e2, e3⟩, step⟩
  · dsimp only [Pt.U, Pt.locs, Pt.cells, Pt.slots] at e1 e2 e3 S' hRf step
    have hl2 : ∀ z ∈ l2, Y.base ≤ z.base := fun z hz => by
      rw [e1] at hz
      rcases List.mem_append.mp hz with h | h
      · exact hl z h
      · exact hL2 z h
    have k' : am_W Y X (pc + len) ls (v.toList ++ rest) Hf := k
    have h := k' U'.heap lsA l2 hRf hL hl2
    rw [show Hf.2.1 - X.z = c2 by omega, show Hf.2.2 - X.u = s2 by omega] at h
    obtain ⟨t, a1, b1⟩ := h U' rfl S'
    exact ⟨t, step t a1, b1⟩
  · dsimp only [Pt.U, Pt.locs, Pt.cells, Pt.slots] at e1 e2 e3 S' hRf step
    have hl2 : ∀ z ∈ l2, Y.base ≤ z.base := fun z hz => by
      rw [e1] at hz
      rcases List.mem_append.mp hz with h | h
      · exact hl z h
      · exact hL2 z h
    have k' : am_V Y X pc ls q Hf := k
    have h := k' U'.heap lsA l2 rest hRf hL hl2
    rw [show Hf.2.1 - X.z = c2 by omega, show Hf.2.2 - X.u = s2 by omega] at h
    obtain ⟨t, a1, b1⟩ := h U' rfl S'
    exact ⟨t, step.trans a1, b1⟩
theorem am_preC {Hm : Heap} {T : State} (hR : am_R Y H Hm) (hT : T.heap = Hm) (hmono : H.2.1 ≤ Hf.2.1 ∧ H.2.2 ≤ Hf.2.2) (hro : am_room X H) (hrf : am_room X Hf) {locs : List Jvm.Loc} : ∀ vm₁, X.s.WarmedH vm₁ → am_PreC Y X.R as H Hf ⟨T.setVm vm₁, locs, H.2.1 - X.z, H.2.2 - X.u⟩ as.toArray := fun vm₁ _ => by
  obtain ⟨g1, g2, -, -⟩ := hro
  obtain ⟨-, -, g3, g4⟩ := hrf
  exact ⟨by show H.2.1 - X.z + _ ≤ _; omega, by show H.2.2 - X.u + _ ≤ _; omega, rfl, by show am_R Y H T.heap; rw [hT]; exact hR⟩
theorem am_nestM (hA : am_A Y X y cc) {b : String} {i : Nat} {x : MethodName} {h : String} (hw : Cond.methodLinkNest b i x h ∈ lw_tbl) : (Cond.methodLinkNest b i x h).before X.args X.s = true := by
  obtain ⟨a0, h0⟩ := hA.2.2.2.2.2.2.2.2.1
  exact va_Nw.use rfl (va_Nw.warmM hA.2.2.2.2.1 (va_Nw.of rfl (h0 _ hw)))
theorem am_pops_spec : ∀ (n : Nat) (acc st as rest : List Value), am_pops n acc st = some (as, rest) → ∃ bs, as = bs ++ acc ∧ bs.length = n ∧ st = bs.reverse ++ rest ∧ ∀ v ∈ bs, am_is2 v = false
  | 0, acc, st, as, rest, h => by cases h; exact ⟨[], rfl, rfl, rfl, fun _ h => by cases h⟩
  | n + 1, acc, [], as, rest, h => by cases h
  | n + 1, acc, v :: st, as, rest, h => by
    unfold am_pops at h
    split at h
    · cases h
    · rename_i hv
      obtain ⟨bs, rfl, hl, rfl, h2⟩ := am_pops_spec n (v :: acc) st as rest h
      refine ⟨bs ++ [v], by simp, by simp [hl], by simp, fun w hw => ?_⟩
      rcases List.mem_append.mp hw with q | q
      · exact h2 w q
      · rw [List.mem_singleton.mp q]; simpa using hv
theorem am_so_callS (hA : am_A Y X y cc) {L : Nat} {ret : Option FieldType} {hh : List (Nat × Nat × Nat × Nat)} (hB : am_B X L ret hh) (hLen : ls.length = L) {idx M M' : Nat} (hE : am_EC I n) (hlk : Cond.methodLink y.cls idx I.1 ∈ lw_all ∨ ∃ host, Cond.methodLinkNest y.cls idx I.1 host ∈ lw_tbl) (hst : Cond.static I.1 ∈ lw_all)
    (hM : am_MX Y X.l I d as H out Hf) (hD : am_deep X d) (hmono : H.2.1 ≤ Hf.2.1 ∧ H.2.2 ≤ Hf.2.2) (hro : am_room X H) (hrf : am_room X Hf) (hd : decode cc pc = .ok (.invokestatic idx, 3)) (hs : am_callS M n st = am_cl M' as rest) (k : am_kont Y X out pc (pc + 3) ls rest Hf) : am_W Y X pc ls st H := by
  have hts := hA.2.2.2.2.2.2.2.1
  unfold am_callS at hs
  split at hs
  · rename_i as' rest' hp
    split at hs
    · rename_i hcut
      cases hs
      obtain ⟨bs, e0, hn, rfl, -⟩ := am_pops_spec _ _ _ _ _ hp
      rw [List.append_nil] at e0
      subst e0
      have hsum := am_cut_sum _ _ hcut
      intro Hm lsA locs hR hL hl T hT S
      refine am_fin (a := as.toArray) hL hl hmono hro ?_ k
      rcases hlk with hlk | ⟨host, hlk⟩
      · exact am_xcallS S hA.1 hA.2.2.1 (hts _ hlk) (hts _ hst) (hts _ hE.2.1) (am_kcOf hA hE) hE.2.2.1 (am_backX hA hM hE hD) (g := F0 X.m pc lsA _) rfl (by rw [hB.1, ← hLen]; exact hL.1) (am_nlen hE hn) rfl (by show 2 * 0 + _ ≤ _; omega) (by rw [hA.2.1]; exact hd) (am_preC hR hT hmono hro hrf)
      · exact am_xcallSN S hA.1 hA.2.2.1 (am_nestM hA hlk) (hts _ hst) (hts _ hE.2.1) (am_kcOf hA hE) hE.2.2.1 (am_backX hA hM hE hD) (g := F0 X.m pc lsA _) rfl (by rw [hB.1, ← hLen]; exact hL.1) (am_nlen hE hn) rfl (by show 2 * 0 + _ ≤ _; omega) (by rw [hA.2.1]; exact hd) (am_preC hR hT hmono hro hrf)
    · cases hs
  · cases hs
theorem am_callI_spec {M : Nat} {r : am_S} (hs : am_callI M n st = some r) : ∃ as a rest, st = as.reverse ++ .ref a :: rest ∧ as.length = n ∧ am_cut 10 rest = true ∧ (.inr (.inl (M, .ref a :: as, rest)) : am_S) = r := by
  unfold am_callI at hs
  split at hs
  · rename_i as a rest hp
    split at hs
    · rename_i hcut
      obtain ⟨bs, e0, hn, rfl, -⟩ := am_pops_spec _ _ _ _ _ hp
      rw [List.append_nil] at e0
      subst e0
      exact ⟨as, a, rest, rfl, hn, hcut, Option.some.inj hs⟩
    · cases hs
  · cases hs
theorem am_callV_spec {tb : List Nat} {r : am_S} (hs : am_callV n tb st H = some r) : ∃ as a rest k vs M, st = as.reverse ++ .ref a :: rest ∧ as.length = n ∧ am_cut 10 rest = true ∧ H.1 a = some (k, vs) ∧ am_vt k tb = some M ∧ (.inr (.inl (M, .ref a :: as, rest)) : am_S) = r := by
  unfold am_callV at hs
  split at hs
  · rename_i as a rest hp
    split at hs
    · rename_i k vs hH
      split at hs
      · rename_i M hM
        split at hs
        · rename_i hcut
          obtain ⟨bs, e0, hn, rfl, -⟩ := am_pops_spec _ _ _ _ _ hp
          rw [List.append_nil] at e0
          subst e0
          exact ⟨as, a, rest, k, vs, M, rfl, hn, hcut, hH, hM, Option.some.inj hs⟩
        · cases hs
      · cases hs
    · cases hs
  · cases hs
/-- a constructor's call -/
def am_EVI (own : String) (idx : Nat) (I : am_I) : Prop := I.1.name = "<init>" ∧ (Cond.methodLink own idx I.1 ∈ lw_all ∨ ∃ host, Cond.methodLinkNest own idx I.1 host ∈ lw_tbl) ∧ Cond.instanceMethod I.1 ∈ lw_all ∧ I.2.2.2.1 = none ∧ I.2.2.2.2 = []
/-- a call of a superclass's method -/
def am_EVU (own : String) (idx : Nat) (I : am_I) : Prop := I.1.name ≠ "<init>" ∧ Cond.methodLink own idx I.1 ∈ lw_all ∧ Cond.sameMethod I.1.cls I.1.cls I.1.name I.1.desc ∈ lw_all ∧ Cond.superclass own I.1.cls ∈ lw_all ∧ Cond.instanceMethod I.1 ∈ lw_all
theorem am_so_callI (hA : am_A Y X y cc) {L : Nat} {ret : Option FieldType} {hh : List (Nat × Nat × Nat × Nat)} (hB : am_B X L ret hh) (hLen : ls.length = L) {idx M M' : Nat} (hE : am_EC I n) (hV : am_EVI y.cls idx I)
    (hM : am_MX Y X.l I d as H out Hf) (hD : am_deep X d) (hmono : H.2.1 ≤ Hf.2.1 ∧ H.2.2 ≤ Hf.2.2) (hro : am_room X H) (hrf : am_room X Hf) (hd : decode cc pc = .ok (.invokespecial idx, 3)) (hs : am_callI M n st = am_cl M' as rest) (k : am_kont Y X out pc (pc + 3) ls rest Hf) : am_W Y X pc ls st H := by
  have hts := hA.2.2.2.2.2.2.2.1
  obtain ⟨as', a, rest', rfl, hn, hcut, e⟩ := am_callI_spec hs
  cases e
  have hsum := am_cut_sum _ _ hcut
  intro Hm lsA locs hR hL hl T hT S
  refine am_fin (a := (Value.ref a :: as').toArray) hL hl hmono hro ?_ k
  obtain ⟨i1, i2, i3, i4, i5⟩ := hV
  have hcw : am_cw I = Cond.code I.1 I.2.1 I.2.2.1 none := by unfold am_cw; rw [if_pos i5, i4]
  have hc := hts _ hE.1
  rw [hcw] at hc
  rcases i2 with hlk | ⟨host, hlk⟩
  · exact vx_callI S hA.1 hA.2.2.1 i1 (hts _ hlk) (hts _ i3) hc hE.2.2.1 (am_backX hA hM hE hD) (g := F0 X.m pc lsA _) rfl (by rw [hB.1, ← hLen]; exact hL.1) (am_nlen hE hn) rfl (by show 2 * 0 + _ ≤ _; omega) (by rw [hA.2.1]; exact hd) (am_preC hR hT hmono hro hrf)
  · exact vx_callIN S hA.1 hA.2.2.1 i1 (am_nestM hA hlk) (hts _ i3) hc hE.2.2.1 (am_backX hA hM hE hD) (g := F0 X.m pc lsA _) rfl (by rw [hB.1, ← hLen]; exact hL.1) (am_nlen hE hn) rfl (by show 2 * 0 + _ ≤ _; omega) (by rw [hA.2.1]; exact hd) (am_preC hR hT hmono hro hrf)
theorem am_callU_spec {M : Nat} {r : am_S} (hs : am_callU M n st H = some r) : ∃ as a rest k vs, st = as.reverse ++ .ref a :: rest ∧ as.length = n ∧ am_cut 10 rest = true ∧ H.1 a = some (k, vs) ∧ k < 1000 ∧ (.inr (.inl (M, .ref a :: as, rest)) : am_S) = r := by
  unfold am_callU at hs
  split at hs
  · rename_i as a rest hp
    split at hs
    · rename_i k vs hH
      split at hs
      · rename_i hcut
        simp only [Bool.and_eq_true, decide_eq_true_eq] at hcut
        obtain ⟨bs, e0, hn, rfl, -⟩ := am_pops_spec _ _ _ _ _ hp
        rw [List.append_nil] at e0
        subst e0
        exact ⟨as, a, rest, k, vs, rfl, hn, hcut.2, hH, hcut.1, Option.some.inj hs⟩
      · cases hs
    · cases hs
  · cases hs
theorem am_so_callU (hA : am_A Y X y cc) {L : Nat} {ret : Option FieldType} {hh : List (Nat × Nat × Nat × Nat)} (hB : am_B X L ret hh) (hLen : ls.length = L) {idx M M' : Nat} (hE : am_EC I n) (hV : am_EVU y.cls idx I)
    (hM : am_MX Y X.l I d as H out Hf) (hD : am_deep X d) (hmono : H.2.1 ≤ Hf.2.1 ∧ H.2.2 ≤ Hf.2.2) (hro : am_room X H) (hrf : am_room X Hf) (hd : decode cc pc = .ok (.invokespecial idx, 3)) (hs : am_callU M n st H = am_cl M' as rest) (k : am_kont Y X out pc (pc + 3) ls rest Hf) : am_W Y X pc ls st H := by
  have hts := hA.2.2.2.2.2.2.2.1
  obtain ⟨as', a, rest', kq, vq, rfl, hn, hcut, hq, hlt, e⟩ := am_callU_spec hs
  cases e
  have hsum := am_cut_sum _ _ hcut
  intro Hm lsA locs hR hL hl T hT S
  refine am_fin (a := (Value.ref a :: as').toArray) hL hl hmono hro ?_ k
  obtain ⟨u1, u2, u3, u4, u5⟩ := hV
  obtain ⟨x, hx, hc⟩ := hR.2.2.2 a _ hq
  rcases hc.2.2.2 with ⟨-, hcl, r, hr, -⟩ | ⟨hge, -⟩
  · obtain ⟨hS, hfc, kB, hkB, -⟩ := hA.2.2.2.2.2.1.1 kq r hr
    exact am_xcallSU S hA.1 hA.2.2.1 (hts _ u2) (hts _ u3) (hts _ u4) (hts _ u5) (am_kcOf hA hE) u1 (am_backX hA hM hE hD) (b := a) (cellB := x) (kB := kB) (by rw [hT]; exact hx) hc.2.1 (by rw [hcl]; exact hkB) (g := F0 X.m pc lsA _) rfl (by rw [hB.1, ← hLen]; exact hL.1) (am_nlen hE hn) rfl (by show 2 * 0 + _ ≤ _; omega) (by rw [hA.2.1]; exact hd) (am_preC hR hT hmono hro hrf)
  · dsimp only at hge; omega
/-- a call through an object of the class named C -/
def am_EVV (C own : String) (idx : Nat) (I : am_I) : Prop := Cond.instanceMethod I.1 ∈ lw_all ∧
  (((Cond.methodLink own idx I.1 ∈ lw_all ∨ ∃ host, Cond.methodLinkNest own idx I.1 host ∈ lw_tbl) ∧ Cond.selects C I.1 I.1 ∈ lw_all) ∨
   (∃ (x : MethodName) (owner : String), x.desc = I.1.desc ∧ Cond.methodLink own idx x ∈ lw_all ∧ Cond.sameMethod x.cls owner x.name x.desc ∈ lw_all ∧ (Cond.declares ⟨owner, x.name, x.desc⟩ ∈ lw_tbl ∨ (Cond.instanceMethod ⟨owner, x.name, x.desc⟩ ∈ lw_all ∧ ∃ I0 : am_I, I0.1 = ⟨owner, x.name, x.desc⟩ ∧ am_cw I0 ∈ lw_all)) ∧ (owner ≠ "java/lang/invoke/MethodHandle" ∧ owner ≠ "java/lang/invoke/VarHandle") ∧ Cond.selects C x I.1 ∈ lw_all) ∨
   (Cond.methodLink own idx I.1 ∈ lw_all ∧ Cond.sameMethod I.1.cls I.1.cls I.1.name I.1.desc ∈ lw_all ∧ Cond.privateMethod I.1 ∈ lw_tbl))
/-- a call through an interface, on an object of the class named C -/
def am_EVF (C own : String) (idx : Nat) (I : am_I) : Prop := Cond.instanceMethod I.1 ∈ lw_all ∧ ∃ x : MethodName, x.desc = I.1.desc ∧ Cond.methodLink own idx x ∈ lw_all ∧ Cond.selects C x I.1 ∈ lw_all ∧ Cond.declares x ∈ lw_tbl ∧ Cond.interfaceMethod x.cls x.cls x.name x.desc ∈ lw_tbl ∧ Cond.publicMethod I.1 ∈ lw_tbl ∧ Cond.unhidden C x.name x.desc ∈ lw_tbl ∧ Cond.castable C x.cls ∈ lw_tbl ∧ (x.cls ≠ "java/lang/invoke/MethodHandle" ∧ x.cls ≠ "java/lang/invoke/VarHandle")
theorem am_so_callV (hA : am_A Y X y cc) {L : Nat} {ret : Option FieldType} {hh : List (Nat × Nat × Nat × Nat)} (hB : am_B X L ret hh) (hLen : ls.length = L) {idx M' : Nat} {tb : List Nat} (hE : am_EC I n) (hV : ∀ k, am_vt k tb = some M' → ∃ r, Y.cl[k]? = some r ∧ k < 1000 ∧ am_EVV r.1 y.cls idx I)
    (hM : am_MX Y X.l I d as H out Hf) (hD : am_deep X d) (hmono : H.2.1 ≤ Hf.2.1 ∧ H.2.2 ≤ Hf.2.2) (hro : am_room X H) (hrf : am_room X Hf) (hd : decode cc pc = .ok (.invokevirtual idx, 3)) (hs : am_callV n tb st H = am_cl M' as rest) (k : am_kont Y X out pc (pc + 3) ls rest Hf) : am_W Y X pc ls st H := by
  have hts := hA.2.2.2.2.2.2.2.1
  obtain ⟨as', a, rest', kk, vs, M, rfl, hn, hcut, hH, hvt, e⟩ := am_callV_spec hs
  cases e
  have hsum := am_cut_sum _ _ hcut
  obtain ⟨r, hr, hlt, hins, hV⟩ := hV kk hvt
  intro Hm lsA locs hR hL hl T hT S
  refine am_fin (a := (Value.ref a :: as').toArray) hL hl hmono hro ?_ k
  obtain ⟨x, hx, hc⟩ := hR.2.2.2 a _ hH
  rcases hc.2.2.2 with ⟨-, hcl, r', hr', -⟩ | ⟨hge, -⟩
  · cases hr.symm.trans hr'
    obtain ⟨hS, hfc, kB, hkB, -⟩ := hA.2.2.2.2.2.1.1 kk r hr
    have hfx : X.s.vm.findClass r.1 = some x.cls := by rw [hcl]; exact hfc
    rcases hV with ⟨hlk | ⟨host, hlk⟩, hsel⟩ | ⟨x0, owner, hdesc, hlk, hsm, hdec, how, hsel⟩ | ⟨hlk, hsm, hpv⟩
    · exact am_xcallV S hA.1 hA.2.2.1 (hts _ hlk) (hts _ hins) (hts _ hsel) (am_kcOf hA hE) hE.2.2.1 (am_backX hA hM hE hD) (b := a) (cellB := x) (by rw [hT]; exact hx) hc.2.1 hfx (g := F0 X.m pc lsA _) rfl (by rw [hB.1, ← hLen]; exact hL.1) (am_nlen hE hn) rfl (by show 2 * 0 + _ ≤ _; omega) (by rw [hA.2.1]; exact hd) (am_preC hR hT hmono hro hrf)
    · exact am_xcallVN S hA.1 hA.2.2.1 (am_nestM hA hlk) (hts _ hins) (hts _ hsel) (am_kcOf hA hE) hE.2.2.1 (am_backX hA hM hE hD) (b := a) (cellB := x) (by rw [hT]; exact hx) hc.2.1 hfx (g := F0 X.m pc lsA _) rfl (by rw [hB.1, ← hLen]; exact hL.1) (am_nlen hE hn) rfl (by show 2 * 0 + _ ≤ _; omega) (by rw [hA.2.1]; exact hd) (am_preC hR hT hmono hro hrf)
    · have hD0 : va_Decl X.s ⟨owner, x0.name, x0.desc⟩ := by
        rcases hdec with hdec | ⟨hi0, I0, e0, hc0⟩
        · obtain ⟨a0, h0⟩ := hA.2.2.2.2.2.2.2.2.1
          exact va_Decl.abs (va_Nw.warmD hA.2.2.2.2.1 (va_Nw.of rfl (h0 _ hdec)))
        · obtain ⟨r0, rm, hn0, hrm, hst, -⟩ := Cond.instanceMethod_spec (hts _ hi0)
          obtain ⟨mk, meth, c, g1, g2, -, -, -, -, -, -, g3⟩ := am_cw_spec (hts _ hc0)
          rw [e0] at g1 g3
          cases hn0.symm.trans g1
          cases hrm.symm.trans g2
          exact ⟨r0, rm, hn0, hrm, hst, g3⟩
      exact am_xcallVU S hA.1 hA.2.2.1 (hts _ hlk) (hts _ hsm) hD0 how (hts _ hsel) (hts _ hins) (am_kcOf hA hE) (am_backX hA hM hE hD) (b := a) (cellB := x) (by rw [hT]; exact hx) hc.2.1 hfx (g := F0 X.m pc lsA _) rfl (by rw [hB.1, ← hLen]; exact hL.1) (by rw [hdesc]; exact am_nlen hE hn) rfl (by show 2 * 0 + _ ≤ _; omega) (by rw [hA.2.1]; exact hd) (am_preC hR hT hmono hro hrf)
    · have hpv' : (Cond.privateMethod I.1).before X.args X.s = true := by
        obtain ⟨a0, h0⟩ := hA.2.2.2.2.2.2.2.2.1
        exact Cond.privateMethod_warm hA.2.2.2.2.1 (h0 _ hpv)
      exact am_xcallVP S hA.1 hA.2.2.1 (hts _ hlk) (hts _ hins) (hts _ hsm) hpv' (am_kcOf hA hE) hE.2.2.1 (am_backX hA hM hE hD) (b := a) (cellB := x) (by rw [hT]; exact hx) hc.2.1 (g := F0 X.m pc lsA _) rfl (by rw [hB.1, ← hLen]; exact hL.1) (am_nlen hE hn) rfl (by show 2 * 0 + _ ≤ _; omega) (by rw [hA.2.1]; exact hd) (am_preC hR hT hmono hro hrf)
  · dsimp only at hge; omega
theorem am_so_callF (hA : am_A Y X y cc) {L : Nat} {ret : Option FieldType} {hh : List (Nat × Nat × Nat × Nat)} (hB : am_B X L ret hh) (hLen : ls.length = L) {idx cnt M' : Nat} {tb : List Nat} (hE : am_EC I n) (hV : ∀ k, am_vt k tb = some M' → ∃ r, Y.cl[k]? = some r ∧ k < 1000 ∧ am_EVF r.1 y.cls idx I)
    (hM : am_MX Y X.l I d as H out Hf) (hD : am_deep X d) (hmono : H.2.1 ≤ Hf.2.1 ∧ H.2.2 ≤ Hf.2.2) (hro : am_room X H) (hrf : am_room X Hf) (hd : decode cc pc = .ok (.invokeinterface idx cnt, 5)) (hs : am_callV n tb st H = am_cl M' as rest) (k : am_kont Y X out pc (pc + 5) ls rest Hf) : am_W Y X pc ls st H := by
  have hts := hA.2.2.2.2.2.2.2.1
  obtain ⟨as', a, rest', kk, vs, M, rfl, hn, hcut, hH, hvt, e⟩ := am_callV_spec hs
  cases e
  have hsum := am_cut_sum _ _ hcut
  obtain ⟨r, hr, hlt, hins, x0, hdesc, hlk, hsel, f1, f2, f3, f4, f5, hx0⟩ := hV kk hvt
  intro Hm lsA locs hR hL hl T hT S
  refine am_fin (a := (Value.ref a :: as').toArray) hL hl hmono hro ?_ k
  obtain ⟨x, hx, hc⟩ := hR.2.2.2 a _ hH
  rcases hc.2.2.2 with ⟨-, hcl, r', hr', -⟩ | ⟨hge, -⟩
  · cases hr.symm.trans hr'
    obtain ⟨hS, hfc, kB, hkB, -⟩ := hA.2.2.2.2.2.1.1 kk r hr
    have hfx : X.s.vm.findClass r.1 = some x.cls := by rw [hcl]; exact hfc
    obtain ⟨a0, h0⟩ := hA.2.2.2.2.2.2.2.2.1
    obtain ⟨w1, w2, w3, w4, w5⟩ := va_Fw.moved hx0 hA.2.2.2.2.1.alike (va_Fw.of (h0 _ f1) (h0 _ f2) (h0 _ f3) (h0 _ f4) (h0 _ f5))
    exact am_xcallIF S hA.1 hA.2.2.1 (hts _ hlk) (va_any rfl w1) (va_any rfl w2) (hts _ hsel) (hts _ hins) (va_any rfl w3) (va_any rfl w4) (va_any rfl w5) (am_kcOf hA hE) hx0 (am_backX hA hM hE hD) (b := a) (cellB := x) (kB := kB) (by rw [hT]; exact hx) hc.2.1 hfx (by rw [hcl]; exact hkB) (g := F0 X.m pc lsA _) rfl (by rw [hB.1, ← hLen]; exact hL.1) (by rw [hdesc]; exact am_nlen hE hn) rfl (by show 2 * 0 + _ ≤ _; omega) (by rw [hA.2.1]; exact hd) (am_preC hR hT hmono hro hrf)
  · dsimp only at hge; omega
end AMS
