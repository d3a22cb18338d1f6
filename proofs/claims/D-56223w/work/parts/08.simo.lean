/-! new objects and arrays, casts, constants, ends -/
theorem W_mono {p : Program} {l : Launch} {e : Env} {R : Room} {s : State} {m : MethodId} {args : Array Value} {below : List Frame} {meth : Method} {c : Code} {H : Heap} {locs : List Jvm.Loc} {cells slots : Nat} {Q Q' : State → Prop} {g : JFrame} (h : ∀ t, Q t → Q' t) (k : W p l e R s m args below meth c H locs cells slots Q g) : W p l e R s m args below meth c H locs cells slots Q' g := by
  intro T hT X
  obtain ⟨t, a, b⟩ := k T hT X
  exact ⟨t, a, h t b⟩
/-- how a method's end says what the abstract run says -/
def am_QX (Y : am_Y) (s : State) (out : am_O) (Hf : am_H) (mc ms : Nat) (o : Outcome) (t : State) : Prop :=
  (∃ v, out = .ok v ∧ o = .returned v ∧ am_R Y Hf t.heap ∧ ∃ L, FrameEnd s o t L mc ms ∧ ∀ q ∈ L, Y.base ≤ q.base) ∨
  ∃ (q : Addr) (ce : Cell) (L : List Jvm.Loc), out = .error q ∧ o = .threw q ∧ am_R Y Hf t.heap ∧ t.heap[q]? = some ce ∧ ce.vm = .none ∧ s.WarmedH t.vm ∧ s.sameButNew ({ t with vm := s.vm } : State) L mc ms ∧ ∀ z ∈ L, Y.base ≤ z.base
def am_End (Y : am_Y) (X : am_X) (out : am_O) (Hf : am_H) : Prop := ∀ t, (∃ o, t.status = .running ∧ Ended t X.below o ∧ am_QX Y X.s out Hf (Hf.2.1 - X.z) (Hf.2.2 - X.u) o t) → X.Q t
/-- the rest of what is known of an activation -/
def am_B (X : am_X) (L : Nat) (ret : Option FieldType) (hh : List (Nat × Nat × Nat × Nat)) : Prop := X.c.maxLocals = L ∧ X.meth.sig.returnType = ret ∧ X.meth.locks = false ∧ X.c.exceptionTable.toList.map (fun h => (h.startPc, h.endPc, h.handlerPc, h.catchType)) = hh
section AMO
variable {Y : am_Y} {X : am_X} {y : MethodName} {cc : ByteArray} {pc n : Nat} {ls st : List Value} {H : am_H} {pc' : Nat} {ls' st' : List Value} {H' : am_H} {L : Nat} {ret : Option FieldType} {hh : List (Nat × Nat × Nat × Nat)} {E : Nat → Nat}
/-! ends -/
theorem am_ended {v : Option Value} (hE : am_End Y X (.ok v) H) {t : State} (h : MQ X.below (fun _ _ o t => o = .returned v ∧ am_R Y H t.heap) X.args X.s (H.2.1 - X.z) (H.2.2 - X.u) (fun q => Y.base ≤ q) t) : X.Q t := by
  obtain ⟨o, h1, h2, ⟨h3, h4⟩, L, h5, h6⟩ := h
  exact hE t ⟨o, h1, h2, Or.inl ⟨v, rfl, h3, h4, L, h5, h6⟩⟩
theorem am_ret_spec {ok : Value → Bool} {r : am_S} (hs : am_ret ok ls st H = some r) : ∃ v, st = [v] ∧ ok v = true ∧ (.inr (.inr (.inl (some v))) : am_S) = r := by
  unfold am_ret at hs
  split at hs
  · split at hs
    · rename_i h; exact ⟨_, rfl, h, Option.some.inj hs⟩
    · cases hs
  · cases hs
theorem am_so_return (hA : am_A Y X y cc) (hB : am_B X L none hh) (hd : decode cc pc = .ok (.return_, 1)) {v : Option Value} (hs : am_retV st = am_rt v) (hE : am_End Y X (.ok v) H) : am_W Y X pc ls st H := by
  unfold am_retV at hs
  split at hs
  · cases hs
    intro Hm lsA locs hR hL hl
    exact W_mono (fun t h => am_ended hE h) (W.vret (Qc := fun _ _ o t => o = .returned none ∧ am_R Y H t.heap) (free := fun q => Y.base ≤ q) hA.1 hA.2.1 hB.2.1 (fun t ht _ => ⟨rfl, by rw [ht]; exact hR⟩) hl hd hB.2.2.1)
  · cases hs
theorem am_so_ireturn (hA : am_A Y X y cc) {t : Nat} {ty : FieldType} (hty : am_tyk t ty) (hB : am_B X L (some ty) hh) (hd : decode cc pc = .ok (.ireturn, 1)) {v : Option Value} (hs : am_retI [t] st = am_rt v) (hE : am_End Y X (.ok v) H) : am_W Y X pc ls st H := by
  unfold am_retI at hs
  split at hs
  · rename_i t' x heq
    cases heq
    split at hs
    · rename_i hw
      cases hs
      intro Hm lsA locs hR hL hl
      exact W_mono (fun t h => am_ended hE h) (W.zret (Qc := fun _ _ o t => o = .returned (some (.int x)) ∧ am_R Y H t.heap) (free := fun q => Y.base ≤ q) hA.1 hA.2.1 hB.2.1 (am_fit_spec hty hw).1 (fun t ht _ => ⟨rfl, by rw [ht]; exact hR⟩) hl hd hB.2.2.1)
    · cases hs
  · cases hs
theorem am_so_lreturn (hA : am_A Y X y cc) (hB : am_B X L (some .long) hh) (hd : decode cc pc = .ok (.lreturn, 1)) {v : Option Value} (hs : am_retL st = am_rt v) (hE : am_End Y X (.ok v) H) : am_W Y X pc ls st H := by
  unfold am_retL at hs
  split at hs
  · rename_i x
    cases hs
    intro Hm lsA locs hR hL hl
    exact W_mono (fun t h => am_ended hE h) (W.lret (Qc := fun _ _ o t => o = .returned (some (.long x)) ∧ am_R Y H t.heap) (free := fun q => Y.base ≤ q) hA.1 hA.2.1 hB.2.1 (fun t ht _ => ⟨rfl, by rw [ht]; exact hR⟩) hl hd hB.2.2.1)
  · cases hs
theorem am_so_freturn (hA : am_A Y X y cc) (hB : am_B X L (some .float) hh) (hd : decode cc pc = .ok (.freturn, 1)) {v : Option Value} (hs : am_retF st = am_rt v) (hE : am_End Y X (.ok v) H) : am_W Y X pc ls st H := by
  unfold am_retF at hs
  split at hs
  · rename_i x
    cases hs
    intro Hm lsA locs hR hL hl
    exact W_mono (fun t h => am_ended hE h) (W.fret (Qc := fun _ _ o t => o = .returned (some (.float x)) ∧ am_R Y H t.heap) (free := fun q => Y.base ≤ q) hA.1 hA.2.1 hB.2.1 (fun t ht _ => ⟨rfl, by rw [ht]; exact hR⟩) hl hd hB.2.2.1)
  · cases hs
theorem am_so_dreturn (hA : am_A Y X y cc) (hB : am_B X L (some .double) hh) (hd : decode cc pc = .ok (.dreturn, 1)) {v : Option Value} (hs : am_retD st = am_rt v) (hE : am_End Y X (.ok v) H) : am_W Y X pc ls st H := by
  unfold am_retD at hs
  split at hs
  · rename_i x
    cases hs
    intro Hm lsA locs hR hL hl
    exact W_mono (fun t h => am_ended hE h) (W.dret (Qc := fun _ _ o t => o = .returned (some (.double x)) ∧ am_R Y H t.heap) (free := fun q => Y.base ≤ q) hA.1 hA.2.1 hB.2.1 (fun t ht _ => ⟨rfl, by rw [ht]; exact hR⟩) hl hd hB.2.2.1)
  · cases hs
theorem am_so_areturn (hA : am_A Y X y cc) {ty : FieldType} (hty : (∃ n, ty = .object n) ∨ ∃ t, ty = .array t) (hB : am_B X L (some ty) hh) (hd : decode cc pc = .ok (.areturn, 1)) {v : Option Value} (hs : am_ret am_isR ls st H = am_rt v) (hE : am_End Y X (.ok v) H) : am_W Y X pc ls st H := by
  obtain ⟨w, rfl, hw, e⟩ := am_ret_spec hs
  cases e
  intro Hm lsA locs hR hL hl
  exact W_mono (fun t h => am_ended hE h) (W.aret (Qc := fun _ _ o t => o = .returned (some w) ∧ am_R Y H t.heap) (free := fun q => Y.base ≤ q) hA.1 hA.2.1 hB.2.1 hty (by cases w <;> first | (cases hw; done) | exact Or.inl rfl | exact Or.inr ⟨_, rfl⟩) (fun t ht _ => ⟨rfl, by rw [ht]; exact hR⟩) hl hd hB.2.2.1)
end AMO
/-! objects -/
def am_NW (cl : List vw_C) (own : String) (idx k w : Nat) (ts : List Nat) : Prop := ∃ r : vw_C, cl[k]? = some r ∧ Cond.classLink own idx r.1 ∈ lw_all ∧ Cond.instantiable r.1 w ∈ lw_all ∧ Cond.initialized r.1 ∈ lw_all ∧ ts.length = r.2.2 ∧ ∀ j t, ts[j]? = some t → (parseFieldDescriptor (r.2.1 j).2.2.1).map defaultValue = some (am_df t)
section AMN
variable {Y : am_Y} {X : am_X} {y : MethodName} {cc : ByteArray} {pc n : Nat} {ls st : List Value} {H : am_H} {pc' : Nat} {ls' st' : List Value} {H' : am_H} {E : Nat → Nat}
theorem am_so_new (hA : am_A Y X y cc) (hC : am_CL Y) {idx k w : Nat} {ts : List Nat} (hN : am_NW Y.cl y.cls idx k w ts) (hd : decode cc pc = .ok (.new idx, 3)) (hro : am_room X H) (hro' : am_room X H') (hs : am_newo (0 :: k :: w :: ts) (pc + 3) ls st H = am_nx pc' ls' st' H') (kk : am_W Y X pc' ls' st' H') : am_W Y X pc ls st H := by
  obtain ⟨r, hr, hlk, hin, hini, hlen, hty⟩ := hN
  cases hs
  obtain ⟨g1, g2, -, -⟩ := hro
  obtain ⟨-, -, g3, g4⟩ := hro'
  simp only [am_new] at g3 g4
  have hts := hA.2.2.2.2.2.2.2.1
  obtain ⟨hS, hfc, kC0, hkC0, hkind⟩ := hA.2.2.2.2.2.1.1 k r hr
  intro Hm lsA locs hR hL hl
  refine W.newcK hA.1 hA.2.1 hA.2.2.1 (hts _ hlk) (hts _ hin) (hts _ hini) rfl hd (by omega) (by omega) hfc hR.1 fun H1 kC hkC e1 e2 e3 => ?_
  have hcell : am_cell Y Hm.size (k, ts.map am_df) (blank (Y.D.1 k) kC) := by
    refine ⟨(fun h => by cases h), rfl, fun _ => rfl, Or.inl ⟨(hC k r hr).1, rfl, r, hr, by simpa using hlen, fun j v hv => ?_⟩⟩
    simp only [List.getElem?_map, Option.map_eq_some_iff] at hv
    obtain ⟨t, ht, rfl⟩ := hv
    have hj : j < r.2.2 := by rw [← hlen]; exact (List.getElem?_eq_some_iff.mp ht).1
    obtain ⟨cf, kf, fi, fd, hi, he⟩ := hS j hj
    have h1 := hty j t ht
    cases hp : parseFieldDescriptor (r.2.1 j).2.2.1 with
    | none => rw [hp] at h1; cases h1
    | some ty =>
      rw [hp] at h1
      have h3 := (u_facts hfc hkC (u_lays hts (hC k r hr).2.1 hj) hi).2.2
      rw [(State.fieldFound?_type hi hp).2] at h3
      dsimp only
      rw [← he, ← Option.some.inj h1]
      exact k2_blank h3
  have h := kk H1 lsA locs (am_R_new hR (by rw [e2, hR.1]) (by rw [hR.1]; exact e3) ⟨_, by rw [hR.1]; exact e1, hcell⟩) hL hl
  simp only [am_new] at h
  rw [show H.2.1 + 1 - X.z = H.2.1 - X.z + 1 by omega, show H.2.2 + w - X.u = H.2.2 - X.u + w by omega] at h
  exact h
/-! casts -/
def am_CO (cl : List vw_C) (nm : String) (k : Nat) : Prop := (∃ r : vw_C, cl[k]? = some r ∧ (r.1 = nm ∨ Cond.castable r.1 nm ∈ lw_tbl)) ∨ ∃ t ty, k = 1000 + t ∧ am_aty t = some ty ∧ nm = "[" ++ ty.toString
theorem am_isR_cls (hA : am_A Y X y cc) (hC : am_CL Y) {nm : String} {a k : Nat} {vs : List Value} {x : Cell} (hk : am_CO Y.cl nm k) (hx : am_cell Y a (k, vs) x) : ∃ cT, X.s.vm.findClass nm = some cT ∧ X.s.vm.assignable x.cls cT = true := by
  obtain ⟨-, -, -, hc⟩ := hx
  rcases hk with ⟨r, hr, hnm⟩ | ⟨t, ty, rfl, hty, rfl⟩
  · have hcls := hA.2.2.2.2.2.1.1 k r hr
    rcases hc with ⟨-, hcl, -⟩ | ⟨hge, -⟩
    · rcases hnm with rfl | hw
      · exact ⟨_, hcls.2.1, by rw [hcl]; exact va_assign hcls.2⟩
      · obtain ⟨c0, t0, f1, f2, f3⟩ := Cond.castable_spec (am_castW hA hw)
        cases hcls.2.1.symm.trans f1
        exact ⟨_, f2, by rw [hcl]; exact f3⟩
    · have := (hC k r hr).1
      dsimp only at hge
      omega
  · rcases hc with ⟨hlo, -⟩ | ⟨-, -, hcl, -⟩
    · dsimp only at hlo; omega
    · dsimp only at hcl
      rw [Nat.add_sub_cancel_left] at hcl
      have h := (hA.2.2.2.2.2.1.2 t ty hty).2
      refine ⟨Y.aC t, ?_, by rw [hcl]; exact va_asg _ _⟩
      unfold va_RA at h
      split at h
      · obtain ⟨kA, comp, -, -, -, h⟩ := h
        exact h
      · exact h
theorem am_cast_spec {ax : List Nat} {r : am_S} (hs : am_cast ax n ls st H = some r) : (∃ s, st = .null :: s ∧ (.inl (n, ls, .null :: s, H) : am_S) = r) ∨ ∃ a s k vs, st = .ref a :: s ∧ H.1 a = some (k, vs) ∧ k ∈ ax ∧ (.inl (n, ls, .ref a :: s, H) : am_S) = r := by
  unfold am_cast at hs
  split at hs
  · exact Or.inl ⟨_, rfl, Option.some.inj hs⟩
  · split at hs
    · rename_i k vs hH
      split at hs
      · rename_i h; exact Or.inr ⟨_, _, k, vs, rfl, hH, List.contains_iff_mem.mp h, Option.some.inj hs⟩
      · cases hs
    · cases hs
  · cases hs
theorem am_inst_spec {ax : List Nat} {r : am_S} (hs : am_inst ax n ls st H = some r) : (∃ s, st = .null :: s ∧ (.inl (n, ls, .int 0 :: s, H) : am_S) = r) ∨ ∃ a s k vs, st = .ref a :: s ∧ H.1 a = some (k, vs) ∧ k ∈ ax ∧ (.inl (n, ls, .int 1 :: s, H) : am_S) = r := by
  unfold am_inst at hs
  split at hs
  · exact Or.inl ⟨_, rfl, Option.some.inj hs⟩
  · split at hs
    · rename_i k vs hH
      split at hs
      · rename_i h; exact Or.inr ⟨_, _, k, vs, rfl, hH, List.contains_iff_mem.mp h, Option.some.inj hs⟩
      · cases hs
    · cases hs
  · cases hs
theorem am_so_checkcast (hA : am_A Y X y cc) (hC : am_CL Y) {idx : Nat} {nm : String} {ax : List Nat} (hlk : Cond.classLink y.cls idx nm ∈ lw_all) (hax : ∀ k ∈ ax, am_CO Y.cl nm k) (hd : decode cc pc = .ok (.checkcast idx, 3)) (hs : am_cast ax (pc + 3) ls st H = am_nx pc' ls' st' H') (k : am_W Y X pc' ls' st' H') : am_W Y X pc ls st H := by
  have hts := hA.2.2.2.2.2.2.2.1
  rcases am_cast_spec hs with ⟨s, rfl, e⟩ | ⟨a, s, kk, vs, rfl, hH, hk, e⟩
  · cases e
    exact fun Hm lsA locs hR hL hl => lv_castN hA.1 hA.2.1 hd (k Hm lsA locs hR hL hl)
  · cases e
    intro Hm lsA locs hR hL hl
    obtain ⟨x, hx, hc⟩ := hR.2.2.2 a _ hH
    obtain ⟨cT, h1, h2⟩ := am_isR_cls hA hC (hax kk hk) hc
    intro T hT S
    obtain ⟨vm', S', st⟩ := S.checkcastYes hA.1 hA.2.2.1 (hts _ hlk) (by rw [hT]; exact hx) hc.2.1 h1 h2 (g := F0 X.m pc lsA (.ref a :: s)) rfl rfl (by rw [hA.2.1]; exact hd)
    obtain ⟨t, a1, b1⟩ := k Hm lsA locs hR hL hl (T.setVm vm') hT S'
    exact ⟨t, st t a1, b1⟩
theorem am_so_instanceof (hA : am_A Y X y cc) (hC : am_CL Y) {idx : Nat} {nm : String} {ax : List Nat} (hlk : Cond.classLink y.cls idx nm ∈ lw_all) (hax : ∀ k ∈ ax, am_CO Y.cl nm k) (hd : decode cc pc = .ok (.instanceof idx, 3)) (hs : am_inst ax (pc + 3) ls st H = am_nx pc' ls' st' H') (k : am_W Y X pc' ls' st' H') : am_W Y X pc ls st H := by
  have hts := hA.2.2.2.2.2.2.2.1
  rcases am_inst_spec hs with ⟨s, rfl, e⟩ | ⟨a, s, kk, vs, rfl, hH, hk, e⟩
  · cases e
    exact fun Hm lsA locs hR hL hl => lv_instN hA.1 hA.2.1 hd (k Hm lsA locs hR hL hl)
  · cases e
    intro Hm lsA locs hR hL hl
    obtain ⟨x, hx, hc⟩ := hR.2.2.2 a _ hH
    obtain ⟨cT, h1, h2⟩ := am_isR_cls hA hC (hax kk hk) hc
    intro T hT S
    obtain ⟨vm', S', st⟩ := S.instanceofYes hA.1 hA.2.2.1 (hts _ hlk) (by rw [hT]; exact hx) hc.2.1 h1 h2 (g := F0 X.m pc lsA (.ref a :: s)) rfl rfl (by rw [hA.2.1]; exact hd)
    obtain ⟨t, a1, b1⟩ := k Hm lsA locs hR hL hl (T.setVm vm') hT S'
    exact ⟨t, st t a1, b1⟩
/-! constants -/
theorem am_vaS (hA : am_A Y X y cc) (hro : am_room X H) {Hm : Heap} {locs : List Jvm.Loc} (hR : am_R Y H Hm) (hl : ∀ z ∈ locs, Y.base ≤ z.base) : va_S (fun q => Y.base ≤ q) X.s.heap Hm locs := by
  obtain ⟨-, -, -, -, -, -, -, -, -, hz, hb, hh⟩ := hA
  refine ⟨by rw [hz, hR.1]; exact hro.1, fun q hq hn => ?_, hl⟩
  have hq' : q < Y.base := Nat.not_le.mp hn
  rw [hR.2.2.1 q hq', hh q hq']
theorem am_Zs {C f d : String} {v : Value} (hA : am_A Y X y cc) (h : va_Z C f d v (fun q => Y.base ≤ q) Y.s0 Y.s0.heap) : va_Z C f d v (fun q => Y.base ≤ q) X.s X.s.heap :=
  (va_Z.moved hA.2.2.2.2.1.alike h).kept fun a _ hn => hA.2.2.2.2.2.2.2.2.2.2.2 a (Nat.not_le.mp hn)
def am_cv (E : Nat → Nat) (ax : List Nat) : Option Value := match ax with
  | [0, n] => some (.int (Int32.ofNat n))
  | [1, i] => some (.ref (E i))
  | [2, n] => some (.long (Int64.ofNat n))
  | [3, i] => some (am_rv (E i))
  | _ => none
theorem am_const_spec {ax : List Nat} {r : am_S} (hs : am_const E ax n ls st H = some r) : ∃ v, am_cv E ax = some v ∧ (.inl (n, ls, v :: st, H) : am_S) = r := by
  unfold am_const at hs
  split at hs
  · exact ⟨_, rfl, Option.some.inj hs⟩
  · exact ⟨_, rfl, Option.some.inj hs⟩
  · exact ⟨_, rfl, Option.some.inj hs⟩
  · exact ⟨_, rfl, Option.some.inj hs⟩
  · cases hs
/-- what a constant or a static field is said to be -/
def am_KS (Y : am_Y) (own : String) (idx : Nat) (v : Value) : Prop := ∃ (C f d ref : String), va_Z C f d v (fun q => Y.base ≤ q) Y.s0 Y.s0.heap ∧
  (Cond.fieldLink own idx ref f d ∈ lw_all ∨ ∃ host, Cond.fieldLinkNest own idx ref f d host ∈ lw_tbl) ∧ (ref = C ∨ Cond.sameField ref C f d ∈ lw_all)
theorem am_so_getstatic (hA : am_A Y X y cc) {idx : Nat} {ax : List Nat} (hK : ∀ v, am_cv E ax = some v → am_KS Y y.cls idx v) (hd : decode cc pc = .ok (.getstatic idx, 3)) (hro : am_room X H) (hs : am_const E ax (pc + 3) ls st H = am_nx pc' ls' st' H') (k : am_W Y X pc' ls' st' H') : am_W Y X pc ls st H := by
  obtain ⟨v, hv, e⟩ := am_const_spec hs
  cases e
  obtain ⟨C, f, d, ref, hZ, hlk, hsm⟩ := hK v hv
  intro Hm lsA locs hR hL hl
  rcases hlk with hlk | ⟨host, hlk⟩
  · exact va_gets hA.1 hA.2.1 (am_Zs hA hZ) (am_vaS hA hro hR hl) hA.2.2.1 (hA.2.2.2.2.2.2.2.1 _ hlk) (fun x hx => am_same hA hsm hx) hd (k Hm lsA locs hR hL hl)
  · exact va_getsN hA.1 hA.2.1 (am_Zs hA hZ) (am_vaS hA hro hR hl) hA.2.2.1 (am_nestF hA hlk) (fun x hx => am_same hA hsm hx) hd (k Hm lsA locs hR hL hl)
def am_KC (Y : am_Y) (own : String) (idx : Nat) (v : Value) : Prop := (∃ x, v = .int x ∧ Cond.constant own idx x ∈ lw_all) ∨ (∃ a tx, v = .ref a ∧ vk_R own idx tx a Y.s0) ∨ ∃ a C, v = .ref a ∧ Cond.classLink own idx C ∈ lw_all ∧ va_Mi C a Y.s0
theorem am_so_ldc (hA : am_A Y X y cc) {idx : Nat} {ax : List Nat} (hK : ∀ v, am_cv E ax = some v → am_KC Y y.cls idx v) (hd : decode cc pc = .ok (.ldc idx, 2)) (hs : am_const E ax (pc + 2) ls st H = am_nx pc' ls' st' H') (k : am_W Y X pc' ls' st' H') : am_W Y X pc ls st H := by
  obtain ⟨v, hv, e⟩ := am_const_spec hs
  cases e
  intro Hm lsA locs hR hL hl
  rcases hK v hv with ⟨x, rfl, hw⟩ | ⟨a, tx, rfl, hw⟩ | ⟨a, C, rfl, hlk, hm⟩
  · exact W.ldc hA.1 hA.2.1 hA.2.2.1 (hA.2.2.2.2.2.2.2.1 _ hw) rfl hd (k Hm lsA locs hR hL hl)
  · exact va_ldcS hA.1 hA.2.1 hA.2.2.1 (vk_R.warm hA.2.2.2.2.1 hw) hd (k Hm lsA locs hR hL hl)
  · exact va_ldcM hA.1 hA.2.1 hA.2.2.1 (hA.2.2.2.2.2.2.2.1 _ hlk) (va_Mi.moved hA.2.2.2.2.1.alike hm) hd (k Hm lsA locs hR hL hl)
theorem am_so_ldcw (hA : am_A Y X y cc) {idx : Nat} {ax : List Nat} (hK : ∀ v, am_cv E ax = some v → ∃ x, v = .int x ∧ Cond.constant y.cls idx x ∈ lw_all) (hd : decode cc pc = .ok (.ldc_w idx, 3)) (hs : am_const E ax (pc + 3) ls st H = am_nx pc' ls' st' H') (k : am_W Y X pc' ls' st' H') : am_W Y X pc ls st H := by
  obtain ⟨v, hv, e⟩ := am_const_spec hs
  cases e
  obtain ⟨x, rfl, hw⟩ := hK v hv
  exact fun Hm lsA locs hR hL hl => lv_ldcw hA.1 hA.2.1 hA.2.2.1 (hA.2.2.2.2.2.2.2.1 _ hw) hd (k Hm lsA locs hR hL hl)
theorem am_so_ldc2 (hA : am_A Y X y cc) {idx : Nat} {ax : List Nat} (hK : ∀ v, am_cv E ax = some v → ∃ x, v = .long x ∧ Cond.constantLong y.cls idx x ∈ lw_all) (hd : decode cc pc = .ok (.ldc2_w idx, 3)) (hs : am_const E ax (pc + 3) ls st H = am_nx pc' ls' st' H') (k : am_W Y X pc' ls' st' H') : am_W Y X pc ls st H := by
  obtain ⟨v, hv, e⟩ := am_const_spec hs
  cases e
  obtain ⟨x, rfl, hw⟩ := hK v hv
  exact fun Hm lsA locs hR hL hl => W.ldc2 hA.1 hA.2.1 hA.2.2.1 (hA.2.2.2.2.2.2.2.1 _ hw) rfl hd (k Hm lsA locs hR hL hl)
/-- a throw -/
theorem am_so_athrow (hA : am_A Y X y cc) (hd : decode cc pc = .ok (.athrow, 1)) {q : Nat} (hs : am_throw st H = am_th q) (k : am_V Y X pc ls q H) : am_W Y X pc ls st H := by
  unfold am_throw at hs
  split at hs
  · cases hs
    exact fun Hm lsA locs hR hL hl => vx_athrow hA.1 hA.2.1 hd (k Hm lsA locs _ hR hL hl)
  · cases hs
end AMN
