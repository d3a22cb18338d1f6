/-! arrays made, natives -/
theorem am_cut_sum : ∀ (n : Nat) (l : List Value), am_cut n l = true → (l.map fun v => v.category).sum ≤ 2 * n
  | _, [], _ => Nat.zero_le _
  | 0, _ :: _, h => by cases h
  | n + 1, v :: l, h => by
    have h1 := am_cut_sum n l h
    have h2 := am_cat_le v
    simp only [List.map_cons, List.sum_cons]
    omega
def am_big (X : am_X) : Prop := 8 ≤ X.R.frames ∧ 512 ≤ X.R.locals
section AMV
variable {Y : am_Y} {X : am_X} {y : MethodName} {cc : ByteArray} {pc n : Nat} {ls st : List Value} {H : am_H} {pc' : Nat} {ls' st' : List Value} {H' : am_H} {E : Nat → Nat} {r : am_S}
theorem am_newa_spec {t : Nat} (hs : am_newa [t] n ls st H = some r) : ∃ x s, st = .int x :: s ∧ ¬ x < 0 ∧ x.toNatClampNeg ≤ 65535 ∧ (.inl (n, ls, .ref H.2.1 :: s, am_new H (1000 + t, List.replicate x.toNatClampNeg (am_adf t)) x.toNatClampNeg) : am_S) = r := by
  unfold am_newa at hs
  split at hs
  · rename_i t' x s heq
    cases heq
    split at hs
    · cases hs
    · split at hs
      · cases hs
      · rename_i h1 h2
        exact ⟨x, s, rfl, h1, by omega, Option.some.inj hs⟩
  · cases hs
/-- a fresh array -/
theorem am_cell_arr {t : Nat} {ty : FieldType} (hty : am_aty t = some ty) {a N : Nat} {v : Value} (hN : N ≤ 65535) (hf : fits ty v = true) : am_cell Y a (1000 + t, List.replicate N v) { cls := Y.aC t, slots := Array.replicate N v, vm := .none } := by
  refine ⟨(fun h => by cases h), rfl, fun _ => rfl, Or.inr ⟨by dsimp only; omega, by dsimp only; rw [Nat.add_sub_cancel_left, hty]; rfl, by dsimp only; rw [Nat.add_sub_cancel_left], fun j w hw => ?_, by simp, by simp, fun _ => by simp, fun ty' hty' w hw => ?_⟩⟩
  · dsimp only at hw ⊢
    simp only [List.getElem?_replicate, Array.getElem?_replicate] at hw ⊢
    exact hw
  · dsimp only at hty' hw
    rw [Nat.add_sub_cancel_left, hty] at hty'
    cases hty'
    rw [(List.mem_replicate.mp hw).2]
    exact hf
theorem am_so_newarray (hA : am_A Y X y cc) {t : Nat} {at_ : ArrayType} {ty : FieldType} (hty : am_aty t = some ty) (hat : newarray.typeOf at_ = ty) (hw : Cond.arrayClass ty ∈ lw_all) (hdf : defaultValue ty = am_adf t) (hft : fits ty (am_adf t) = true) (hcb : componentBytes ty ≤ 8) (hra : ∀ U c, va_RA U c ty → U.vm.findClass ("[" ++ ty.toString) = some c)
    (hd : decode cc pc = .ok (.newarray at_, 2)) (hro : am_room X H) (hro' : am_room X H') (hs : am_newa [t] (pc + 2) ls st H = am_nx pc' ls' st' H') (kk : am_W Y X pc' ls' st' H') : am_W Y X pc ls st H := by
  obtain ⟨x, s, rfl, h0, hx, e⟩ := am_newa_spec hs
  cases e
  obtain ⟨g1, g2, -, -⟩ := hro
  obtain ⟨-, -, g3, g4⟩ := hro'
  simp only [am_new] at g3 g4
  intro Hm lsA locs hR hL hl
  have hm : x.toNatClampNeg * componentBytes ty ≤ x.toNatClampNeg * 8 := Nat.mul_le_mul_left _ hcb
  refine W.newa hA.1 hA.2.1 (by rw [hat]; exact hA.2.2.2.2.2.2.2.1 _ hw) rfl hd rfl h0 (by rw [hat]; omega) (by omega) (by omega) fun cA kA comp f1 f2 f3 => ?_
  rw [hat] at f1 ⊢
  have hcA : cA = Y.aC t := Option.some.inj (f1.symm.trans (hra _ _ (hA.2.2.2.2.2.1.2 t ty hty).2))
  subst hcA
  have h := kk (Hm.push { cls := Y.aC t, slots := Array.replicate x.toNatClampNeg (defaultValue ty), vm := .none }) lsA locs (am_R_new hR (by simp) (fun b hb => by rw [Array.getElem?_push, if_neg (Nat.ne_of_lt hb)]) ⟨_, Array.getElem?_push_size, by rw [hdf]; exact am_cell_arr hty hx hft⟩) hL hl
  simp only [am_new] at h
  rw [show H.2.1 + 1 - X.z = H.2.1 - X.z + 1 by omega, show H.2.2 + x.toNatClampNeg - X.u = H.2.2 - X.u + x.toNatClampNeg by omega] at h
  rw [show (Value.ref Hm.size) = .ref H.2.1 by rw [hR.1]]
  exact h
theorem am_so_anewarray (hA : am_A Y X y cc) {t idx : Nat} {C : String} (hty : am_aty t = some (.object C)) (hdf : am_adf t = .null) (hcl : Cond.classLink y.cls idx C ∈ lw_all) (hw : Cond.arrayOver (.object C) ∈ lw_tbl)
    (hd : decode cc pc = .ok (.anewarray idx, 3)) (hro : am_room X H) (hro' : am_room X H') (hs : am_newa [t] (pc + 3) ls st H = am_nx pc' ls' st' H') (kk : am_W Y X pc' ls' st' H') : am_W Y X pc ls st H := by
  obtain ⟨x, s, rfl, h0, hx, e⟩ := am_newa_spec hs
  cases e
  obtain ⟨g1, g2, -, -⟩ := hro
  obtain ⟨-, -, g3, g4⟩ := hro'
  simp only [am_new] at g3 g4
  obtain ⟨a0, ha0⟩ := hA.2.2.2.2.2.2.2.2.1
  have hover : (Cond.arrayOver (.object C)).before X.args X.s = true := va_AO.use (va_AO.moved hA.2.2.2.2.1.alike (va_AO.of (ha0 _ hw)))
  intro Hm lsA locs hR hL hl
  refine W.anew hA.1 hA.2.1 hA.2.2.1 (hA.2.2.2.2.2.2.2.1 _ hcl) hover rfl hd rfl h0 (by omega) (by omega) (by omega) fun cA kA comp f1 f2 f3 f4 => ?_
  obtain ⟨kA', comp', -, -, -, f5⟩ := (hA.2.2.2.2.2.1.2 t _ hty).2
  have hcA : cA = Y.aC t := Option.some.inj (f1.symm.trans f5)
  subst hcA
  have h := kk (Hm.push { cls := Y.aC t, slots := Array.replicate x.toNatClampNeg .null, vm := .none }) lsA locs (am_R_new hR (by simp) (fun b hb => by rw [Array.getElem?_push, if_neg (Nat.ne_of_lt hb)]) ⟨_, Array.getElem?_push_size, by rw [hdf]; exact am_cell_arr hty hx rfl⟩) hL hl
  simp only [am_new] at h
  rw [show H.2.1 + 1 - X.z = H.2.1 - X.z + 1 by omega, show H.2.2 + x.toNatClampNeg - X.u = H.2.2 - X.u + x.toNatClampNeg by omega] at h
  rw [show (Value.ref Hm.size) = .ref H.2.1 by rw [hR.1]]
  exact h
/-- java.lang.Object's constructor -/
theorem am_so_objInit (hA : am_A Y X y cc) {L : Nat} {ret : Option FieldType} {hh : List (Nat × Nat × Nat × Nat)} (hB : am_B X L ret hh) (hBg : am_big X) (hLen : ls.length = L) {idx : Nat} (h1 : Cond.methodLink y.cls idx Lib.objectInit ∈ lw_all) (h2 : Cond.instanceMethod Lib.objectInit ∈ lw_all) (h3 : Cond.code Lib.objectInit ⟨#[0xb1]⟩ 1 none ∈ lw_all)
    (hd : decode cc pc = .ok (.invokespecial idx, 3)) (hs : am_objI (pc + 3) ls st H = am_nx pc' ls' st' H') (kk : am_W Y X pc' ls' st' H') : am_W Y X pc ls st H := by
  have hts := hA.2.2.2.2.2.2.2.1
  unfold am_objI at hs
  split at hs
  · rename_i a rest
    split at hs
    · rename_i hcut
      cases hs
      have hsum := am_cut_sum _ _ hcut
      obtain ⟨b1, b2⟩ := hBg
      intro Hm lsA locs hR hL hl
      refine W.objInit hA.1 hA.2.1 hA.2.2.1 (hts _ h1) (hts _ h2) (hts _ h3) rfl (by rw [hB.1, ← hLen]; exact hL.1) rfl hd (by omega) (by show 2 * 0 + _ + 12 ≤ _; omega) (kk Hm lsA locs hR hL hl)
    · cases hs
  · cases hs
theorem am_arr_spec {a : Nat} {K : Nat → List Value → Option am_S} (hs : am_arr a H K = some r) : ∃ t vs, H.1 a = some (1000 + t, vs) ∧ K (1000 + t) vs = some r := by
  unfold am_arr at hs
  split at hs
  · rename_i k vs hH
    split at hs
    · rename_i hk
      refine ⟨k - 1000, vs, ?_, ?_⟩
      · rw [show 1000 + (k - 1000) = k by omega]; exact hH
      · rw [show 1000 + (k - 1000) = k by omega]; exact hs
    · cases hs
  · cases hs
/-- what an array's cell says, its type known -/
theorem am_arr_facts (hA : am_A Y X y cc) {a t : Nat} {vs : List Value} {x : Cell} (h : am_cell Y a (1000 + t, vs) x) : ∃ ty kA comp, am_aty t = some ty ∧ x.cls = Y.aC t ∧ X.s.vm.classes[x.cls]? = some kA ∧ kA.kind = .array comp ty ∧ (∀ q, x.vm ≠ .statics q) ∧ (∀ (j : Nat) (v : Value), vs[j]? = some v → x.slots[j]? = some v) ∧ vs.length ≤ x.slots.size ∧ (Y.base ≤ a → x.slots.size = vs.length) ∧ (∀ v ∈ vs, fits ty v = true) ∧ va_RA X.s (Y.aC t) ty := by
  obtain ⟨h1, h2, -, h4⟩ := h
  rcases h4 with ⟨hk, -⟩ | ⟨-, hty, hcl, hsv, hle, -, hex, hft⟩
  · dsimp only at hk; omega
  · dsimp only at hty hcl hsv hle hex hft
    rw [Nat.add_sub_cancel_left] at hty hcl
    obtain ⟨ty, hty⟩ := Option.isSome_iff_exists.mp hty
    obtain ⟨hAr, hRA⟩ := hA.2.2.2.2.2.1.2 t ty hty
    obtain ⟨-, kA, hk, comp, hkind⟩ := hAr 0 (fun _ => .null)
    exact ⟨ty, kA, comp, hty, hcl, by rw [hcl]; exact hk, hkind, (fun q hq => by rw [hq] at h2; cases h2), hsv, hle, hex, hft ty (by rw [Nat.add_sub_cancel_left]; exact hty), hRA⟩
/-- getClass of an Object[] -/
theorem am_so_getClass (hA : am_A Y X y cc) {L : Nat} {ret : Option FieldType} {hh : List (Nat × Nat × Nat × Nat)} (hB : am_B X L ret hh) (hBg : am_big X) (hLen : ls.length = L) {idx i : Nat} (hlk : Cond.methodLink y.cls idx ⟨"java/lang/Object", "getClass", "()Ljava/lang/Class;"⟩ ∈ lw_all) (hdc : va_Dc Y.s0)
    (hsel : Cond.selects "[Ljava/lang/Object;" ⟨"java/lang/Object", "getClass", "()Ljava/lang/Class;"⟩ ⟨"java/lang/Object", "getClass", "()Ljava/lang/Class;"⟩ ∈ lw_all) (hins : Cond.instanceMethod ⟨"java/lang/Object", "getClass", "()Ljava/lang/Class;"⟩ ∈ lw_all) (hnat : Cond.native ⟨"java/lang/Object", "getClass", "()Ljava/lang/Class;"⟩ ∈ lw_all) (hM : va_Mi "[Ljava/lang/Object;" (E i) Y.s0)
    (hd : decode cc pc = .ok (.invokevirtual idx, 3)) (hs : am_gcls (E i) (pc + 3) ls st H = am_nx pc' ls' st' H') (kk : am_W Y X pc' ls' st' H') : am_W Y X pc ls st H := by
  have hts := hA.2.2.2.2.2.2.2.1
  unfold am_gcls at hs
  split at hs
  · rename_i a rest
    obtain ⟨t, vs, hH, hs⟩ := am_arr_spec hs
    split at hs
    · rename_i hb
      simp only [Bool.and_eq_true, decide_eq_true_eq] at hb
      have ht : t = 10 := by omega
      subst ht
      cases hs
      have hsum := am_cut_sum _ _ hb.2
      obtain ⟨b1, b2⟩ := hBg
      intro Hm lsA locs hR hL hl
      obtain ⟨x, hx, hc⟩ := hR.2.2.2 a _ hH
      obtain ⟨ty, kA, comp, hty, hcl, -, -, -, -, -, -, -, hRA⟩ := am_arr_facts hA hc
      cases hty
      obtain ⟨_, _, -, -, -, hfc⟩ := hRA
      exact va_getC hA.1 hA.2.1 (by rw [hB.1, ← hLen]; exact hL.1.symm) hA.2.2.1 (hts _ hlk) (va_Dc.use (va_Dc.moved hA.2.2.2.2.1.alike hdc)) (hts _ hsel) (hts _ hins) (hts _ hnat) (va_Mi.moved hA.2.2.2.2.1.alike hM) ⟨x, hx, hc.2.1, by rw [hcl]; exact hfc⟩ (by omega) (by omega) hd (kk Hm lsA locs hR hL hl)
    · cases hs
  · cases hs
/-- clone of an array of numbers -/
theorem am_so_clone (hA : am_A Y X y cc) {L : Nat} {ret : Option FieldType} {hh : List (Nat × Nat × Nat × Nat)} (hB : am_B X L ret hh) (hBg : am_big X) (hLen : ls.length = L) {idx t0 : Nat} {ty0 : FieldType} {ad : String} (hty0 : am_aty t0 = some ty0) (had : ∀ U c, va_RA U c ty0 → U.vm.findClass ad = some c) (hlk : Cond.methodLink y.cls idx ⟨ad, "clone", "()Ljava/lang/Object;"⟩ ∈ lw_all) (hsm : Cond.sameMethod ad "java/lang/Object" "clone" "()Ljava/lang/Object;" ∈ lw_all)
    (hnat : Cond.native ⟨"java/lang/Object", "clone", "()Ljava/lang/Object;"⟩ ∈ lw_all) (hins : Cond.instanceMethod ⟨"java/lang/Object", "clone", "()Ljava/lang/Object;"⟩ ∈ lw_all) (hsel : Cond.selects ad ⟨ad, "clone", "()Ljava/lang/Object;"⟩ ⟨"java/lang/Object", "clone", "()Ljava/lang/Object;"⟩ ∈ lw_all) (hcb : Cond.castable ad "java/lang/Cloneable" ∈ lw_tbl)
    (hd : decode cc pc = .ok (.invokevirtual idx, 3)) (hro : am_room X H) (hro' : am_room X H') (hs : am_clone t0 Y.base (pc + 3) ls st H = am_nx pc' ls' st' H') (kk : am_W Y X pc' ls' st' H') : am_W Y X pc ls st H := by
  have hts := hA.2.2.2.2.2.2.2.1
  unfold am_clone at hs
  split at hs
  · rename_i a rest
    obtain ⟨t, vs, hH, hs2⟩ := am_arr_spec hs
    clear hs
    split at hs2
    · rename_i hb
      simp only [Bool.and_eq_true, decide_eq_true_eq] at hb
      have ht : t = t0 := by omega
      subst ht
      replace hb := And.intro hb.1.2 hb.2
      cases hs2
      obtain ⟨g1, g2, -, -⟩ := hro
      obtain ⟨-, -, g3, g4⟩ := hro'
      simp only [am_new] at g3 g4
      have hsum := am_cut_sum _ _ hb.2
      obtain ⟨b1, b2⟩ := hBg
      intro Hm lsA locs hR hL hl
      obtain ⟨x, hx, hc⟩ := hR.2.2.2 a _ hH
      obtain ⟨ty, kA, comp, hty, hcl, hkA, hkd, hst, hsv, hle, hex, hft, hRA⟩ := am_arr_facts hA hc
      cases hty0.symm.trans hty
      have hsz : x.slots.size = vs.length := hex hb.1
      have hvs : x.slots = vs.toArray := by
        apply Array.ext_getElem?
        intro i
        by_cases hi : i < vs.length
        · have h5 := hsv i _ (List.getElem?_eq_getElem hi)
          rw [h5]; simp [hi]
        · rw [Array.getElem?_eq_none (by omega), Array.getElem?_eq_none (by simpa using hi)]
      obtain ⟨c0, t0', f1, f2, f3⟩ := Cond.castable_spec (am_castW hA hcb)
      have hfc : X.s.vm.findClass ad = some x.cls := by rw [hcl]; exact had _ _ hRA
      cases hfc.symm.trans f1
      intro T hT S
      obtain ⟨vm', S', step⟩ := S.cloneArray hA.1 hA.2.2.1 (hts _ hlk) (hts _ hsm) (hts _ hnat) (hts _ hins) (hts _ hsel) (a := a) (cell := x) (by rw [hT]; exact hx) hst hc.1 hfc f2 f3
        (fun i v hv => by
          obtain ⟨kA', hkA', he⟩ := S.warmed.alike.2.2 _ _ hkA
          have hkd' : kA'.kind = .array comp ty0 := by rw [he]; exact hkd
          have hv' : v ∈ vs := by
            rw [hvs] at hv
            exact List.mem_of_getElem? (i := i) (by simpa using hv)
          simpa [State.fitsSlot, State.slotType?, hkA', hkd'] using hft v hv')
        (g := F0 X.m pc lsA (.ref a :: rest)) rfl (by rw [hB.1, ← hLen]; exact hL.1) rfl (by rw [hA.2.1]; exact hd) (by omega) (by show 2 * 0 + _ + 14 ≤ _; omega) (by omega) (by rw [hsz]; omega) (hloader := Vm.clonesLoader_of_array hkA hkd)
      have hcell : am_cell Y Hm.size (1000 + t, vs) { cls := x.cls, slots := x.slots } := by
        obtain ⟨-, -, -, h4⟩ := hc
        exact ⟨(fun h => by cases h), rfl, fun _ => rfl, by
          rcases h4 with h4 | ⟨q1, q2, q3, q4, q5, q6, q7, q8⟩
          · exact absurd h4.1 (by dsimp only; omega)
          · exact Or.inr ⟨q1, q2, q3, q4, q5, q6, fun _ => hsz, q8⟩⟩
      have h := kk (Hm.push { cls := x.cls, slots := x.slots }) lsA locs (am_R_new hR (by simp) (fun b hb => by rw [Array.getElem?_push, if_neg (Nat.ne_of_lt hb)]) ⟨_, Array.getElem?_push_size, hcell⟩) hL hl
      simp only [am_new] at h
      rw [show H.2.1 + 1 - X.z = H.2.1 - X.z + 1 by omega, show H.2.2 + vs.length - X.u = H.2.2 - X.u + vs.length by omega] at h
      rw [hsz] at S'
      obtain ⟨t9, a1, b1'⟩ := h _ (by rw [← hT]; rfl) S'
      refine ⟨t9, step t9 ?_, b1'⟩
      rw [show T.heap.size = H.2.1 by rw [hT]; exact hR.1]
      exact a1
    · cases hs2
  · cases hs
end AMV
