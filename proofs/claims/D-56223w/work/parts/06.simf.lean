/-! fields -/
/-- class k is class c0 or under it: c0's fields stand first, alike -/
def am_sub (cl : List vw_C) (sub : Nat → Nat → Bool) : Prop := ∀ k c0 : Nat, sub k c0 = true → ∀ r0 : vw_C, cl[c0]? = some r0 → ∃ r : vw_C, cl[k]? = some r ∧ ∀ j, j < r0.2.2 → j < r.2.2 ∧ r.2.1 j = r0.2.1 j
/-- the link of a field: own's entry idx names the field j of the class c0 -/
def am_FL (cl : List vw_C) (own : String) (idx c0 j : Nat) : Prop := ∃ (r0 : vw_C) (ref : String), cl[c0]? = some r0 ∧ j < r0.2.2 ∧
  (Cond.fieldLink own idx ref (r0.2.1 j).2.1 (r0.2.1 j).2.2.1 ∈ lw_all ∨ ∃ host, Cond.fieldLinkNest own idx ref (r0.2.1 j).2.1 (r0.2.1 j).2.2.1 host ∈ lw_tbl) ∧
  (ref = (r0.2.1 j).1 ∨ Cond.sameField ref (r0.2.1 j).1 (r0.2.1 j).2.1 (r0.2.1 j).2.2.1 ∈ lw_all)
section AMF
variable {Y : am_Y} {X : am_X} {y : MethodName} {cc : ByteArray} {pc n : Nat} {ls st : List Value} {H : am_H} {pc' : Nat} {ls' st' : List Value} {H' : am_H} {sub : Nat → Nat → Bool}
/-- what the tables say of a class's field, in a method -/
theorem am_fld (hA : am_A Y X y cc) (hC : am_CL Y) {k j : Nat} {r : vw_C} (hr : Y.cl[k]? = some r) (hj : j < r.2.2) :
    ∃ (cf : Nat) (kf : Class) (fi : Nat) (f : Field) (kC : Class), X.s.fieldFound? (r.2.1 j).1 (r.2.1 j).2.1 (r.2.1 j).2.2.1 = some (cf, kf, fi, f) ∧ f.isStatic = false ∧ f.slot = Y.D.2 k j ∧
      X.s.vm.findClass r.1 = some (Y.D.1 k) ∧ X.s.vm.classes[Y.D.1 k]? = some kC ∧ kC.kind = .ordinary := by
  obtain ⟨hS, hfc, kC, hkC, hkind⟩ := hA.2.2.2.2.2.1.1 k r hr
  obtain ⟨cf, kf, fi, f, hi, hsl⟩ := hS j hj
  have hts := hA.2.2.2.2.2.2.2.1
  exact ⟨cf, kf, fi, f, kC, hi, (u_facts hfc hkC (u_lays hts (hC k r hr).2.1 hj) hi).1, hsl, hfc, hkC, hkind⟩
theorem am_nestF (hA : am_A Y X y cc) {a : String} {i : Nat} {b n d h : String} (hw : Cond.fieldLinkNest a i b n d h ∈ lw_tbl) : (Cond.fieldLinkNest a i b n d h).before X.args X.s = true := by
  obtain ⟨a0, h0⟩ := hA.2.2.2.2.2.2.2.2.1
  exact va_Nw.use rfl (va_Nw.warmF hA.2.2.2.2.1 (va_Nw.of rfl (h0 _ hw)))
theorem am_same (hA : am_A Y X y cc) {ref own n d : String} (h : ref = own ∨ Cond.sameField ref own n d ∈ lw_all) {x : ClassId × Class × Nat × Field} (hx : X.s.fieldFound? own n d = some x) : X.s.fieldFound? ref n d = some x := by
  rcases h with rfl | h
  · exact hx
  · exact u_same (hA.2.2.2.2.2.2.2.1 _ h) x hx
theorem am_so_getfield (hA : am_A Y X y cc) (hC : am_CL Y) (hsub : am_sub Y.cl sub) {idx c0 j : Nat} (hF : am_FL Y.cl y.cls idx c0 j) (hd : decode cc pc = .ok (.getfield idx, 3)) (hs : am_get sub [c0, j] (pc + 3) ls st H = am_nx pc' ls' st' H') (k : am_W Y X pc' ls' st' H') : am_W Y X pc ls st H := by
  obtain ⟨r0, ref, hr0, hj0, hlink, hsame⟩ := hF
  unfold am_get at hs
  split at hs
  · rename_i c0' j' a t heq
    simp only [List.cons.injEq, and_true] at heq
    obtain ⟨rfl, rfl⟩ := heq
    split at hs
    · rename_i kk vs hH
      split at hs
      · rename_i hsb
        split at hs
        · rename_i v hv
          cases hs
          intro Hm lsA locs hR hL hl
          obtain ⟨x, hx, hc1, -, -, hc3⟩ := hR.2.2.2 a _ hH
          obtain ⟨r, hr, hrj⟩ := hsub _ _ hsb r0 hr0
          obtain ⟨hj, ej⟩ := hrj _ hj0
          obtain ⟨cf, kf, fi, f, kC, hi, hst, hsl, hfc, hkC, hkind⟩ := am_fld hA hC hr hj
          rw [ej] at hi
          rcases hc3 with ⟨-, hcl, r', hr', -, hsv⟩ | ⟨hge, -⟩
          · have hslot : x.slots[f.slot]? = some v := by rw [hsl]; exact hsv _ _ hv
            rcases hlink with hlk | ⟨host, hlk⟩
            · exact W.getf hA.1 hA.2.1 hA.2.2.1 (hA.2.2.2.2.2.2.2.1 _ hlk) (am_same hA hsame hi) hst hx hc1 hslot rfl rfl hd (k Hm lsA locs hR hL hl)
            · exact va_Wgetf hA.1 hA.2.1 hA.2.2.1 (am_nestF hA hlk) (am_same hA hsame hi) hst hx hc1 hslot rfl rfl hd (k Hm lsA locs hR hL hl)
          · have := (hC kk r hr).1
            dsimp only at hge
            omega
        · cases hs
      · cases hs
    · cases hs
  · cases hs
theorem am_R_put {Hm H1 : Heap} {a : Nat} {q : am_C} (hR : am_R Y H Hm) (ha : Y.base ≤ a) (hsz : H1.size = Hm.size) (ho : ∀ b : Nat, b ≠ a → H1[b]? = Hm[b]?) (hc : ∃ x, H1[a]? = some x ∧ am_cell Y a q x) : am_R Y (am_put H a q) H1 := by
  obtain ⟨h1, h2, h3, h4⟩ := hR
  refine ⟨hsz.trans h1, by rw [hsz]; exact h2, fun b hb => (ho b (by omega)).trans (h3 b hb), fun b c hbc => ?_⟩
  simp only [am_put] at hbc
  by_cases hba : b = a
  · subst hba
    rw [if_pos rfl] at hbc
    cases hbc
    exact hc
  · rw [if_neg hba] at hbc
    rw [ho b hba]
    exact h4 b c hbc
theorem am_R_lt {Hm : Heap} {a : Nat} {q : am_C} (hR : am_R Y H Hm) (h : H.1 a = some q) : a < Hm.size := by
  obtain ⟨x, hx, -⟩ := hR.2.2.2 a q h
  exact (Array.getElem?_eq_some_iff.mp hx).1
theorem am_R_new {Hm H1 : Heap} {q : am_C} {w : Nat} (hR : am_R Y H Hm) (hsz : H1.size = Hm.size + 1) (ho : ∀ b : Nat, b < Hm.size → H1[b]? = Hm[b]?) (hc : ∃ x, H1[Hm.size]? = some x ∧ am_cell Y Hm.size q x) : am_R Y (am_new H q w) H1 := by
  obtain ⟨h1, h2, h3, h4⟩ := id hR
  refine ⟨by rw [hsz, h1]; rfl, by omega, fun b hb => (ho b (by omega)).trans (h3 b hb), fun b c hbc => ?_⟩
  simp only [am_new] at hbc
  by_cases hba : b = H.2.1
  · subst hba
    rw [if_pos rfl] at hbc
    cases hbc
    rw [← h1]
    exact hc
  · rw [if_neg hba] at hbc
    rw [ho b (am_R_lt hR hbc)]
    exact h4 b c hbc
theorem am_cell_set {a k j : Nat} {vs : List Value} {x : Cell} {v : Value} {r : vw_C} (hC : am_CL Y) (h : am_cell Y a (k, vs) x) (hr : Y.cl[k]? = some r) (hj : j < vs.length) : am_cell Y a (k, vs.set j v) (x.setSlot (Y.D.2 k j) v) := by
  obtain ⟨h1, h2, h3, h4⟩ := h
  refine ⟨h1, h2, h3, Or.inl ?_⟩
  rcases h4 with ⟨hk, hcl, r', hr', hlen, hsv⟩ | ⟨hge, -⟩
  · cases hr.symm.trans hr'
    refine ⟨hk, hcl, r, hr, by rw [List.length_set]; exact hlen, fun i w hi => ?_⟩
    by_cases hij : i = j
    · subst hij
      dsimp only at hi
      rw [List.getElem?_set_self hj] at hi
      cases hi
      exact Cell.slots_setSlot_self _ (k2_hasslot (hsv i _ (List.getElem?_eq_getElem hj)))
    · dsimp only at hi
      rw [List.getElem?_set_ne (Ne.symm hij)] at hi
      have hi2 := (List.getElem?_eq_some_iff.mp hi).1
      have hl' : vs.length = r.2.2 := hlen
      rw [slot_ne _ _ ((hC k r hr).2.2 j i (by omega) (by omega) (Ne.symm hij))]
      exact hsv i w hi
  · have := (hC k r hr).1
    dsimp only at hge
    omega
/-- the type of a field by number -/
def am_tyk (t : Nat) (ty : FieldType) : Prop := (t < 9 ∧ ty = am_ty t) ∨ (9 ≤ t ∧ ((∃ s, ty = .object s) ∨ ∃ s, ty = .array s))
theorem am_fit_spec {t : Nat} {ty : FieldType} {v : Value} (ht : am_tyk t ty) (h : am_fit t v = true) : narrow ty v = v ∧ fits ty v = true := by
  unfold am_fit at h
  rcases ht with ⟨h9, rfl⟩ | ⟨h9, hty⟩
  · rw [if_neg (by omega)] at h
    simp only [Bool.and_eq_true, decide_eq_true_eq] at h
    exact h
  · rw [if_pos h9] at h
    rcases hty with ⟨s, rfl⟩ | ⟨s, rfl⟩ <;> cases v <;> first | (cases h; done) | exact ⟨rfl, rfl⟩
theorem am_putf_spec {c0 j t : Nat} {base : Nat} {r : am_S} (hs : am_putf sub base [c0, j, t] n ls st H = some r) : ∃ v a s k vs, st = v :: .ref a :: s ∧ H.1 a = some (k, vs) ∧ sub k c0 = true ∧ base ≤ a ∧ j < vs.length ∧ am_fit t v = true ∧ (.inl (n, ls, s, am_put H a (k, vs.set j v)) : am_S) = r := by
  unfold am_putf at hs
  split at hs
  · rename_i c0' j' t' v a s heq
    simp only [List.cons.injEq, and_true] at heq
    obtain ⟨rfl, rfl, rfl⟩ := heq
    split at hs
    · rename_i k vs hH
      by_cases hb : (sub k c0 && decide (base ≤ a) && decide (j < vs.length) && am_fit t v) = true
      · rw [if_pos hb] at hs
        simp only [Bool.and_eq_true, decide_eq_true_eq] at hb
        exact ⟨v, a, s, k, vs, rfl, hH, hb.1.1.1, hb.1.1.2, hb.1.2, hb.2, Option.some.inj hs⟩
      · rw [if_neg hb] at hs; cases hs
    · cases hs
  · cases hs
theorem am_so_putfield (hA : am_A Y X y cc) (hC : am_CL Y) (hsub : am_sub Y.cl sub) {idx c0 j t : Nat} {r0 : vw_C} (hr0 : Y.cl[c0]? = some r0) (hF : am_FL Y.cl y.cls idx c0 j) {ty : FieldType} (hp : parseFieldDescriptor (r0.2.1 j).2.2.1 = some ty) (ht : am_tyk t ty)
    (hfin : (r0.2.1 j).2.2.2 = false ∨ ((r0.2.1 j).1 = y.cls ∧ y.name = "<init>" ∧ ∃ ref, Cond.fieldLink y.cls idx ref (r0.2.1 j).2.1 (r0.2.1 j).2.2.1 ∈ lw_all ∧ ref = (r0.2.1 j).1)) (hd : decode cc pc = .ok (.putfield idx, 3)) (hs : am_putf sub Y.base [c0, j, t] (pc + 3) ls st H = am_nx pc' ls' st' H') (k : am_W Y X pc' ls' st' H') : am_W Y X pc ls st H := by
  obtain ⟨r0', ref, hr0', hj0, hlink, hsame⟩ := hF
  cases hr0.symm.trans hr0'
  obtain ⟨v, a, s, kk, vs, rfl, hH, hsb, hba, hjv, hft, e⟩ := am_putf_spec hs
  cases e
  intro Hm lsA locs hR hL hl
  obtain ⟨x, hx, hxc⟩ := hR.2.2.2 a _ hH
  obtain ⟨hc1, hc2, hvm, hc3⟩ := id hxc
  obtain ⟨r, hr, hrj⟩ := hsub _ _ hsb r0 hr0
  obtain ⟨hj, ej⟩ := hrj _ hj0
  obtain ⟨cf, kf, fi, f, kC, hi, hst, hsl, hfc, hkC, hkind⟩ := am_fld hA hC hr hj
  have hts := hA.2.2.2.2.2.2.2.1
  have hlay := hts _ ((hC kk r hr).2.1 _ (u_in_lay hj))
  have hfit := am_fit_spec ht hft
  rw [ej] at hi
  rcases hc3 with ⟨-, hcl, r', hr', hlen, hsv⟩ | ⟨hge, -⟩
  · have hlt : f.slot < x.slots.size := by rw [hsl]; exact k2_hasslot (hsv j _ (List.getElem?_eq_getElem hjv))
    have hback : ∀ H1 : Heap, H1[a]? = some (x.setSlot f.slot v) → H1.size = Hm.size → (∀ q, q ≠ a → H1[q]? = Hm[q]?) → am_R Y (am_put H a (kk, vs.set j v)) H1 := fun H1 e1 e2 e3 => by
      rw [hsl] at e1
      exact am_R_put hR hba e2 e3 ⟨_, e1, am_cell_set hC hxc hr hjv⟩
    have hlocs : ∀ z ∈ locs ++ [⟨a, f.slot⟩], Y.base ≤ z.base := fun z hz => by
      rcases List.mem_append.mp hz with h | h
      · exact hl z h
      · rw [List.mem_singleton.mp h]; exact hba
    rcases hfin with hf | ⟨hdecl, hinit, ref2, hlk2, rfl⟩
    · unfold u_lay at hlay
      rw [if_neg (by rw [ej, hf]; decide), ej] at hlay
      have h6 := u_store hfc hkC hkind hlay hi hp hfit.1 hfit.2
      rw [← hcl] at h6
      rcases hlink with hlk | ⟨host, hlk⟩
      · exact W.putK hA.1 hA.2.1 (f := f) ⟨hA.2.2.1, hts _ hlk, ⟨_, _, _, am_same hA hsame hi⟩, hst⟩ h6 hx (hvm hba) hlt rfl rfl hd fun H1 e1 e2 e3 => k H1 lsA _ (hback H1 e1 e2 e3) hL hlocs
      · exact va_WputK hA.1 hA.2.1 hA.2.2.1 (am_nestF hA hlk) (am_same hA hsame hi) hst h6 hx (hvm hba) hlt rfl rfl hd fun H1 e1 e2 e3 => k H1 lsA _ (hback H1 e1 e2 e3) hL hlocs
    · have hin2 : X.meth.name = "<init>" := hA.2.2.2.1.trans hinit
      have hlay' := u_lays hts (hC kk r hr).2.1 hj
      rw [ej] at hlay'
      have h6 := u_fits hfc hkC hkind hlay' hi hp hfit.1 hfit.2
      rw [← hcl] at h6
      by_cases hfl : (r0.2.1 j).2.2.2 = true
      · unfold u_lay at hlay
        rw [ej, if_pos hfl] at hlay
        have hcf : X.m.cls = cf := by
          obtain ⟨_, _, c', _, _, _, -, -, hf', -, -, -, hown2, -⟩ := Cond.laysFinal_spec hlay
          have e1 : c' = cf := by have := hi.symm.trans hf'; simp at this; exact this.1.symm
          rw [hdecl] at hown2
          rw [← e1]; exact Option.some.inj (hA.2.2.1.symm.trans hown2)
        exact W.putFinK hA.1 hA.2.1 hA.2.2.1 (hts _ hlk2) hi hst hcf hin2 h6 hx (hvm hba) hlt rfl rfl hd fun H1 e1 e2 e3 => k H1 lsA _ (hback H1 e1 e2 e3) hL hlocs
      · have hf : (r0.2.1 j).2.2.2 = false := by simpa using hfl
        unfold u_lay at hlay
        rw [if_neg (by rw [ej, hf]; decide), ej] at hlay
        have h6 := u_store hfc hkC hkind hlay hi hp hfit.1 hfit.2
        rw [← hcl] at h6
        exact W.putK hA.1 hA.2.1 (f := f) ⟨hA.2.2.1, hts _ hlk2, ⟨_, _, _, hi⟩, hst⟩ h6 hx (hvm hba) hlt rfl rfl hd fun H1 e1 e2 e3 => k H1 lsA _ (hback H1 e1 e2 e3) hL hlocs
  · have := (hC kk r hr).1
    dsimp only at hge
    omega
end AMF
