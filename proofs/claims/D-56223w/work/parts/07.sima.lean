/-! arrays -/
section AMR
variable {Y : am_Y} {X : am_X} {y : MethodName} {cc : ByteArray} {pc n : Nat} {ls st : List Value} {H : am_H} {pc' : Nat} {ls' st' : List Value} {H' : am_H}
variable {r : am_S}
theorem am_arrOf (hA : am_A Y X y cc) {t : Nat} {ty : FieldType} {a : Nat} {vs : List Value} {x : Cell} (ht : am_aty t = some ty) (h : am_cell Y a (1000 + t, vs) x) : X.s.isArrayOf x ty := by
  obtain ⟨h1, h2, -, h4⟩ := h
  rcases h4 with ⟨hk, -⟩ | ⟨-, -, hcl, -⟩
  · dsimp only at hk; omega
  · obtain ⟨-, kA, hk, comp, hkind⟩ := (hA.2.2.2.2.2.1.2 t ty ht).1 0 (fun _ => .null)
    refine ⟨fun q hq => (by rw [hq] at h2; cases h2), kA, ?_, comp, hkind⟩
    rw [hcl]
    dsimp only
    rw [Nat.add_sub_cancel_left]
    exact hk
theorem am_ix_spec {i : Int32} {vs : List Value} {v : Value} (h : am_ix i vs = some v) : ¬ i < 0 ∧ vs[i.toNatClampNeg]? = some v := by
  unfold am_ix at h
  split at h
  · cases h
  · rename_i hi; exact ⟨hi, h⟩
theorem am_arr_in {a : Nat} {t : Nat} {vs : List Value} {x : Cell} {i : Int32} {v : Value} (h : am_cell Y a (1000 + t, vs) x) (hi : am_ix i vs = some v) : ¬ (i < 0 ∨ x.slots.size ≤ i.toNatClampNeg) ∧ x.slots[i.toNatClampNeg]? = some v := by
  obtain ⟨-, -, -, h4⟩ := h
  obtain ⟨h0, hv⟩ := am_ix_spec hi
  rcases h4 with ⟨hk, -⟩ | ⟨-, -, -, hsv, -⟩
  · dsimp only at hk; omega
  · have h5 := hsv _ _ hv
    have h6 := (Array.getElem?_eq_some_iff.mp h5).1
    exact ⟨fun q => by rcases q with q | q; exact h0 q; omega, h5⟩
theorem am_aload_spec {ok : Nat → Bool} (hs : am_aload ok n ls st H = some r) : ∃ i a s k vs v, st = .int i :: .ref a :: s ∧ H.1 a = some (k, vs) ∧ ok k = true ∧ am_ix i vs = some v ∧ (.inl (n, ls, v :: s, H) : am_S) = r := by
  unfold am_aload at hs
  split at hs
  · split at hs
    · rename_i k vs hH
      split at hs
      · rename_i hk
        split at hs
        · rename_i v hv; exact ⟨_, _, _, k, vs, v, rfl, hH, hk, hv, Option.some.inj hs⟩
        · cases hs
      · cases hs
    · cases hs
  · cases hs
theorem am_so_iaload (hA : am_A Y X y cc) (hd : decode cc pc = .ok (.iaload, 1)) (hs : am_aload (fun k => k == 1000) (pc + 1) ls st H = am_nx pc' ls' st' H') (k : am_W Y X pc' ls' st' H') : am_W Y X pc ls st H := by
  obtain ⟨i, a, s, kk, vs, v, rfl, hH, hk, hv, e⟩ := am_aload_spec hs
  cases e
  have hk' : kk = 1000 + 0 := by simpa using hk
  subst hk'
  intro Hm lsA locs hR hL hl
  obtain ⟨x, hx, hc⟩ := hR.2.2.2 a _ hH
  obtain ⟨h1, h2⟩ := am_arr_in hc hv
  exact W.iald hA.1 hA.2.1 hx (am_arrOf hA (by rfl) hc) hc.1 h1 h2 rfl rfl hd (k Hm lsA locs hR hL hl)
theorem am_so_laload (hA : am_A Y X y cc) (hd : decode cc pc = .ok (.laload, 1)) (hs : am_aload (fun k => k == 1001) (pc + 1) ls st H = am_nx pc' ls' st' H') (k : am_W Y X pc' ls' st' H') : am_W Y X pc ls st H := by
  obtain ⟨i, a, s, kk, vs, v, rfl, hH, hk, hv, e⟩ := am_aload_spec hs
  cases e
  have hk' : kk = 1000 + 1 := by simpa using hk
  subst hk'
  intro Hm lsA locs hR hL hl
  obtain ⟨x, hx, hc⟩ := hR.2.2.2 a _ hH
  obtain ⟨h1, h2⟩ := am_arr_in hc hv
  exact W.lald hA.1 hA.2.1 hx (am_arrOf hA (by rfl) hc) hc.1 h1 h2 rfl rfl hd (k Hm lsA locs hR hL hl)
theorem am_so_baload (hA : am_A Y X y cc) (hd : decode cc pc = .ok (.baload, 1)) (hs : am_aload (fun k => k == 1002) (pc + 1) ls st H = am_nx pc' ls' st' H') (k : am_W Y X pc' ls' st' H') : am_W Y X pc ls st H := by
  obtain ⟨i, a, s, kk, vs, v, rfl, hH, hk, hv, e⟩ := am_aload_spec hs
  cases e
  have hk' : kk = 1000 + 2 := by simpa using hk
  subst hk'
  intro Hm lsA locs hR hL hl
  obtain ⟨x, hx, hc⟩ := hR.2.2.2 a _ hH
  obtain ⟨h1, h2⟩ := am_arr_in hc hv
  exact W.bald hA.1 hA.2.1 hx (am_arrOf hA (by rfl) hc) hc.1 h1 h2 rfl rfl hd (k Hm lsA locs hR hL hl)
theorem am_so_caload (hA : am_A Y X y cc) (hd : decode cc pc = .ok (.caload, 1)) (hs : am_aload (fun k => k == 1003) (pc + 1) ls st H = am_nx pc' ls' st' H') (k : am_W Y X pc' ls' st' H') : am_W Y X pc ls st H := by
  obtain ⟨i, a, s, kk, vs, v, rfl, hH, hk, hv, e⟩ := am_aload_spec hs
  cases e
  have hk' : kk = 1000 + 3 := by simpa using hk
  subst hk'
  intro Hm lsA locs hR hL hl
  obtain ⟨x, hx, hc⟩ := hR.2.2.2 a _ hH
  obtain ⟨h1, h2⟩ := am_arr_in hc hv
  exact W.cald hA.1 hA.2.1 hx (am_arrOf hA (by rfl) hc) hc.1 h1 h2 rfl rfl hd (k Hm lsA locs hR hL hl)
theorem am_so_daload (hA : am_A Y X y cc) (hd : decode cc pc = .ok (.daload, 1)) (hs : am_aload (fun k => k == 1004) (pc + 1) ls st H = am_nx pc' ls' st' H') (k : am_W Y X pc' ls' st' H') : am_W Y X pc ls st H := by
  obtain ⟨i, a, s, kk, vs, v, rfl, hH, hk, hv, e⟩ := am_aload_spec hs
  cases e
  have hk' : kk = 1000 + 4 := by simpa using hk
  subst hk'
  intro Hm lsA locs hR hL hl
  obtain ⟨x, hx, hc⟩ := hR.2.2.2 a _ hH
  obtain ⟨h1, h2⟩ := am_arr_in hc hv
  exact W.dald hA.1 hA.2.1 hx (am_arrOf hA (by rfl) hc) hc.1 h1 h2 rfl rfl hd (k Hm lsA locs hR hL hl)
theorem am_so_aaload (hA : am_A Y X y cc) (hd : decode cc pc = .ok (.aaload, 1)) (hs : am_aload (fun k => k == 1010 || k == 1011 || k == 1012) (pc + 1) ls st H = am_nx pc' ls' st' H') (k : am_W Y X pc' ls' st' H') : am_W Y X pc ls st H := by
  obtain ⟨i, a, s, kk, vs, v, rfl, hH, hk, hv, e⟩ := am_aload_spec hs
  cases e
  intro Hm lsA locs hR hL hl
  obtain ⟨x, hx, hc⟩ := hR.2.2.2 a _ hH
  simp only [Bool.or_eq_true, beq_iff_eq] at hk
  rcases hk with (rfl | rfl) | rfl
  · obtain ⟨h1, h2⟩ := am_arr_in (t := 10) hc hv
    exact W.aald hA.1 hA.2.1 (ty := .object "java/lang/Object") hx (am_arrOf (t := 10) hA (by rfl) hc) rfl hc.1 h1 h2 rfl rfl hd (k Hm lsA locs hR hL hl)
  · obtain ⟨h1, h2⟩ := am_arr_in (t := 11) hc hv
    exact W.aald hA.1 hA.2.1 (ty := .object "java/lang/String") hx (am_arrOf (t := 11) hA (by rfl) hc) rfl hc.1 h1 h2 rfl rfl hd (k Hm lsA locs hR hL hl)
  · obtain ⟨h1, h2⟩ := am_arr_in (t := 12) hc hv
    exact W.aald hA.1 hA.2.1 (ty := .array .int) hx (am_arrOf (t := 12) hA (by rfl) hc) rfl hc.1 h1 h2 rfl rfl hd (k Hm lsA locs hR hL hl)
theorem am_arr_set {a t : Nat} {vs : List Value} {x : Cell} {j : Nat} {v : Value} (h : am_cell Y a (1000 + t, vs) x) (hj : j < vs.length) (hfv : ∀ ty, am_aty t = some ty → fits ty v = true) : am_cell Y a (1000 + t, vs.set j v) (x.setSlot j v) := by
  obtain ⟨h1, h2, h3, h4⟩ := h
  refine ⟨h1, h2, h3, Or.inr ?_⟩
  rcases h4 with ⟨hk, -⟩ | ⟨hge, hty, hcl, hsv, hle, hsz, hex, hft⟩
  · dsimp only at hk; omega
  · dsimp only at hsv hle hsz hex hft
    refine ⟨hge, hty, hcl, fun i w hi => ?_, by rw [k2_slotsz]; dsimp only; rw [List.length_set]; exact hle, by rw [k2_slotsz]; dsimp only; rw [List.length_set]; exact hsz, fun hb => by rw [k2_slotsz]; dsimp only; rw [List.length_set]; exact hex hb, fun ty hty w hw => ?_⟩
    dsimp only at hi
    by_cases hij : i = j
    · subst hij
      rw [List.getElem?_set_self hj] at hi
      cases hi
      exact Cell.slots_setSlot_self _ (by omega)
    · rw [List.getElem?_set_ne (Ne.symm hij)] at hi
      rw [slot_ne _ _ (Ne.symm hij)]
      exact hsv i w hi
    dsimp only at hty hw
    rcases List.mem_or_eq_of_mem_set hw with h | rfl
    · exact hft ty hty w h
    · exact hfv ty (by rw [Nat.add_sub_cancel_left] at hty; exact hty)
theorem am_astore_spec {k0 base : Nat} {ok : Value → Bool} (hs : am_astore k0 base ok n ls st H = some r) : ∃ v i a s vs, st = v :: .int i :: .ref a :: s ∧ H.1 a = some (k0, vs) ∧ base ≤ a ∧ ok v = true ∧ (∃ w, am_ix i vs = some w) ∧ (.inl (n, ls, s, am_put H a (k0, vs.set i.toNatClampNeg v)) : am_S) = r := by
  unfold am_astore at hs
  split at hs
  · rename_i v i a s
    split at hs
    · rename_i k vs hH
      by_cases hb : (decide (k = k0) && decide (base ≤ a) && ok v && (am_ix i vs).isSome) = true
      · rw [if_pos hb] at hs
        simp only [Bool.and_eq_true, decide_eq_true_eq] at hb
        obtain ⟨⟨⟨rfl, h1⟩, h2⟩, h3⟩ := hb
        exact ⟨v, i, a, s, vs, rfl, hH, h1, h2, Option.isSome_iff_exists.mp h3, Option.some.inj hs⟩
      · rw [if_neg hb] at hs; cases hs
    · cases hs
  · cases hs
theorem am_fit_int {v : Value} (h : am_fit 0 v = true) : ∃ x, v = .int x := by
  cases v <;> first | exact ⟨_, rfl⟩ | (exact absurd h (by simp [am_fit, am_ty, narrow, fits]))
theorem am_fit_byte {v : Value} (h : am_fit 4 v = true) : ∃ x, v = .int x ∧ narrow .byte v = v := by
  cases v <;> first | (exact ⟨_, rfl, by simp only [am_fit, am_ty] at h; rw [if_neg (by decide)] at h; simp only [Bool.and_eq_true, decide_eq_true_eq] at h; exact h.1⟩) | (exact absurd h (by simp [am_fit, am_ty, narrow, fits]))
theorem am_fit_char {v : Value} (h : am_fit 5 v = true) : ∃ x, v = .int x ∧ narrow .char v = v := by
  cases v <;> first | (exact ⟨_, rfl, by simp only [am_fit, am_ty] at h; rw [if_neg (by decide)] at h; simp only [Bool.and_eq_true, decide_eq_true_eq] at h; exact h.1⟩) | (exact absurd h (by simp [am_fit, am_ty, narrow, fits]))
theorem am_fit_long {v : Value} (h : am_fit 1 v = true) : ∃ x, v = .long x := by
  cases v <;> first | exact ⟨_, rfl⟩ | (exact absurd h (by simp [am_fit, am_ty, narrow, fits]))
theorem am_fit_double {v : Value} (h : am_fit 3 v = true) : ∃ x, v = .double x := by
  cases v <;> first | exact ⟨_, rfl⟩ | (exact absurd h (by simp [am_fit, am_ty, narrow, fits]))
theorem am_locs1 {locs : List Jvm.Loc} {b a j : Nat} (hl : ∀ z ∈ locs, b ≤ z.base) (h : b ≤ a) : ∀ z ∈ locs ++ [(⟨a, j⟩ : Jvm.Loc)], b ≤ z.base := fun z hz => by
  rcases List.mem_append.mp hz with q | q
  · exact hl z q
  · rw [List.mem_singleton.mp q]; exact h
theorem am_so_iastore (hA : am_A Y X y cc) (hd : decode cc pc = .ok (.iastore, 1)) (hs : am_astore 1000 Y.base (am_fit 0) (pc + 1) ls st H = am_nx pc' ls' st' H') (k : am_W Y X pc' ls' st' H') : am_W Y X pc ls st H := by
  obtain ⟨v, i, a, s, vs, rfl, hH, hba, hft, ⟨w, hw⟩, e⟩ := am_astore_spec hs
  cases e
  have hft0 := hft
  obtain ⟨x0, rfl⟩ := am_fit_int hft
  intro Hm lsA locs hR hL hl
  obtain ⟨x, hx, hc⟩ := hR.2.2.2 a _ hH
  obtain ⟨h1, h2⟩ := am_arr_in (t := 0) hc hw
  exact W.iast hA.1 hA.2.1 hx (am_arrOf (t := 0) hA (by rfl) hc) hc.1 h1 rfl rfl hd fun H1 e1 e2 e3 => k H1 lsA _ (am_R_put hR hba e2 e3 ⟨_, by exact e1, am_arr_set (t := 0) hc (List.getElem?_eq_some_iff.mp (am_ix_spec hw).2).1 (fun ty hty => by cases hty; exact (am_fit_spec (t := 0) (Or.inl ⟨by decide, rfl⟩) hft0).2)⟩) hL (am_locs1 hl hba)
theorem am_so_lastore (hA : am_A Y X y cc) (hd : decode cc pc = .ok (.lastore, 1)) (hs : am_astore 1001 Y.base (am_fit 1) (pc + 1) ls st H = am_nx pc' ls' st' H') (k : am_W Y X pc' ls' st' H') : am_W Y X pc ls st H := by
  obtain ⟨v, i, a, s, vs, rfl, hH, hba, hft, ⟨w, hw⟩, e⟩ := am_astore_spec hs
  cases e
  have hft0 := hft
  obtain ⟨x0, rfl⟩ := am_fit_long hft
  intro Hm lsA locs hR hL hl
  obtain ⟨x, hx, hc⟩ := hR.2.2.2 a _ hH
  obtain ⟨h1, h2⟩ := am_arr_in (t := 1) hc hw
  exact W.last hA.1 hA.2.1 hx (am_arrOf (t := 1) hA (by rfl) hc) hc.1 h1 rfl rfl hd fun H1 e1 e2 e3 => k H1 lsA _ (am_R_put hR hba e2 e3 ⟨_, by exact e1, am_arr_set (t := 1) hc (List.getElem?_eq_some_iff.mp (am_ix_spec hw).2).1 (fun ty hty => by cases hty; exact (am_fit_spec (t := 1) (Or.inl ⟨by decide, rfl⟩) hft0).2)⟩) hL (am_locs1 hl hba)
theorem am_so_bastore (hA : am_A Y X y cc) (hd : decode cc pc = .ok (.bastore, 1)) (hs : am_astore 1002 Y.base (am_fit 4) (pc + 1) ls st H = am_nx pc' ls' st' H') (k : am_W Y X pc' ls' st' H') : am_W Y X pc ls st H := by
  obtain ⟨v, i, a, s, vs, rfl, hH, hba, hft, ⟨w, hw⟩, e⟩ := am_astore_spec hs
  cases e
  have hft0 := hft
  obtain ⟨x0, rfl, hn⟩ := am_fit_byte hft
  intro Hm lsA locs hR hL hl
  obtain ⟨x, hx, hc⟩ := hR.2.2.2 a _ hH
  obtain ⟨h1, h2⟩ := am_arr_in (t := 2) hc hw
  exact W.bast hA.1 hA.2.1 hx (am_arrOf (t := 2) hA (by rfl) hc) hc.1 h1 rfl rfl hd fun H1 e1 e2 e3 => k H1 lsA _ (am_R_put hR hba e2 e3 ⟨_, by rw [hn] at e1; exact e1, am_arr_set (t := 2) hc (List.getElem?_eq_some_iff.mp (am_ix_spec hw).2).1 (fun ty hty => by cases hty; exact (am_fit_spec (t := 4) (Or.inl ⟨by decide, rfl⟩) hft0).2)⟩) hL (am_locs1 hl hba)
theorem am_so_castore (hA : am_A Y X y cc) (hd : decode cc pc = .ok (.castore, 1)) (hs : am_astore 1003 Y.base (am_fit 5) (pc + 1) ls st H = am_nx pc' ls' st' H') (k : am_W Y X pc' ls' st' H') : am_W Y X pc ls st H := by
  obtain ⟨v, i, a, s, vs, rfl, hH, hba, hft, ⟨w, hw⟩, e⟩ := am_astore_spec hs
  cases e
  have hft0 := hft
  obtain ⟨x0, rfl, hn⟩ := am_fit_char hft
  intro Hm lsA locs hR hL hl
  obtain ⟨x, hx, hc⟩ := hR.2.2.2 a _ hH
  obtain ⟨h1, h2⟩ := am_arr_in (t := 3) hc hw
  exact W.cast hA.1 hA.2.1 hx (am_arrOf (t := 3) hA (by rfl) hc) hc.1 h1 rfl rfl hd fun H1 e1 e2 e3 => k H1 lsA _ (am_R_put hR hba e2 e3 ⟨_, by rw [hn] at e1; exact e1, am_arr_set (t := 3) hc (List.getElem?_eq_some_iff.mp (am_ix_spec hw).2).1 (fun ty hty => by cases hty; exact (am_fit_spec (t := 5) (Or.inl ⟨by decide, rfl⟩) hft0).2)⟩) hL (am_locs1 hl hba)
theorem am_so_dastore (hA : am_A Y X y cc) (hd : decode cc pc = .ok (.dastore, 1)) (hs : am_astore 1004 Y.base (am_fit 3) (pc + 1) ls st H = am_nx pc' ls' st' H') (k : am_W Y X pc' ls' st' H') : am_W Y X pc ls st H := by
  obtain ⟨v, i, a, s, vs, rfl, hH, hba, hft, ⟨w, hw⟩, e⟩ := am_astore_spec hs
  cases e
  have hft0 := hft
  obtain ⟨x0, rfl⟩ := am_fit_double hft
  intro Hm lsA locs hR hL hl
  obtain ⟨x, hx, hc⟩ := hR.2.2.2 a _ hH
  obtain ⟨h1, h2⟩ := am_arr_in (t := 4) hc hw
  exact W.dast hA.1 hA.2.1 hx (am_arrOf (t := 4) hA (by rfl) hc) hc.1 h1 rfl rfl hd fun H1 e1 e2 e3 => k H1 lsA _ (am_R_put hR hba e2 e3 ⟨_, by exact e1, am_arr_set (t := 4) hc (List.getElem?_eq_some_iff.mp (am_ix_spec hw).2).1 (fun ty hty => by cases hty; exact (am_fit_spec (t := 3) (Or.inl ⟨by decide, rfl⟩) hft0).2)⟩) hL (am_locs1 hl hba)
/-- every class of the table may lie in an Object[]; class 0 is String -/
def am_OB (Y : am_Y) : Prop := (∀ (k : Nat) (r : vw_C), Y.cl[k]? = some r → Cond.castable r.1 "java/lang/Object" ∈ lw_tbl) ∧ ∃ r, Y.cl[0]? = some r ∧ r.1 = "java/lang/String"
theorem am_castW (hA : am_A Y X y cc) {C T : String} (hw : Cond.castable C T ∈ lw_tbl) : (Cond.castable C T).before X.args X.s = true := by
  obtain ⟨a0, h0⟩ := hA.2.2.2.2.2.2.2.2.1
  exact va_Nw.use rfl (va_Nw.warmC hA.2.2.2.2.1 (va_Nw.of rfl (h0 _ hw)))
theorem am_aastore_spec {base : Nat} (hs : am_aastore base n ls st H = some r) : ∃ v i a s k vs, st = v :: .int i :: .ref a :: s ∧ H.1 a = some (k, vs) ∧ (k = 1010 ∨ k = 1011) ∧ base ≤ a ∧ (∃ w, am_ix i vs = some w) ∧ (v = .null ∨ ∃ b kb ws, v = .ref b ∧ H.1 b = some (kb, ws) ∧ am_sto (k - 1000) kb = true) ∧ (.inl (n, ls, s, am_put H a (k, vs.set i.toNatClampNeg v)) : am_S) = r := by
  unfold am_aastore at hs
  split at hs
  · rename_i v i a s
    split at hs
    · rename_i k vs hH
      by_cases hb : ((k == 1010 || k == 1011) && decide (base ≤ a) && (am_ix i vs).isSome && am_stok H (k - 1000) v) = true
      · rw [if_pos hb] at hs
        simp only [Bool.and_eq_true, Bool.or_eq_true, beq_iff_eq, decide_eq_true_eq] at hb
        obtain ⟨⟨⟨h1, h2⟩, h3⟩, h4⟩ := hb
        refine ⟨v, i, a, s, k, vs, rfl, hH, h1, h2, Option.isSome_iff_exists.mp h3, ?_, Option.some.inj hs⟩
        cases v <;> first | (cases h4; done) | skip
        · exact Or.inl rfl
        · rename_i b
          dsimp only [am_stok] at h4
          cases hb2 : H.1 b with
          | none => rw [hb2] at h4; cases h4
          | some q =>
            rw [hb2] at h4
            exact Or.inr ⟨b, q.1, q.2, rfl, hb2, h4⟩
      · rw [if_neg hb] at hs; cases hs
    · cases hs
  · cases hs
theorem am_so_aastore (hA : am_A Y X y cc) (hOB : am_OB Y) (hd : decode cc pc = .ok (.aastore, 1)) (hs : am_aastore Y.base (pc + 1) ls st H = am_nx pc' ls' st' H') (k : am_W Y X pc' ls' st' H') : am_W Y X pc ls st H := by
  obtain ⟨v, i, a, s, kk, vs, rfl, hH, hk, hba, ⟨w, hw⟩, hv, e⟩ := am_aastore_spec hs
  cases e
  intro Hm lsA locs hR hL hl
  obtain ⟨x, hx, hc⟩ := hR.2.2.2 a _ hH
  have hkk : kk = 1000 + (kk - 1000) := by omega
  generalize kk - 1000 = t at hkk hv
  subst hkk
  obtain ⟨h1, h2⟩ := am_arr_in hc hw
  have hlt : i.toNatClampNeg < vs.length := (List.getElem?_eq_some_iff.mp (am_ix_spec hw).2).1
  have hback : ∀ H1 : Heap, H1[a]? = some (x.setSlot i.toNatClampNeg v) → H1.size = Hm.size → (∀ q, q ≠ a → H1[q]? = Hm[q]?) → am_R Y (am_put H a (1000 + t, vs.set i.toNatClampNeg v)) H1 := fun H1 e1 e2 e3 => am_R_put hR hba e2 e3 ⟨_, e1, am_arr_set hc hlt (fun ty hty => by
    have : ∃ C, ty = .object C := by
      rcases hk with hk | hk
      · have : t = 10 := by omega
        subst this; cases hty; exact ⟨_, rfl⟩
      · have : t = 11 := by omega
        subst this; cases hty; exact ⟨_, rfl⟩
    obtain ⟨C, rfl⟩ := this
    rcases hv with rfl | ⟨b, kb, ws, rfl, -⟩ <;> rfl)⟩
  obtain ⟨hc1, hc2, -, hc4⟩ := id hc
  rcases hc4 with ⟨hlo, -⟩ | ⟨-, hty, hcl, -⟩
  · dsimp only at hlo; omega
  · dsimp only at hty hcl
    rw [Nat.add_sub_cancel_left] at hty hcl
    obtain ⟨ty, hty⟩ := Option.isSome_iff_exists.mp hty
    rcases hv with rfl | ⟨b, kb, ws, rfl, hHb, hsto⟩
    · have hoc : ∃ C, ty = .object C := by
        rcases hk with hk | hk
        · have : t = 10 := by omega
          subst this; cases hty; exact ⟨_, rfl⟩
        · have : t = 11 := by omega
          subst this; cases hty; exact ⟨_, rfl⟩
      obtain ⟨C, rfl⟩ := hoc
      exact va_WaastN (C := C) hA.1 hA.2.1 hx (am_arrOf hA hty hc) hc1 h1 rfl rfl hd fun H1 e1 e2 e3 => k H1 lsA _ (hback H1 e1 e2 e3) hL (am_locs1 hl hba)
    · obtain ⟨xb, hxb, hcb1, hcb2, -, hcb4⟩ := hR.2.2.2 b _ hHb
      simp only [am_sto, Bool.or_eq_true, Bool.and_eq_true, beq_iff_eq, decide_eq_true_eq] at hsto
      rcases hcb4 with ⟨hlo, hclb, rb, hrb, -⟩ | ⟨hge, -⟩
      · obtain ⟨hS, hcls⟩ := hA.2.2.2.2.2.1.1 kb rb hrb
        obtain ⟨kC, hkC, -⟩ := hcls.2
        have hin : ¬ i < 0 ∧ i.toNatClampNeg < x.slots.size := ⟨fun q => h1 (Or.inl q), Nat.not_le.mp fun q => h1 (Or.inr q)⟩
        rcases hsto with ⟨rfl, -⟩ | ⟨rfl, rfl⟩
        · cases hty
          obtain ⟨kA, comp, k1, k2, k3, -⟩ := (hA.2.2.2.2.2.1.2 10 _ rfl).2
          obtain ⟨kE, hkE, -⟩ := Vm.findClass_spec k3
          obtain ⟨c0, t1, f1, f2, f3⟩ := Cond.castable_spec (am_castW hA (hOB.1 kb rb hrb))
          cases hcls.1.symm.trans f1
          cases k3.symm.trans f2
          exact W.aast hA.1 hA.2.1 hx (fun q h => by rw [h] at hc2; cases hc2) hc1 (by rw [hcl]; exact k1) k2 rfl hkE hin hxb (fun q h => by rw [h] at hcb2; cases hcb2) (by rw [hclb]; exact hkC) (by rw [hclb]; exact f3) rfl rfl hd fun H1 e1 e2 e3 => k H1 lsA _ (hback H1 e1 e2 e3) hL (am_locs1 hl hba)
        · cases hty
          obtain ⟨kA, comp, k1, k2, k3, -⟩ := (hA.2.2.2.2.2.1.2 11 _ rfl).2
          obtain ⟨r0, hr0, hn0⟩ := hOB.2
          cases hr0.symm.trans hrb
          rw [hn0] at hcls
          have hcomp : comp = Y.D.1 0 := Option.some.inj (k3.symm.trans hcls.1)
          subst hcomp
          exact W.aast hA.1 hA.2.1 hx (fun q h => by rw [h] at hc2; cases hc2) hc1 (by rw [hcl]; exact k1) k2 rfl hkC hin hxb (fun q h => by rw [h] at hcb2; cases hcb2) (by rw [hclb]; exact hkC) (by rw [hclb]; exact va_assign hcls) rfl rfl hd fun H1 e1 e2 e3 => k H1 lsA _ (hback H1 e1 e2 e3) hL (am_locs1 hl hba)
      · dsimp only at hge
        rcases hsto with ⟨-, h⟩ | ⟨-, h⟩ <;> omega
theorem am_so_alen (hA : am_A Y X y cc) (hd : decode cc pc = .ok (.arraylength, 1)) (hs : am_alen (pc + 1) ls st H = am_nx pc' ls' st' H') (k : am_W Y X pc' ls' st' H') : am_W Y X pc ls st H := by
  unfold am_alen at hs
  split at hs
  · rename_i a t
    split at hs
    · rename_i kk vs hH
      split at hs
      · rename_i hk
        cases hs
        intro Hm lsA locs hR hL hl
        obtain ⟨x, hx, hc⟩ := hR.2.2.2 a _ hH
        have hkk : kk = 1000 + (kk - 1000) := by omega
        generalize kk - 1000 = t at hkk
        subst hkk
        rcases hc.2.2.2 with ⟨hlo, -⟩ | ⟨-, hty, -, -, -, hsz, -⟩
        · dsimp only at hlo; omega
        · dsimp only at hty hsz
          rw [Nat.add_sub_cancel_left] at hty
          obtain ⟨ty, hty⟩ := Option.isSome_iff_exists.mp hty
          exact W.alen hA.1 hA.2.1 hx (am_arrOf hA hty hc) hsz rfl rfl hd (k Hm lsA locs hR hL hl)
      · cases hs
    · cases hs
  · cases hs
end AMR
