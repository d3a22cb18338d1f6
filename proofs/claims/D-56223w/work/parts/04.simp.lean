section AMP
variable {Y : am_Y} {X : am_X} {y : MethodName} {cc : ByteArray} {pc n : Nat} {ls st : List Value} {H : am_H} {pc' : Nat} {ls' st' : List Value} {H' : am_H}
variable {r : am_S}
theorem am_n64_spec {r : UInt64} (h : am_n64 r = true) : vf_n64 r := by
  unfold vf_n64
  unfold am_n64 at h
  exact of_decide_eq_true h
theorem am_n32_spec {r : UInt32} (h : am_n32 r = true) : vf_n32 r := by
  unfold vf_n32
  unfold am_n32 at h
  exact of_decide_eq_true h
theorem am_loadI_spec {i : Nat} (hs : am_loadI i n ls st H = some r) : ∃ x, ls[i]? = some (.int x) ∧ (.inl (n, ls, .int x :: st, H) : am_S) = r := by
  unfold am_loadI at hs
  split at hs
  · rename_i x hx; exact ⟨x, hx, Option.some.inj hs⟩
  · cases hs
theorem am_loadL_spec {i : Nat} (hs : am_loadL i n ls st H = some r) : ∃ x, ls[i]? = some (.long x) ∧ (.inl (n, ls, .long x :: st, H) : am_S) = r := by
  unfold am_loadL at hs
  split at hs
  · rename_i x hx; exact ⟨x, hx, Option.some.inj hs⟩
  · cases hs
theorem am_loadF_spec {i : Nat} (hs : am_loadF i n ls st H = some r) : ∃ x, ls[i]? = some (.float x) ∧ (.inl (n, ls, .float x :: st, H) : am_S) = r := by
  unfold am_loadF at hs
  split at hs
  · rename_i x hx; exact ⟨x, hx, Option.some.inj hs⟩
  · cases hs
theorem am_loadD_spec {i : Nat} (hs : am_loadD i n ls st H = some r) : ∃ x, ls[i]? = some (.double x) ∧ (.inl (n, ls, .double x :: st, H) : am_S) = r := by
  unfold am_loadD at hs
  split at hs
  · rename_i x hx; exact ⟨x, hx, Option.some.inj hs⟩
  · cases hs
theorem am_loadA_spec {i : Nat} (hs : am_loadA i n ls st H = some r) : ∃ v, ls[i]? = some v ∧ am_isR v = true ∧ (.inl (n, ls, v :: st, H) : am_S) = r := by
  unfold am_loadA at hs
  split at hs
  · rename_i v hv
    split at hs
    · rename_i h; exact ⟨v, hv, h, Option.some.inj hs⟩
    · cases hs
  · cases hs
theorem am_storeI_spec {i : Nat} (hs : am_storeI i n ls st H = some r) : ∃ x t l, st = .int x :: t ∧ am_st1 ls i (.int x) = some l ∧ (.inl (n, l, t, H) : am_S) = r := by
  unfold am_storeI at hs
  split at hs
  · split at hs
    · rename_i l hl; exact ⟨_, _, l, rfl, hl, Option.some.inj hs⟩
    · cases hs
  · cases hs
theorem am_storeF_spec {i : Nat} (hs : am_storeF i n ls st H = some r) : ∃ x t l, st = .float x :: t ∧ am_st1 ls i (.float x) = some l ∧ (.inl (n, l, t, H) : am_S) = r := by
  unfold am_storeF at hs
  split at hs
  · split at hs
    · rename_i l hl; exact ⟨_, _, l, rfl, hl, Option.some.inj hs⟩
    · cases hs
  · cases hs
theorem am_storeL_spec {i : Nat} (hs : am_storeL i n ls st H = some r) : ∃ x t l, st = .long x :: t ∧ am_st2 ls i (.long x) = some l ∧ (.inl (n, l, t, H) : am_S) = r := by
  unfold am_storeL at hs
  split at hs
  · split at hs
    · rename_i l hl; exact ⟨_, _, l, rfl, hl, Option.some.inj hs⟩
    · cases hs
  · cases hs
theorem am_storeD_spec {i : Nat} (hs : am_storeD i n ls st H = some r) : ∃ x t l, st = .double x :: t ∧ am_st2 ls i (.double x) = some l ∧ (.inl (n, l, t, H) : am_S) = r := by
  unfold am_storeD at hs
  split at hs
  · split at hs
    · rename_i l hl; exact ⟨_, _, l, rfl, hl, Option.some.inj hs⟩
    · cases hs
  · cases hs
theorem am_storeA_spec {i : Nat} (hs : am_storeA i n ls st H = some r) : ∃ v t l, st = v :: t ∧ am_isR v = true ∧ am_st1 ls i v = some l ∧ (.inl (n, l, t, H) : am_S) = r := by
  unfold am_storeA at hs
  split at hs
  · split at hs
    · rename_i h
      split at hs
      · rename_i l hl; exact ⟨_, _, l, rfl, h, hl, Option.some.inj hs⟩
      · cases hs
    · cases hs
  · cases hs
theorem am_inc_spec {i : Nat} {z : Int} (hs : am_inc i z n ls st H = some r) : ∃ x l, ls[i]? = some (.int x) ∧ am_st1 ls i (.int (x + Int32.ofInt z)) = some l ∧ (.inl (n, l, st, H) : am_S) = r := by
  unfold am_inc at hs
  split at hs
  · rename_i x hx
    split at hs
    · rename_i l hl; exact ⟨x, l, hx, hl, Option.some.inj hs⟩
    · cases hs
  · cases hs
theorem am_ib_spec {f : Int32 → Int32 → Int32} (hs : am_ib f n ls st H = some r) : ∃ x y t, st = .int y :: .int x :: t ∧ (.inl (n, ls, .int (f x y) :: t, H) : am_S) = r := by
  unfold am_ib at hs
  split at hs
  · exact ⟨_, _, _, rfl, Option.some.inj hs⟩
  · cases hs
theorem am_ibz_spec {f : Int32 → Int32 → Int32} (hs : am_ibz f n ls st H = some r) : ∃ x y t, st = .int y :: .int x :: t ∧ ¬ y = 0 ∧ (.inl (n, ls, .int (f x y) :: t, H) : am_S) = r := by
  unfold am_ibz at hs
  split at hs
  · split at hs
    · cases hs
    · rename_i h; exact ⟨_, _, _, rfl, h, Option.some.inj hs⟩
  · cases hs
theorem am_iu_spec {f : Int32 → Value} (hs : am_iu f n ls st H = some r) : ∃ x t, st = .int x :: t ∧ (.inl (n, ls, f x :: t, H) : am_S) = r := by
  unfold am_iu at hs
  split at hs
  · exact ⟨_, _, rfl, Option.some.inj hs⟩
  · cases hs
theorem am_lb_spec {f : Int64 → Int64 → Int64} (hs : am_lb f n ls st H = some r) : ∃ x y t, st = .long y :: .long x :: t ∧ (.inl (n, ls, .long (f x y) :: t, H) : am_S) = r := by
  unfold am_lb at hs
  split at hs
  · exact ⟨_, _, _, rfl, Option.some.inj hs⟩
  · cases hs
theorem am_l2i_spec (hs : am_l2i n ls st H = some r) : ∃ x t, st = .long x :: t ∧ (.inl (n, ls, .int x.toInt32 :: t, H) : am_S) = r := by
  unfold am_l2i at hs
  split at hs
  · exact ⟨_, _, rfl, Option.some.inj hs⟩
  · cases hs
theorem am_lcmp_spec (hs : am_lcmp n ls st H = some r) : ∃ x y t, st = .long y :: .long x :: t ∧ (.inl (n, ls, .int (lg_cmp x y) :: t, H) : am_S) = r := by
  unfold am_lcmp at hs
  split at hs
  · exact ⟨_, _, _, rfl, Option.some.inj hs⟩
  · cases hs
theorem am_fcmp_spec {op : ClassFile.CmpOp} (hs : am_fcmp op n ls st H = some r) : ∃ x y t, st = .float y :: .float x :: t ∧ (.inl (n, ls, .int (Op.cmpValue (FP.fcmp x y) op) :: t, H) : am_S) = r := by
  unfold am_fcmp at hs
  split at hs
  · exact ⟨_, _, _, rfl, Option.some.inj hs⟩
  · cases hs
theorem am_dcmp_spec {op : ClassFile.CmpOp} (hs : am_dcmp op n ls st H = some r) : ∃ x y t, st = .double y :: .double x :: t ∧ (.inl (n, ls, .int (Op.cmpValue (FP.dcmp x y) op) :: t, H) : am_S) = r := by
  unfold am_dcmp at hs
  split at hs
  · exact ⟨_, _, _, rfl, Option.some.inj hs⟩
  · cases hs
theorem am_f2d_spec (hs : am_f2d n ls st H = some r) : ∃ x t, st = .float x :: t ∧ am_n64 (FP.f2d x) = true ∧ (.inl (n, ls, .double (FP.f2d x) :: t, H) : am_S) = r := by
  unfold am_f2d at hs
  split at hs
  · split at hs
    · rename_i h; exact ⟨_, _, rfl, h, Option.some.inj hs⟩
    · cases hs
  · cases hs
theorem am_fdiv_spec (hs : am_fdiv n ls st H = some r) : ∃ x y t, st = .float y :: .float x :: t ∧ am_n32 (FP.fdiv x y) = true ∧ (.inl (n, ls, .float (FP.fdiv x y) :: t, H) : am_S) = r := by
  unfold am_fdiv at hs
  split at hs
  · split at hs
    · rename_i h; exact ⟨_, _, _, rfl, h, Option.some.inj hs⟩
    · cases hs
  · cases hs
theorem am_ddiv_spec (hs : am_ddiv n ls st H = some r) : ∃ x y t, st = .double y :: .double x :: t ∧ am_n64 (FP.ddiv x y) = true ∧ (.inl (n, ls, .double (FP.ddiv x y) :: t, H) : am_S) = r := by
  unfold am_ddiv at hs
  split at hs
  · split at hs
    · rename_i h; exact ⟨_, _, _, rfl, h, Option.some.inj hs⟩
    · cases hs
  · cases hs
theorem am_pop_spec (hs : am_pop n ls st H = some r) : ∃ v t, st = v :: t ∧ am_is2 v = false ∧ (.inl (n, ls, t, H) : am_S) = r := by
  unfold am_pop at hs
  split at hs
  · split at hs
    · cases hs
    · rename_i h; exact ⟨_, _, rfl, by simpa using h, Option.some.inj hs⟩
  · cases hs
theorem am_dup_spec (hs : am_dup n ls st H = some r) : ∃ v t, st = v :: t ∧ am_is2 v = false ∧ (.inl (n, ls, v :: v :: t, H) : am_S) = r := by
  unfold am_dup at hs
  split at hs
  · split at hs
    · cases hs
    · rename_i h; exact ⟨_, _, rfl, by simpa using h, Option.some.inj hs⟩
  · cases hs
theorem am_dupx1_spec (hs : am_dupx1 n ls st H = some r) : ∃ v w t, st = v :: w :: t ∧ am_is2 v = false ∧ am_is2 w = false ∧ (.inl (n, ls, v :: w :: v :: t, H) : am_S) = r := by
  unfold am_dupx1 at hs
  split at hs
  · split at hs
    · cases hs
    · rename_i h
      simp only [Bool.or_eq_true, not_or, Bool.not_eq_true] at h
      exact ⟨_, _, _, rfl, h.1, h.2, Option.some.inj hs⟩
  · cases hs
theorem am_dup2_spec (hs : am_dup2 n ls st H = some r) : ∃ v w t, st = v :: w :: t ∧ ((am_is2 v = true ∧ (.inl (n, ls, v :: v :: w :: t, H) : am_S) = r) ∨ (am_is2 v = false ∧ am_is2 w = false ∧ (.inl (n, ls, v :: w :: v :: w :: t, H) : am_S) = r)) := by
  unfold am_dup2 at hs
  split at hs
  · split at hs
    · rename_i h; exact ⟨_, _, _, rfl, Or.inl ⟨h, Option.some.inj hs⟩⟩
    · rename_i h
      split at hs
      · cases hs
      · rename_i h2; exact ⟨_, _, _, rfl, Or.inr ⟨by simpa using h, by simpa using h2, Option.some.inj hs⟩⟩
  · cases hs
theorem am_so_iload (hA : am_A Y X y cc) {i : Nat} (hd : decode cc pc = .ok (.iload i, 2)) (hs : am_loadI i (pc + 2) ls st H = am_nx pc' ls' st' H') (k : am_W Y X pc' ls' st' H') : am_W Y X pc ls st H := by
  obtain ⟨x, hx, e⟩ := am_loadI_spec hs
  cases e
  exact fun Hm lsA locs hR hL hl => lv_iload hA.1 hA.2.1 hd (am_L_get hL hx (fun h => by cases h)) (k Hm lsA locs hR hL hl)
theorem am_so_iload_n (hA : am_A Y X y cc) {i : Fin 4} (hd : decode cc pc = .ok (.iload_n i, 1)) (hs : am_loadI i.val (pc + 1) ls st H = am_nx pc' ls' st' H') (k : am_W Y X pc' ls' st' H') : am_W Y X pc ls st H := by
  obtain ⟨x, hx, e⟩ := am_loadI_spec hs
  cases e
  exact fun Hm lsA locs hR hL hl => lv_iload_n hA.1 hA.2.1 hd rfl (am_L_get hL hx (fun h => by cases h)) (k Hm lsA locs hR hL hl)
theorem am_so_lload (hA : am_A Y X y cc) {i : Nat} (hd : decode cc pc = .ok (.lload i, 2)) (hs : am_loadL i (pc + 2) ls st H = am_nx pc' ls' st' H') (k : am_W Y X pc' ls' st' H') : am_W Y X pc ls st H := by
  obtain ⟨x, hx, e⟩ := am_loadL_spec hs
  cases e
  exact fun Hm lsA locs hR hL hl => lv_lload hA.1 hA.2.1 hd (am_L_get hL hx (fun h => by cases h)) (k Hm lsA locs hR hL hl)
theorem am_so_lload_n (hA : am_A Y X y cc) {i : Fin 4} (hd : decode cc pc = .ok (.lload_n i, 1)) (hs : am_loadL i.val (pc + 1) ls st H = am_nx pc' ls' st' H') (k : am_W Y X pc' ls' st' H') : am_W Y X pc ls st H := by
  obtain ⟨x, hx, e⟩ := am_loadL_spec hs
  cases e
  exact fun Hm lsA locs hR hL hl => lv_lload_n hA.1 hA.2.1 hd rfl (am_L_get hL hx (fun h => by cases h)) (k Hm lsA locs hR hL hl)
theorem am_so_fload (hA : am_A Y X y cc) {i : Nat} (hd : decode cc pc = .ok (.fload i, 2)) (hs : am_loadF i (pc + 2) ls st H = am_nx pc' ls' st' H') (k : am_W Y X pc' ls' st' H') : am_W Y X pc ls st H := by
  obtain ⟨x, hx, e⟩ := am_loadF_spec hs
  cases e
  exact fun Hm lsA locs hR hL hl => lv_fload hA.1 hA.2.1 hd (am_L_get hL hx (fun h => by cases h)) (k Hm lsA locs hR hL hl)
theorem am_so_fload_n (hA : am_A Y X y cc) {i : Fin 4} (hd : decode cc pc = .ok (.fload_n i, 1)) (hs : am_loadF i.val (pc + 1) ls st H = am_nx pc' ls' st' H') (k : am_W Y X pc' ls' st' H') : am_W Y X pc ls st H := by
  obtain ⟨x, hx, e⟩ := am_loadF_spec hs
  cases e
  exact fun Hm lsA locs hR hL hl => lv_fload_n hA.1 hA.2.1 hd rfl (am_L_get hL hx (fun h => by cases h)) (k Hm lsA locs hR hL hl)
theorem am_so_dload (hA : am_A Y X y cc) {i : Nat} (hd : decode cc pc = .ok (.dload i, 2)) (hs : am_loadD i (pc + 2) ls st H = am_nx pc' ls' st' H') (k : am_W Y X pc' ls' st' H') : am_W Y X pc ls st H := by
  obtain ⟨x, hx, e⟩ := am_loadD_spec hs
  cases e
  exact fun Hm lsA locs hR hL hl => lv_dload hA.1 hA.2.1 hd (am_L_get hL hx (fun h => by cases h)) (k Hm lsA locs hR hL hl)
theorem am_so_dload_n (hA : am_A Y X y cc) {i : Fin 4} (hd : decode cc pc = .ok (.dload_n i, 1)) (hs : am_loadD i.val (pc + 1) ls st H = am_nx pc' ls' st' H') (k : am_W Y X pc' ls' st' H') : am_W Y X pc ls st H := by
  obtain ⟨x, hx, e⟩ := am_loadD_spec hs
  cases e
  exact fun Hm lsA locs hR hL hl => lv_dload_n hA.1 hA.2.1 hd rfl (am_L_get hL hx (fun h => by cases h)) (k Hm lsA locs hR hL hl)
theorem am_so_aload (hA : am_A Y X y cc) {i : Nat} (hd : decode cc pc = .ok (.aload i, 2)) (hs : am_loadA i (pc + 2) ls st H = am_nx pc' ls' st' H') (k : am_W Y X pc' ls' st' H') : am_W Y X pc ls st H := by
  obtain ⟨v, hx, hv, e⟩ := am_loadA_spec hs
  cases e
  cases v <;> first | (cases hv; done) | skip
  · exact fun Hm lsA locs hR hL hl => lv_aloadN hA.1 hA.2.1 hd (am_L_get hL hx (fun h => by cases h)) (k Hm lsA locs hR hL hl)
  · exact fun Hm lsA locs hR hL hl => lv_aload hA.1 hA.2.1 hd (am_L_get hL hx (fun h => by cases h)) (k Hm lsA locs hR hL hl)
theorem am_so_aload_n (hA : am_A Y X y cc) {i : Fin 4} (hd : decode cc pc = .ok (.aload_n i, 1)) (hs : am_loadA i.val (pc + 1) ls st H = am_nx pc' ls' st' H') (k : am_W Y X pc' ls' st' H') : am_W Y X pc ls st H := by
  obtain ⟨v, hx, hv, e⟩ := am_loadA_spec hs
  cases e
  cases v <;> first | (cases hv; done) | skip
  · exact fun Hm lsA locs hR hL hl => lv_aload_nN hA.1 hA.2.1 hd rfl (am_L_get hL hx (fun h => by cases h)) (k Hm lsA locs hR hL hl)
  · exact fun Hm lsA locs hR hL hl => lv_aload_n hA.1 hA.2.1 hd rfl (am_L_get hL hx (fun h => by cases h)) (k Hm lsA locs hR hL hl)
theorem am_so_istore (hA : am_A Y X y cc) {i : Nat} (hd : decode cc pc = .ok (.istore i, 2)) (hs : am_storeI i (pc + 2) ls st H = am_nx pc' ls' st' H') (k : am_W Y X pc' ls' st' H') : am_W Y X pc ls st H := by
  obtain ⟨x, t, l, rfl, hl, e⟩ := am_storeI_spec hs
  cases e
  exact fun Hm lsA locs hR hL hlo => lv_istore hA.1 hA.2.1 hd hL (am_st1_spec hl).1 rfl (fun lsB hB => k Hm lsB locs hR (am_L_st1 hl hB) hlo)
theorem am_so_istore_n (hA : am_A Y X y cc) {i : Fin 4} (hd : decode cc pc = .ok (.istore_n i, 1)) (hs : am_storeI i.val (pc + 1) ls st H = am_nx pc' ls' st' H') (k : am_W Y X pc' ls' st' H') : am_W Y X pc ls st H := by
  obtain ⟨x, t, l, rfl, hl, e⟩ := am_storeI_spec hs
  cases e
  exact fun Hm lsA locs hR hL hlo => lv_istore_n hA.1 hA.2.1 hd rfl hL (am_st1_spec hl).1 rfl (fun lsB hB => k Hm lsB locs hR (am_L_st1 hl hB) hlo)
theorem am_so_fstore (hA : am_A Y X y cc) {i : Nat} (hd : decode cc pc = .ok (.fstore i, 2)) (hs : am_storeF i (pc + 2) ls st H = am_nx pc' ls' st' H') (k : am_W Y X pc' ls' st' H') : am_W Y X pc ls st H := by
  obtain ⟨x, t, l, rfl, hl, e⟩ := am_storeF_spec hs
  cases e
  exact fun Hm lsA locs hR hL hlo => lv_fstore hA.1 hA.2.1 hd hL (am_st1_spec hl).1 rfl (fun lsB hB => k Hm lsB locs hR (am_L_st1 hl hB) hlo)
theorem am_so_fstore_n (hA : am_A Y X y cc) {i : Fin 4} (hd : decode cc pc = .ok (.fstore_n i, 1)) (hs : am_storeF i.val (pc + 1) ls st H = am_nx pc' ls' st' H') (k : am_W Y X pc' ls' st' H') : am_W Y X pc ls st H := by
  obtain ⟨x, t, l, rfl, hl, e⟩ := am_storeF_spec hs
  cases e
  exact fun Hm lsA locs hR hL hlo => lv_fstore_n hA.1 hA.2.1 hd rfl hL (am_st1_spec hl).1 rfl (fun lsB hB => k Hm lsB locs hR (am_L_st1 hl hB) hlo)
theorem am_so_lstore (hA : am_A Y X y cc) {i : Nat} (hd : decode cc pc = .ok (.lstore i, 2)) (hs : am_storeL i (pc + 2) ls st H = am_nx pc' ls' st' H') (k : am_W Y X pc' ls' st' H') : am_W Y X pc ls st H := by
  obtain ⟨x, t, l, rfl, hl, e⟩ := am_storeL_spec hs
  cases e
  exact fun Hm lsA locs hR hL hlo => lv_lstore hA.1 hA.2.1 hd hL (am_st2_spec hl).1 rfl (fun lsB hB => k Hm lsB locs hR (am_L_st2 hl hB) hlo)
theorem am_so_lstore_n (hA : am_A Y X y cc) {i : Fin 4} (hd : decode cc pc = .ok (.lstore_n i, 1)) (hs : am_storeL i.val (pc + 1) ls st H = am_nx pc' ls' st' H') (k : am_W Y X pc' ls' st' H') : am_W Y X pc ls st H := by
  obtain ⟨x, t, l, rfl, hl, e⟩ := am_storeL_spec hs
  cases e
  exact fun Hm lsA locs hR hL hlo => lv_lstore_n hA.1 hA.2.1 hd rfl hL (am_st2_spec hl).1 rfl (fun lsB hB => k Hm lsB locs hR (am_L_st2 hl hB) hlo)
theorem am_so_dstore (hA : am_A Y X y cc) {i : Nat} (hd : decode cc pc = .ok (.dstore i, 2)) (hs : am_storeD i (pc + 2) ls st H = am_nx pc' ls' st' H') (k : am_W Y X pc' ls' st' H') : am_W Y X pc ls st H := by
  obtain ⟨x, t, l, rfl, hl, e⟩ := am_storeD_spec hs
  cases e
  exact fun Hm lsA locs hR hL hlo => lv_dstore hA.1 hA.2.1 hd hL (am_st2_spec hl).1 rfl (fun lsB hB => k Hm lsB locs hR (am_L_st2 hl hB) hlo)
theorem am_so_dstore_n (hA : am_A Y X y cc) {i : Fin 4} (hd : decode cc pc = .ok (.dstore_n i, 1)) (hs : am_storeD i.val (pc + 1) ls st H = am_nx pc' ls' st' H') (k : am_W Y X pc' ls' st' H') : am_W Y X pc ls st H := by
  obtain ⟨x, t, l, rfl, hl, e⟩ := am_storeD_spec hs
  cases e
  exact fun Hm lsA locs hR hL hlo => lv_dstore_n hA.1 hA.2.1 hd rfl hL (am_st2_spec hl).1 rfl (fun lsB hB => k Hm lsB locs hR (am_L_st2 hl hB) hlo)
theorem am_so_astore (hA : am_A Y X y cc) {i : Nat} (hd : decode cc pc = .ok (.astore i, 2)) (hs : am_storeA i (pc + 2) ls st H = am_nx pc' ls' st' H') (k : am_W Y X pc' ls' st' H') : am_W Y X pc ls st H := by
  obtain ⟨v, t, l, rfl, hv, hl, e⟩ := am_storeA_spec hs
  cases e
  cases v <;> first | (cases hv; done) | skip
  · exact fun Hm lsA locs hR hL hlo => lv_astoreN hA.1 hA.2.1 hd hL (am_st1_spec hl).1 rfl (fun lsB hB => k Hm lsB locs hR (am_L_st1 hl hB) hlo)
  · exact fun Hm lsA locs hR hL hlo => lv_astore hA.1 hA.2.1 hd hL (am_st1_spec hl).1 rfl (fun lsB hB => k Hm lsB locs hR (am_L_st1 hl hB) hlo)
theorem am_so_astore_n (hA : am_A Y X y cc) {i : Fin 4} (hd : decode cc pc = .ok (.astore_n i, 1)) (hs : am_storeA i.val (pc + 1) ls st H = am_nx pc' ls' st' H') (k : am_W Y X pc' ls' st' H') : am_W Y X pc ls st H := by
  obtain ⟨v, t, l, rfl, hv, hl, e⟩ := am_storeA_spec hs
  cases e
  cases v <;> first | (cases hv; done) | skip
  · exact fun Hm lsA locs hR hL hlo => lv_astore_nN hA.1 hA.2.1 hd rfl hL (am_st1_spec hl).1 rfl (fun lsB hB => k Hm lsB locs hR (am_L_st1 hl hB) hlo)
  · exact fun Hm lsA locs hR hL hlo => lv_astore_n hA.1 hA.2.1 hd rfl hL (am_st1_spec hl).1 rfl (fun lsB hB => k Hm lsB locs hR (am_L_st1 hl hB) hlo)
theorem am_so_iinc (hA : am_A Y X y cc) {i : Nat} {z : Int} (hd : decode cc pc = .ok (.iinc i z, 3)) (hs : am_inc i z (pc + 3) ls st H = am_nx pc' ls' st' H') (k : am_W Y X pc' ls' st' H') : am_W Y X pc ls st H := by
  obtain ⟨x, l, hx, hl, e⟩ := am_inc_spec hs
  cases e
  obtain ⟨j, hj⟩ := List.getElem?_of_mem (am_pl_mem.mpr ⟨hx, fun h => by cases h⟩)
  exact fun Hm lsA locs hR hL hlo => lv_iinc hA.1 hA.2.1 hd hL hj rfl (am_st1_spec hl).1 rfl (fun lsB hB => k Hm lsB locs hR (am_L_st1 hl hB) hlo)
theorem am_so_iadd (hA : am_A Y X y cc) (hd : decode cc pc = .ok (.iadd, 1)) (hs : am_ib (· + ·) (pc + 1) ls st H = am_nx pc' ls' st' H') (k : am_W Y X pc' ls' st' H') : am_W Y X pc ls st H := by
  obtain ⟨a, b, t, rfl, e⟩ := am_ib_spec hs
  cases e
  exact fun Hm lsA locs hR hL hl => lv_iadd hA.1 hA.2.1 hd (k Hm lsA locs hR hL hl)
theorem am_so_isub (hA : am_A Y X y cc) (hd : decode cc pc = .ok (.isub, 1)) (hs : am_ib (· - ·) (pc + 1) ls st H = am_nx pc' ls' st' H') (k : am_W Y X pc' ls' st' H') : am_W Y X pc ls st H := by
  obtain ⟨a, b, t, rfl, e⟩ := am_ib_spec hs
  cases e
  exact fun Hm lsA locs hR hL hl => lv_isub hA.1 hA.2.1 hd (k Hm lsA locs hR hL hl)
theorem am_so_imul (hA : am_A Y X y cc) (hd : decode cc pc = .ok (.imul, 1)) (hs : am_ib (· * ·) (pc + 1) ls st H = am_nx pc' ls' st' H') (k : am_W Y X pc' ls' st' H') : am_W Y X pc ls st H := by
  obtain ⟨a, b, t, rfl, e⟩ := am_ib_spec hs
  cases e
  exact fun Hm lsA locs hR hL hl => lv_imul hA.1 hA.2.1 hd (k Hm lsA locs hR hL hl)
theorem am_so_iand (hA : am_A Y X y cc) (hd : decode cc pc = .ok (.iand, 1)) (hs : am_ib (· &&& ·) (pc + 1) ls st H = am_nx pc' ls' st' H') (k : am_W Y X pc' ls' st' H') : am_W Y X pc ls st H := by
  obtain ⟨a, b, t, rfl, e⟩ := am_ib_spec hs
  cases e
  exact fun Hm lsA locs hR hL hl => lv_iand hA.1 hA.2.1 hd (k Hm lsA locs hR hL hl)
theorem am_so_ior (hA : am_A Y X y cc) (hd : decode cc pc = .ok (.ior, 1)) (hs : am_ib (· ||| ·) (pc + 1) ls st H = am_nx pc' ls' st' H') (k : am_W Y X pc' ls' st' H') : am_W Y X pc ls st H := by
  obtain ⟨a, b, t, rfl, e⟩ := am_ib_spec hs
  cases e
  exact fun Hm lsA locs hR hL hl => lv_ior hA.1 hA.2.1 hd (k Hm lsA locs hR hL hl)
theorem am_so_ixor (hA : am_A Y X y cc) (hd : decode cc pc = .ok (.ixor, 1)) (hs : am_ib (· ^^^ ·) (pc + 1) ls st H = am_nx pc' ls' st' H') (k : am_W Y X pc' ls' st' H') : am_W Y X pc ls st H := by
  obtain ⟨a, b, t, rfl, e⟩ := am_ib_spec hs
  cases e
  exact fun Hm lsA locs hR hL hl => lv_ixor hA.1 hA.2.1 hd (k Hm lsA locs hR hL hl)
theorem am_so_ishl (hA : am_A Y X y cc) (hd : decode cc pc = .ok (.ishl, 1)) (hs : am_ib (fun x y => x <<< (y &&& 31)) (pc + 1) ls st H = am_nx pc' ls' st' H') (k : am_W Y X pc' ls' st' H') : am_W Y X pc ls st H := by
  obtain ⟨a, b, t, rfl, e⟩ := am_ib_spec hs
  cases e
  exact fun Hm lsA locs hR hL hl => lv_ishl hA.1 hA.2.1 hd (k Hm lsA locs hR hL hl)
theorem am_so_ishr (hA : am_A Y X y cc) (hd : decode cc pc = .ok (.ishr, 1)) (hs : am_ib (fun x y => x >>> (y &&& 31)) (pc + 1) ls st H = am_nx pc' ls' st' H') (k : am_W Y X pc' ls' st' H') : am_W Y X pc ls st H := by
  obtain ⟨a, b, t, rfl, e⟩ := am_ib_spec hs
  cases e
  exact fun Hm lsA locs hR hL hl => lv_ishr hA.1 hA.2.1 hd (k Hm lsA locs hR hL hl)
theorem am_so_iushr (hA : am_A Y X y cc) (hd : decode cc pc = .ok (.iushr, 1)) (hs : am_ib (fun x y => (x.toUInt32 >>> (y.toUInt32 &&& Int32.toUInt32 31)).toInt32) (pc + 1) ls st H = am_nx pc' ls' st' H') (k : am_W Y X pc' ls' st' H') : am_W Y X pc ls st H := by
  obtain ⟨a, b, t, rfl, e⟩ := am_ib_spec hs
  cases e
  exact fun Hm lsA locs hR hL hl => lv_iushr hA.1 hA.2.1 hd rfl (k Hm lsA locs hR hL hl)
theorem am_so_idiv (hA : am_A Y X y cc) (hd : decode cc pc = .ok (.idiv, 1)) (hs : am_ibz (· / ·) (pc + 1) ls st H = am_nx pc' ls' st' H') (k : am_W Y X pc' ls' st' H') : am_W Y X pc ls st H := by
  obtain ⟨a, b, t, rfl, hb, e⟩ := am_ibz_spec hs
  cases e
  exact fun Hm lsA locs hR hL hl => lv_idiv hA.1 hA.2.1 hd hb (k Hm lsA locs hR hL hl)
theorem am_so_irem (hA : am_A Y X y cc) (hd : decode cc pc = .ok (.irem, 1)) (hs : am_ibz (fun x y => x - x / y * y) (pc + 1) ls st H = am_nx pc' ls' st' H') (k : am_W Y X pc' ls' st' H') : am_W Y X pc ls st H := by
  obtain ⟨a, b, t, rfl, hb, e⟩ := am_ibz_spec hs
  cases e
  exact fun Hm lsA locs hR hL hl => lv_irem hA.1 hA.2.1 hd hb (k Hm lsA locs hR hL hl)
theorem am_so_ineg (hA : am_A Y X y cc) (hd : decode cc pc = .ok (.ineg, 1)) (hs : am_iu (fun x => .int (-x)) (pc + 1) ls st H = am_nx pc' ls' st' H') (k : am_W Y X pc' ls' st' H') : am_W Y X pc ls st H := by
  obtain ⟨a, t, rfl, e⟩ := am_iu_spec hs
  cases e
  exact fun Hm lsA locs hR hL hl => lv_ineg hA.1 hA.2.1 hd (k Hm lsA locs hR hL hl)
theorem am_so_i2l (hA : am_A Y X y cc) (hd : decode cc pc = .ok (.i2l, 1)) (hs : am_iu (fun x => .long x.toInt64) (pc + 1) ls st H = am_nx pc' ls' st' H') (k : am_W Y X pc' ls' st' H') : am_W Y X pc ls st H := by
  obtain ⟨a, t, rfl, e⟩ := am_iu_spec hs
  cases e
  exact fun Hm lsA locs hR hL hl => lv_i2l hA.1 hA.2.1 hd rfl (k Hm lsA locs hR hL hl)
theorem am_so_i2f (hA : am_A Y X y cc) (hd : decode cc pc = .ok (.i2f, 1)) (hs : am_iu (fun x => .float (FP.i2f x)) (pc + 1) ls st H = am_nx pc' ls' st' H') (k : am_W Y X pc' ls' st' H') : am_W Y X pc ls st H := by
  obtain ⟨a, t, rfl, e⟩ := am_iu_spec hs
  cases e
  exact fun Hm lsA locs hR hL hl => lv_i2f hA.1 hA.2.1 hd (k Hm lsA locs hR hL hl)
theorem am_so_i2d (hA : am_A Y X y cc) (hd : decode cc pc = .ok (.i2d, 1)) (hs : am_iu (fun x => .double (FP.i2d x)) (pc + 1) ls st H = am_nx pc' ls' st' H') (k : am_W Y X pc' ls' st' H') : am_W Y X pc ls st H := by
  obtain ⟨a, t, rfl, e⟩ := am_iu_spec hs
  cases e
  exact fun Hm lsA locs hR hL hl => lv_i2d hA.1 hA.2.1 hd (k Hm lsA locs hR hL hl)
theorem am_so_i2b (hA : am_A Y X y cc) (hd : decode cc pc = .ok (.i2b, 1)) (hs : am_iu (fun x => .int x.toInt8.toInt32) (pc + 1) ls st H = am_nx pc' ls' st' H') (k : am_W Y X pc' ls' st' H') : am_W Y X pc ls st H := by
  obtain ⟨a, t, rfl, e⟩ := am_iu_spec hs
  cases e
  exact fun Hm lsA locs hR hL hl => lv_i2b hA.1 hA.2.1 hd rfl (k Hm lsA locs hR hL hl)
theorem am_so_i2c (hA : am_A Y X y cc) (hd : decode cc pc = .ok (.i2c, 1)) (hs : am_iu (fun x => .int (x.toUInt32 % 65536).toInt32) (pc + 1) ls st H = am_nx pc' ls' st' H') (k : am_W Y X pc' ls' st' H') : am_W Y X pc ls st H := by
  obtain ⟨a, t, rfl, e⟩ := am_iu_spec hs
  cases e
  exact fun Hm lsA locs hR hL hl => lv_i2c hA.1 hA.2.1 hd rfl (k Hm lsA locs hR hL hl)
theorem am_so_ladd (hA : am_A Y X y cc) (hd : decode cc pc = .ok (.ladd, 1)) (hs : am_lb (· + ·) (pc + 1) ls st H = am_nx pc' ls' st' H') (k : am_W Y X pc' ls' st' H') : am_W Y X pc ls st H := by
  obtain ⟨a, b, t, rfl, e⟩ := am_lb_spec hs
  cases e
  exact fun Hm lsA locs hR hL hl => lv_ladd hA.1 hA.2.1 hd (k Hm lsA locs hR hL hl)
theorem am_so_land (hA : am_A Y X y cc) (hd : decode cc pc = .ok (.land, 1)) (hs : am_lb (· &&& ·) (pc + 1) ls st H = am_nx pc' ls' st' H') (k : am_W Y X pc' ls' st' H') : am_W Y X pc ls st H := by
  obtain ⟨a, b, t, rfl, e⟩ := am_lb_spec hs
  cases e
  exact fun Hm lsA locs hR hL hl => lv_land hA.1 hA.2.1 hd (k Hm lsA locs hR hL hl)
theorem am_so_lor (hA : am_A Y X y cc) (hd : decode cc pc = .ok (.lor, 1)) (hs : am_lb (· ||| ·) (pc + 1) ls st H = am_nx pc' ls' st' H') (k : am_W Y X pc' ls' st' H') : am_W Y X pc ls st H := by
  obtain ⟨a, b, t, rfl, e⟩ := am_lb_spec hs
  cases e
  exact fun Hm lsA locs hR hL hl => lv_lor hA.1 hA.2.1 hd (k Hm lsA locs hR hL hl)
theorem am_so_l2i (hA : am_A Y X y cc) (hd : decode cc pc = .ok (.l2i, 1)) (hs : am_l2i (pc + 1) ls st H = am_nx pc' ls' st' H') (k : am_W Y X pc' ls' st' H') : am_W Y X pc ls st H := by
  obtain ⟨a, t, rfl, e⟩ := am_l2i_spec hs
  cases e
  exact fun Hm lsA locs hR hL hl => lv_l2i hA.1 hA.2.1 hd rfl (k Hm lsA locs hR hL hl)
theorem am_so_lcmp (hA : am_A Y X y cc) (hd : decode cc pc = .ok (.lcmp, 1)) (hs : am_lcmp (pc + 1) ls st H = am_nx pc' ls' st' H') (k : am_W Y X pc' ls' st' H') : am_W Y X pc ls st H := by
  obtain ⟨a, b, t, rfl, e⟩ := am_lcmp_spec hs
  cases e
  exact fun Hm lsA locs hR hL hl => W.lcmp hA.1 hA.2.1 hd (k Hm lsA locs hR hL hl)
theorem am_so_fcmp (hA : am_A Y X y cc) {op : ClassFile.CmpOp} (hd : decode cc pc = .ok (.fcmp op, 1)) (hs : am_fcmp op (pc + 1) ls st H = am_nx pc' ls' st' H') (k : am_W Y X pc' ls' st' H') : am_W Y X pc ls st H := by
  obtain ⟨a, b, t, rfl, e⟩ := am_fcmp_spec hs
  cases e
  exact fun Hm lsA locs hR hL hl => lv_fcmp hA.1 hA.2.1 hd (k Hm lsA locs hR hL hl)
theorem am_so_dcmp (hA : am_A Y X y cc) {op : ClassFile.CmpOp} (hd : decode cc pc = .ok (.dcmp op, 1)) (hs : am_dcmp op (pc + 1) ls st H = am_nx pc' ls' st' H') (k : am_W Y X pc' ls' st' H') : am_W Y X pc ls st H := by
  obtain ⟨a, b, t, rfl, e⟩ := am_dcmp_spec hs
  cases e
  exact fun Hm lsA locs hR hL hl => lv_dcmp hA.1 hA.2.1 hd (k Hm lsA locs hR hL hl)
theorem am_so_f2d (hA : am_A Y X y cc) (hd : decode cc pc = .ok (.f2d, 1)) (hs : am_f2d (pc + 1) ls st H = am_nx pc' ls' st' H') (k : am_W Y X pc' ls' st' H') : am_W Y X pc ls st H := by
  obtain ⟨a, t, rfl, hb, e⟩ := am_f2d_spec hs
  cases e
  exact fun Hm lsA locs hR hL hl => lv_f2d hA.1 hA.2.1 hd (am_n64_spec hb) (k Hm lsA locs hR hL hl)
theorem am_so_fdiv (hA : am_A Y X y cc) (hd : decode cc pc = .ok (.fdiv, 1)) (hs : am_fdiv (pc + 1) ls st H = am_nx pc' ls' st' H') (k : am_W Y X pc' ls' st' H') : am_W Y X pc ls st H := by
  obtain ⟨a, b, t, rfl, hb, e⟩ := am_fdiv_spec hs
  cases e
  exact fun Hm lsA locs hR hL hl => lv_fdiv hA.1 hA.2.1 hd (am_n32_spec hb) (k Hm lsA locs hR hL hl)
theorem am_so_ddiv (hA : am_A Y X y cc) (hd : decode cc pc = .ok (.ddiv, 1)) (hs : am_ddiv (pc + 1) ls st H = am_nx pc' ls' st' H') (k : am_W Y X pc' ls' st' H') : am_W Y X pc ls st H := by
  obtain ⟨a, b, t, rfl, hb, e⟩ := am_ddiv_spec hs
  cases e
  exact fun Hm lsA locs hR hL hl => lv_ddiv hA.1 hA.2.1 hd (am_n64_spec hb) (k Hm lsA locs hR hL hl)
theorem am_so_pop (hA : am_A Y X y cc) (hd : decode cc pc = .ok (.pop, 1)) (hs : am_pop (pc + 1) ls st H = am_nx pc' ls' st' H') (k : am_W Y X pc' ls' st' H') : am_W Y X pc ls st H := by
  obtain ⟨v, t, rfl, hv, e⟩ := am_pop_spec hs
  cases e
  exact fun Hm lsA locs hR hL hl => lv_pop hA.1 hA.2.1 hd (am_cat hv) (k Hm lsA locs hR hL hl)
theorem am_so_dup (hA : am_A Y X y cc) (hd : decode cc pc = .ok (.dup, 1)) (hs : am_dup (pc + 1) ls st H = am_nx pc' ls' st' H') (k : am_W Y X pc' ls' st' H') : am_W Y X pc ls st H := by
  obtain ⟨v, t, rfl, hv, e⟩ := am_dup_spec hs
  cases e
  exact fun Hm lsA locs hR hL hl => lv_dup hA.1 hA.2.1 hd (am_cat hv) (k Hm lsA locs hR hL hl)
theorem am_so_dup_x1 (hA : am_A Y X y cc) (hd : decode cc pc = .ok (.dup_x1, 1)) (hs : am_dupx1 (pc + 1) ls st H = am_nx pc' ls' st' H') (k : am_W Y X pc' ls' st' H') : am_W Y X pc ls st H := by
  obtain ⟨v, w, t, rfl, hv, hw, e⟩ := am_dupx1_spec hs
  cases e
  exact fun Hm lsA locs hR hL hl => lv_dup_x1 hA.1 hA.2.1 hd (am_cat hv) (am_cat hw) (k Hm lsA locs hR hL hl)
theorem am_so_dup2 (hA : am_A Y X y cc) (hd : decode cc pc = .ok (.dup2, 1)) (hs : am_dup2 (pc + 1) ls st H = am_nx pc' ls' st' H') (k : am_W Y X pc' ls' st' H') : am_W Y X pc ls st H := by
  obtain ⟨v, w, t, rfl, ⟨hv, e⟩ | ⟨hv, hw, e⟩⟩ := am_dup2_spec hs
  · cases e
    exact fun Hm lsA locs hR hL hl => lv_dup2_2 hA.1 hA.2.1 hd (am_cat2 hv) (k Hm lsA locs hR hL hl)
  · cases e
    exact fun Hm lsA locs hR hL hl => lv_dup2_11 hA.1 hA.2.1 hd (am_cat hv) (am_cat hw) (k Hm lsA locs hR hL hl)
end AMP
