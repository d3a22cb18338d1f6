set_option maxRecDepth 100000
/-! what every step keeps: the number of locals; the heap only grows -/
def am_ext (H H' : am_H) : Prop := H.2.1 ≤ H'.2.1 ∧ H.2.2 ≤ H'.2.2
theorem am_ext_rfl (H : am_H) : am_ext H H := ⟨Nat.le_refl _, Nat.le_refl _⟩
theorem am_ext_put (H : am_H) (a : Nat) (q : am_C) : am_ext H (am_put H a q) := ⟨Nat.le_refl _, Nat.le_refl _⟩
theorem am_ext_new (H : am_H) (q : am_C) (w : Nat) : am_ext H (am_new H q w) := ⟨Nat.le_succ _, Nat.le_add_right _ _⟩
theorem am_ext_grid (H : am_H) (n k : Nat) : am_ext H (am_grid n k H) := ⟨by show H.2.1 ≤ H.2.1 + 1 + n; omega, by show H.2.2 ≤ H.2.2 + n + n * k; omega⟩
theorem am_ext.trans {A B C : am_H} (h : am_ext A B) (g : am_ext B C) : am_ext A C := ⟨Nat.le_trans h.1 g.1, Nat.le_trans h.2 g.2⟩
section AMI
variable {pc n : Nat} {ls st : List Value} {H : am_H} {pc' : Nat} {ls' st' : List Value} {H' : am_H} {E : Nat → Nat}
abbrev am_inv (ls ls' : List Value) (H H' : am_H) : Prop := ls'.length = ls.length ∧ am_ext H H'
theorem am_i_push {v : Value} (hs : am_push v n ls st H = am_nx pc' ls' st' H') : am_inv ls ls' H H' := by
  cases hs
  exact ⟨rfl, am_ext_rfl _⟩
theorem am_i_loadI {i : Nat} (hs : am_loadI i n ls st H = am_nx pc' ls' st' H') : am_inv ls ls' H H' := by
  obtain ⟨_, _, e⟩ := am_loadI_spec hs
  cases e
  exact ⟨rfl, am_ext_rfl _⟩
theorem am_i_loadL {i : Nat} (hs : am_loadL i n ls st H = am_nx pc' ls' st' H') : am_inv ls ls' H H' := by
  obtain ⟨_, _, e⟩ := am_loadL_spec hs
  cases e
  exact ⟨rfl, am_ext_rfl _⟩
theorem am_i_loadF {i : Nat} (hs : am_loadF i n ls st H = am_nx pc' ls' st' H') : am_inv ls ls' H H' := by
  obtain ⟨_, _, e⟩ := am_loadF_spec hs
  cases e
  exact ⟨rfl, am_ext_rfl _⟩
theorem am_i_loadD {i : Nat} (hs : am_loadD i n ls st H = am_nx pc' ls' st' H') : am_inv ls ls' H H' := by
  obtain ⟨_, _, e⟩ := am_loadD_spec hs
  cases e
  exact ⟨rfl, am_ext_rfl _⟩
theorem am_i_loadA {i : Nat} (hs : am_loadA i n ls st H = am_nx pc' ls' st' H') : am_inv ls ls' H H' := by
  obtain ⟨_, _, _, e⟩ := am_loadA_spec hs
  cases e
  exact ⟨rfl, am_ext_rfl _⟩
theorem am_i_storeI {i : Nat} (hs : am_storeI i n ls st H = am_nx pc' ls' st' H') : am_inv ls ls' H H' := by
  obtain ⟨_, _, l, _, hl, e⟩ := am_storeI_spec hs
  cases e
  obtain ⟨_, rfl, _⟩ := am_st1_spec hl
  exact ⟨by simp, am_ext_rfl _⟩
theorem am_i_storeF {i : Nat} (hs : am_storeF i n ls st H = am_nx pc' ls' st' H') : am_inv ls ls' H H' := by
  obtain ⟨_, _, l, _, hl, e⟩ := am_storeF_spec hs
  cases e
  obtain ⟨_, rfl, _⟩ := am_st1_spec hl
  exact ⟨by simp, am_ext_rfl _⟩
theorem am_i_storeL {i : Nat} (hs : am_storeL i n ls st H = am_nx pc' ls' st' H') : am_inv ls ls' H H' := by
  obtain ⟨_, _, l, _, hl, e⟩ := am_storeL_spec hs
  cases e
  obtain ⟨_, rfl, _⟩ := am_st2_spec hl
  exact ⟨by simp, am_ext_rfl _⟩
theorem am_i_storeD {i : Nat} (hs : am_storeD i n ls st H = am_nx pc' ls' st' H') : am_inv ls ls' H H' := by
  obtain ⟨_, _, l, _, hl, e⟩ := am_storeD_spec hs
  cases e
  obtain ⟨_, rfl, _⟩ := am_st2_spec hl
  exact ⟨by simp, am_ext_rfl _⟩
theorem am_i_storeA {i : Nat} (hs : am_storeA i n ls st H = am_nx pc' ls' st' H') : am_inv ls ls' H H' := by
  obtain ⟨_, _, l, _, _, hl, e⟩ := am_storeA_spec hs
  cases e
  obtain ⟨_, rfl, _⟩ := am_st1_spec hl
  exact ⟨by simp, am_ext_rfl _⟩
theorem am_i_inc {i : Nat} {z : Int} (hs : am_inc i z n ls st H = am_nx pc' ls' st' H') : am_inv ls ls' H H' := by
  obtain ⟨_, l, _, hl, e⟩ := am_inc_spec hs
  cases e
  obtain ⟨_, rfl, _⟩ := am_st1_spec hl
  exact ⟨by simp, am_ext_rfl _⟩
theorem am_i_ib {f : Int32 → Int32 → Int32} (hs : am_ib f n ls st H = am_nx pc' ls' st' H') : am_inv ls ls' H H' := by
  obtain ⟨_, _, _, _, e⟩ := am_ib_spec hs
  cases e
  exact ⟨rfl, am_ext_rfl _⟩
theorem am_i_ibz {f : Int32 → Int32 → Int32} (hs : am_ibz f n ls st H = am_nx pc' ls' st' H') : am_inv ls ls' H H' := by
  obtain ⟨_, _, _, _, _, e⟩ := am_ibz_spec hs
  cases e
  exact ⟨rfl, am_ext_rfl _⟩
theorem am_i_iu {f : Int32 → Value} (hs : am_iu f n ls st H = am_nx pc' ls' st' H') : am_inv ls ls' H H' := by
  obtain ⟨_, _, _, e⟩ := am_iu_spec hs
  cases e
  exact ⟨rfl, am_ext_rfl _⟩
theorem am_i_lb {f : Int64 → Int64 → Int64} (hs : am_lb f n ls st H = am_nx pc' ls' st' H') : am_inv ls ls' H H' := by
  obtain ⟨_, _, _, _, e⟩ := am_lb_spec hs
  cases e
  exact ⟨rfl, am_ext_rfl _⟩
theorem am_i_l2i (hs : am_l2i n ls st H = am_nx pc' ls' st' H') : am_inv ls ls' H H' := by
  obtain ⟨_, _, _, e⟩ := am_l2i_spec hs
  cases e
  exact ⟨rfl, am_ext_rfl _⟩
theorem am_i_lcmp (hs : am_lcmp n ls st H = am_nx pc' ls' st' H') : am_inv ls ls' H H' := by
  obtain ⟨_, _, _, _, e⟩ := am_lcmp_spec hs
  cases e
  exact ⟨rfl, am_ext_rfl _⟩
theorem am_i_fcmp {op : ClassFile.CmpOp} (hs : am_fcmp op n ls st H = am_nx pc' ls' st' H') : am_inv ls ls' H H' := by
  obtain ⟨_, _, _, _, e⟩ := am_fcmp_spec hs
  cases e
  exact ⟨rfl, am_ext_rfl _⟩
theorem am_i_dcmp {op : ClassFile.CmpOp} (hs : am_dcmp op n ls st H = am_nx pc' ls' st' H') : am_inv ls ls' H H' := by
  obtain ⟨_, _, _, _, e⟩ := am_dcmp_spec hs
  cases e
  exact ⟨rfl, am_ext_rfl _⟩
theorem am_i_f2d (hs : am_f2d n ls st H = am_nx pc' ls' st' H') : am_inv ls ls' H H' := by
  obtain ⟨_, _, _, _, e⟩ := am_f2d_spec hs
  cases e
  exact ⟨rfl, am_ext_rfl _⟩
theorem am_i_fdiv (hs : am_fdiv n ls st H = am_nx pc' ls' st' H') : am_inv ls ls' H H' := by
  obtain ⟨_, _, _, _, _, e⟩ := am_fdiv_spec hs
  cases e
  exact ⟨rfl, am_ext_rfl _⟩
theorem am_i_ddiv (hs : am_ddiv n ls st H = am_nx pc' ls' st' H') : am_inv ls ls' H H' := by
  obtain ⟨_, _, _, _, _, e⟩ := am_ddiv_spec hs
  cases e
  exact ⟨rfl, am_ext_rfl _⟩
theorem am_i_pop (hs : am_pop n ls st H = am_nx pc' ls' st' H') : am_inv ls ls' H H' := by
  obtain ⟨_, _, _, _, e⟩ := am_pop_spec hs
  cases e
  exact ⟨rfl, am_ext_rfl _⟩
theorem am_i_dup (hs : am_dup n ls st H = am_nx pc' ls' st' H') : am_inv ls ls' H H' := by
  obtain ⟨_, _, _, _, e⟩ := am_dup_spec hs
  cases e
  exact ⟨rfl, am_ext_rfl _⟩
theorem am_i_dupx1 (hs : am_dupx1 n ls st H = am_nx pc' ls' st' H') : am_inv ls ls' H H' := by
  obtain ⟨_, _, _, _, _, _, e⟩ := am_dupx1_spec hs
  cases e
  exact ⟨rfl, am_ext_rfl _⟩
theorem am_i_dup2 (hs : am_dup2 n ls st H = am_nx pc' ls' st' H') : am_inv ls ls' H H' := by
  obtain ⟨_, _, _, _, ⟨_, e⟩ | ⟨_, _, e⟩⟩ := am_dup2_spec hs <;> cases e <;> exact ⟨rfl, am_ext_rfl _⟩
theorem am_i_goto {off : Int} (hs : am_goto off pc ls st H = am_nx pc' ls' st' H') : am_inv ls ls' H H' := by
  obtain ⟨t, ht, e⟩ := am_jp_spec hs
  cases e
  exact ⟨rfl, am_ext_rfl _⟩
theorem am_i_if {off : Int} {c : ClassFile.Cond} (hs : am_if c off pc n ls st H = am_nx pc' ls' st' H') : am_inv ls ls' H H' := by
  obtain ⟨_, _, _, _, _, ⟨_, e⟩ | ⟨_, e⟩⟩ := am_if_spec hs <;> cases e <;> exact ⟨rfl, am_ext_rfl _⟩
theorem am_i_icmp {off : Int} {c : ClassFile.Cond} (hs : am_icmp c off pc n ls st H = am_nx pc' ls' st' H') : am_inv ls ls' H H' := by
  obtain ⟨_, _, _, _, _, _, ⟨_, e⟩ | ⟨_, e⟩⟩ := am_icmp_spec hs <;> cases e <;> exact ⟨rfl, am_ext_rfl _⟩
theorem am_i_acmp {off : Int} {c : ClassFile.ACond} (hs : am_acmp c off pc n ls st H = am_nx pc' ls' st' H') : am_inv ls ls' H H' := by
  obtain ⟨_, _, _, _, _, _, ⟨_, e⟩ | ⟨_, e⟩⟩ := am_acmp_spec hs <;> cases e <;> exact ⟨rfl, am_ext_rfl _⟩
theorem am_i_ifnull {off : Int} (hs : am_ifnull off pc n ls st H = am_nx pc' ls' st' H') : am_inv ls ls' H H' := by
  obtain ⟨_, _, _, ⟨_, e⟩ | ⟨_, _, e⟩⟩ := am_ifnull_spec hs <;> cases e <;> exact ⟨rfl, am_ext_rfl _⟩
theorem am_i_ifnonnull {off : Int} (hs : am_ifnonnull off pc n ls st H = am_nx pc' ls' st' H') : am_inv ls ls' H H' := by
  obtain ⟨_, _, _, ⟨_, e⟩ | ⟨_, _, e⟩⟩ := am_ifnonnull_spec hs <;> cases e <;> exact ⟨rfl, am_ext_rfl _⟩
theorem am_i_tsw {d lo hi : Int} {os : Array Int} (hs : am_tsw d lo hi os pc ls st H = am_nx pc' ls' st' H') : am_inv ls ls' H H' := by
  unfold am_tsw at hs
  split at hs
  · split at hs
    · obtain ⟨t, ht, e⟩ := am_jp_spec hs
      cases e
      exact ⟨rfl, am_ext_rfl _⟩
    · split at hs
      · obtain ⟨t, ht, e⟩ := am_jp_spec hs
        cases e
        exact ⟨rfl, am_ext_rfl _⟩
      · cases hs
  · cases hs
theorem am_i_lsw {d : Int} {ps : Array (Int × Int)} (hs : am_lsw d ps pc ls st H = am_nx pc' ls' st' H') : am_inv ls ls' H H' := by
  unfold am_lsw at hs
  split at hs
  · split at hs
    · obtain ⟨t, ht, e⟩ := am_jp_spec hs
      cases e
      exact ⟨rfl, am_ext_rfl _⟩
    · cases hs
  · cases hs
theorem am_i_const {ax : List Nat} (hs : am_const E ax n ls st H = am_nx pc' ls' st' H') : am_inv ls ls' H H' := by
  obtain ⟨_, _, e⟩ := am_const_spec hs
  cases e
  exact ⟨rfl, am_ext_rfl _⟩
theorem am_i_get {sub : Nat → Nat → Bool} {ax : List Nat} (hs : am_get sub ax n ls st H = am_nx pc' ls' st' H') : am_inv ls ls' H H' := by
  unfold am_get at hs
  split at hs
  · split at hs
    · split at hs
      · split at hs
        · cases hs; exact ⟨rfl, am_ext_rfl _⟩
        · cases hs
      · cases hs
    · cases hs
  · cases hs
theorem am_i_putf {sub : Nat → Nat → Bool} {base : Nat} {ax : List Nat} (hs : am_putf sub base ax n ls st H = am_nx pc' ls' st' H') : am_inv ls ls' H H' := by
  have h2 := hs
  unfold am_putf at h2
  split at h2
  · clear h2
    obtain ⟨_, _, _, _, _, _, _, _, _, _, _, e⟩ := am_putf_spec hs
    cases e
    exact ⟨rfl, am_ext_put _ _ _⟩
  · cases h2
theorem am_i_aload {ok : Nat → Bool} (hs : am_aload ok n ls st H = am_nx pc' ls' st' H') : am_inv ls ls' H H' := by
  obtain ⟨_, _, _, _, _, _, _, _, _, _, e⟩ := am_aload_spec hs
  cases e
  exact ⟨rfl, am_ext_rfl _⟩
theorem am_i_astore {k0 base : Nat} {ok : Value → Bool} (hs : am_astore k0 base ok n ls st H = am_nx pc' ls' st' H') : am_inv ls ls' H H' := by
  obtain ⟨_, _, _, _, _, _, _, _, _, _, e⟩ := am_astore_spec hs
  cases e
  exact ⟨rfl, am_ext_put _ _ _⟩
theorem am_i_aastore {base : Nat} (hs : am_aastore base n ls st H = am_nx pc' ls' st' H') : am_inv ls ls' H H' := by
  obtain ⟨_, _, _, _, _, _, _, _, _, _, _, _, e⟩ := am_aastore_spec hs
  cases e
  exact ⟨rfl, am_ext_put _ _ _⟩
theorem am_i_alen (hs : am_alen n ls st H = am_nx pc' ls' st' H') : am_inv ls ls' H H' := by
  unfold am_alen at hs
  split at hs
  · split at hs
    · split at hs
      · cases hs; exact ⟨rfl, am_ext_rfl _⟩
      · cases hs
    · cases hs
  · cases hs
theorem am_i_mk {k : Nat} (hs : am_mk k n ls st H = am_nx pc' ls' st' H') : am_inv ls ls' H H' := by
  unfold am_mk at hs
  split at hs
  · cases hs; exact ⟨rfl, am_ext_new _ _ _⟩
  · cases hs
theorem am_i_newo {ax : List Nat} (hs : am_newo ax n ls st H = am_nx pc' ls' st' H') : am_inv ls ls' H H' := by
  unfold am_newo at hs
  split at hs
  · cases hs; exact ⟨rfl, am_ext_new _ _ _⟩
  · exact am_i_mk hs
  · cases hs
theorem am_i_newa {ax : List Nat} (hs : am_newa ax n ls st H = am_nx pc' ls' st' H') : am_inv ls ls' H H' := by
  have h2 := hs
  unfold am_newa at h2
  split at h2
  · clear h2
    obtain ⟨_, _, _, _, _, e⟩ := am_newa_spec hs
    cases e
    exact ⟨rfl, am_ext_new _ _ _⟩
  · cases h2
theorem am_i_multi (hs : am_multi n ls st H = am_nx pc' ls' st' H') : am_inv ls ls' H H' := by
  obtain ⟨_, _, _, _, _, _, _, _, e⟩ := am_multi_spec hs
  cases e
  exact ⟨rfl, am_ext_grid _ _ _⟩
theorem am_i_cast {ax : List Nat} (hs : am_cast ax n ls st H = am_nx pc' ls' st' H') : am_inv ls ls' H H' := by
  rcases am_cast_spec hs with ⟨_, _, e⟩ | ⟨_, _, _, _, _, _, _, e⟩ <;> cases e <;> exact ⟨rfl, am_ext_rfl _⟩
theorem am_i_inst {ax : List Nat} (hs : am_inst ax n ls st H = am_nx pc' ls' st' H') : am_inv ls ls' H H' := by
  rcases am_inst_spec hs with ⟨_, _, e⟩ | ⟨_, _, _, _, _, _, _, e⟩ <;> cases e <;> exact ⟨rfl, am_ext_rfl _⟩
theorem am_i_copy {base : Nat} (hs : am_copy base n ls st H = am_nx pc' ls' st' H') : am_inv ls ls' H H' := by
  obtain ⟨_, _, _, _, _, _, _, _, _, _, _, _, _, _, _, _, _, _, _, _, e⟩ := am_copy_spec hs
  cases e
  exact ⟨rfl, am_ext_put _ _ _⟩
theorem am_i_callS {M k : Nat} (hs : am_callS M k st = am_nx pc' ls' st' H') : am_inv ls ls' H H' := by
  unfold am_callS at hs
  split at hs
  · split at hs <;> cases hs
  · cases hs
theorem am_i_callI {M k : Nat} (hs : am_callI M k st = am_nx pc' ls' st' H') : am_inv ls ls' H H' := by
  obtain ⟨_, _, _, _, _, _, e⟩ := am_callI_spec hs
  cases e
theorem am_i_callU {M k : Nat} (hs : am_callU M k st H = am_nx pc' ls' st' H') : am_inv ls ls' H H' := by
  obtain ⟨_, _, _, _, _, _, _, _, _, _, e⟩ := am_callU_spec hs
  cases e
theorem am_i_callV {k : Nat} {tb : List Nat} (hs : am_callV k tb st H = am_nx pc' ls' st' H') : am_inv ls ls' H H' := by
  obtain ⟨_, _, _, _, _, _, _, _, _, _, _, e⟩ := am_callV_spec hs
  cases e
theorem am_i_objI (hs : am_objI n ls st H = am_nx pc' ls' st' H') : am_inv ls ls' H H' := by
  unfold am_objI at hs
  split at hs
  · split at hs
    · cases hs; exact ⟨rfl, am_ext_rfl _⟩
    · cases hs
  · cases hs
theorem am_i_clone {t base : Nat} (hs : am_clone t base n ls st H = am_nx pc' ls' st' H') : am_inv ls ls' H H' := by
  unfold am_clone at hs
  split at hs
  · obtain ⟨t, vs, hH, hs2⟩ := am_arr_spec hs
    clear hs
    split at hs2
    · cases hs2; exact ⟨rfl, am_ext_new _ _ _⟩
    · cases hs2
  · cases hs
theorem am_i_gcls {v : Nat} (hs : am_gcls v n ls st H = am_nx pc' ls' st' H') : am_inv ls ls' H H' := by
  unfold am_gcls at hs
  split at hs
  · obtain ⟨t, vs, hH, hs2⟩ := am_arr_spec hs
    clear hs
    split at hs2
    · cases hs2; exact ⟨rfl, am_ext_rfl _⟩
    · cases hs2
  · cases hs
theorem am_i_static {base : Nat} {ax : List Nat} (hs : am_static base ax n ls st H = am_nx pc' ls' st' H') : am_inv ls ls' H H' := by
  unfold am_static at hs
  split at hs
  · exact am_i_callS (H := H) hs
  · exact am_i_copy hs
  · cases hs
theorem am_i_special {ax : List Nat} (hs : am_special ax n ls st H = am_nx pc' ls' st' H') : am_inv ls ls' H H' := by
  unfold am_special at hs
  split at hs
  · exact am_i_callI (H := H) hs
  · exact am_i_callU hs
  · exact am_i_objI hs
  · cases hs
theorem am_i_virt {base : Nat} {ax : List Nat} (hs : am_virt base E ax n ls st H = am_nx pc' ls' st' H') : am_inv ls ls' H H' := by
  unfold am_virt at hs
  split at hs
  · exact am_i_callV hs
  · exact am_i_clone hs
  · exact am_i_gcls hs
  · cases hs
theorem am_i_recEq {ax : List Nat} (hs : am_recEq ax n ls st H = am_nx pc' ls' st' H') : am_inv ls ls' H H' := by
  unfold am_recEq at hs
  split at hs
  · split at hs
    · split at hs
      · cases hs; exact ⟨rfl, am_ext_rfl _⟩
      · cases hs
    · cases hs
  · cases hs
theorem am_i_retI {ax : List Nat} (hs : am_retI ax st = am_nx pc' ls' st' H') : am_inv ls ls' H H' := by
  unfold am_retI at hs
  split at hs
  · split at hs <;> cases hs
  · cases hs
theorem am_i_retL (hs : am_retL st = am_nx pc' ls' st' H') : am_inv ls ls' H H' := by
  unfold am_retL at hs
  split at hs <;> cases hs
theorem am_i_retF (hs : am_retF st = am_nx pc' ls' st' H') : am_inv ls ls' H H' := by
  unfold am_retF at hs
  split at hs <;> cases hs
theorem am_i_retD (hs : am_retD st = am_nx pc' ls' st' H') : am_inv ls ls' H H' := by
  unfold am_retD at hs
  split at hs <;> cases hs
theorem am_i_ret {ok : Value → Bool} (hs : am_ret ok ls st H = am_nx pc' ls' st' H') : am_inv ls ls' H H' := by
  obtain ⟨_, _, _, e⟩ := am_ret_spec hs
  cases e
theorem am_i_retV (hs : am_retV st = am_nx pc' ls' st' H') : am_inv ls ls' H H' := by
  unfold am_retV at hs
  split at hs <;> cases hs
theorem am_i_throw (hs : am_throw st H = am_nx pc' ls' st' H') : am_inv ls ls' H H' := by
  unfold am_throw at hs
  split at hs <;> cases hs
theorem am_step_inv {G : am_G} {e : am_E} (hs : am_step G pc e ls st H = am_nx pc' ls' st' H') : am_inv ls ls' H H' := by
  obtain ⟨i, n, ax⟩ := e
  unfold am_step at hs
  dsimp only at hs
  cases i <;> dsimp only at hs <;> first | (cases hs; done) | exact am_i_push hs | exact am_i_loadI hs | exact am_i_loadL hs | exact am_i_loadF hs | exact am_i_loadD hs | exact am_i_loadA hs | exact am_i_storeI hs | exact am_i_storeF hs | exact am_i_storeL hs | exact am_i_storeD hs | exact am_i_storeA hs | exact am_i_inc hs | exact am_i_ib hs | exact am_i_ibz hs | exact am_i_iu hs | exact am_i_lb hs | exact am_i_l2i hs | exact am_i_lcmp hs | exact am_i_fcmp hs | exact am_i_dcmp hs | exact am_i_f2d hs | exact am_i_fdiv hs | exact am_i_ddiv hs | exact am_i_pop hs | exact am_i_dup hs | exact am_i_dupx1 hs | exact am_i_dup2 hs | exact am_i_goto hs | exact am_i_if hs | exact am_i_icmp hs | exact am_i_acmp hs | exact am_i_ifnull hs | exact am_i_ifnonnull hs | exact am_i_tsw hs | exact am_i_lsw hs | exact am_i_const hs | exact am_i_get hs | exact am_i_putf hs | exact am_i_aload hs | exact am_i_astore hs | exact am_i_aastore hs | exact am_i_alen hs | exact am_i_mk hs | exact am_i_newo hs | exact am_i_newa hs | exact am_i_multi hs | exact am_i_cast hs | exact am_i_inst hs | exact am_i_copy hs | exact am_i_callS (H := H) hs | exact am_i_callI (H := H) hs | exact am_i_callU hs | exact am_i_callV hs | exact am_i_objI hs | exact am_i_clone hs | exact am_i_gcls hs | exact am_i_static hs | exact am_i_special hs | exact am_i_virt hs | exact am_i_recEq hs | exact am_i_retI (H := H) hs | exact am_i_retL (H := H) hs | exact am_i_retF (H := H) hs | exact am_i_retD (H := H) hs | exact am_i_ret hs | exact am_i_retV (H := H) hs | exact am_i_throw hs
end AMI
