/-! THE EVIDENCE behind a code table's entry, and one dispatcher over the operations (printed by gen/sim_ev.py) -/
set_option maxRecDepth 100000
/-- operations whose entry rests on the bytes alone, and their length -/
def am_len1 : Instr → Nat
  | .aconst_null => 1
  | .iconst _ => 1
  | .lconst _ => 1
  | .iload_n _ => 1
  | .lload_n _ => 1
  | .fload_n _ => 1
  | .dload_n _ => 1
  | .aload_n _ => 1
  | .istore_n _ => 1
  | .fstore_n _ => 1
  | .lstore_n _ => 1
  | .dstore_n _ => 1
  | .astore_n _ => 1
  | .iadd => 1
  | .isub => 1
  | .imul => 1
  | .iand => 1
  | .ior => 1
  | .ixor => 1
  | .ishl => 1
  | .ishr => 1
  | .iushr => 1
  | .idiv => 1
  | .irem => 1
  | .ineg => 1
  | .i2l => 1
  | .i2f => 1
  | .i2d => 1
  | .i2b => 1
  | .i2c => 1
  | .ladd => 1
  | .land => 1
  | .lor => 1
  | .l2i => 1
  | .lcmp => 1
  | .fcmp _ => 1
  | .dcmp _ => 1
  | .f2d => 1
  | .fdiv => 1
  | .ddiv => 1
  | .pop => 1
  | .dup => 1
  | .dup_x1 => 1
  | .dup2 => 1
  | .iaload => 1
  | .laload => 1
  | .baload => 1
  | .caload => 1
  | .daload => 1
  | .aaload => 1
  | .iastore => 1
  | .lastore => 1
  | .bastore => 1
  | .castore => 1
  | .dastore => 1
  | .arraylength => 1
  | .bipush _ => 2
  | .iload _ => 2
  | .lload _ => 2
  | .fload _ => 2
  | .dload _ => 2
  | .aload _ => 2
  | .istore _ => 2
  | .fstore _ => 2
  | .lstore _ => 2
  | .dstore _ => 2
  | .astore _ => 2
  | .sipush _ => 3
  | .iinc _ _ => 3
  | .goto _ => 3
  | .ifCond _ _ => 3
  | .if_icmp _ _ => 3
  | .if_acmp _ _ => 3
  | .ifnull _ => 3
  | .ifnonnull _ => 3
  | .aastore => 1
  | .athrow => 1
  | _ => 0
def am_de (cc : ByteArray) (pc : Nat) (e : am_E) (n : Nat) : Prop := decode cc pc = .ok (e.1, n) ∧ e.2.1 = pc + n
abbrev am_lnk (own : String) (idx : Nat) (x : MethodName) : Prop := Cond.methodLink own idx x ∈ lw_all ∨ ∃ host, Cond.methodLinkNest own idx x host ∈ lw_tbl
def am_evS (own : String) (T : Nat → am_I) (idx : Nat) (ax : List Nat) : Prop :=
  (∃ M n, ax = [0, M, n] ∧ am_EC (T M) n ∧ am_lnk own idx (T M).1 ∧ Cond.static (T M).1 ∈ lw_all) ∨
  (ax = [1] ∧ Cond.methodLink own idx arraycopyName ∈ lw_all ∧ Cond.native arraycopyName ∈ lw_all ∧ Cond.static arraycopyName ∈ lw_all ∧ Cond.initialized "java/lang/System" ∈ lw_all)
def am_evP (own : String) (T : Nat → am_I) (idx : Nat) (ax : List Nat) : Prop :=
  (∃ M n, ax = [0, M, n] ∧ am_EC (T M) n ∧ am_EVI own idx (T M)) ∨ (∃ M n, ax = [5, M, n] ∧ am_EC (T M) n ∧ am_EVU own idx (T M)) ∨
  (ax = [4] ∧ Cond.methodLink own idx Lib.objectInit ∈ lw_all ∧ Cond.instanceMethod Lib.objectInit ∈ lw_all ∧ Cond.code Lib.objectInit ⟨#[0xb1]⟩ 1 none ∈ lw_all)
def am_evV (Y : am_Y) (E : Nat → Nat) (own : String) (T : Nat → am_I) (idx : Nat) (ax : List Nat) : Prop :=
  (∃ n tb, ax = 0 :: n :: tb ∧ ∀ k M, am_vt k tb = some M → am_EC (T M) n ∧ ∃ r, Y.cl[k]? = some r ∧ k < 1000 ∧ am_EVV r.1 own idx (T M)) ∨
  (∃ t ty ad, ax = [2, t] ∧ am_aty t = some ty ∧ (∀ U c, va_RA U c ty → U.vm.findClass ad = some c) ∧ Cond.methodLink own idx ⟨ad, "clone", "()Ljava/lang/Object;"⟩ ∈ lw_all ∧ Cond.sameMethod ad "java/lang/Object" "clone" "()Ljava/lang/Object;" ∈ lw_all ∧
    Cond.native ⟨"java/lang/Object", "clone", "()Ljava/lang/Object;"⟩ ∈ lw_all ∧ Cond.instanceMethod ⟨"java/lang/Object", "clone", "()Ljava/lang/Object;"⟩ ∈ lw_all ∧ Cond.selects ad ⟨ad, "clone", "()Ljava/lang/Object;"⟩ ⟨"java/lang/Object", "clone", "()Ljava/lang/Object;"⟩ ∈ lw_all ∧ Cond.castable ad "java/lang/Cloneable" ∈ lw_tbl) ∨
  (∃ i, ax = [3, i] ∧ Cond.methodLink own idx ⟨"java/lang/Object", "getClass", "()Ljava/lang/Class;"⟩ ∈ lw_all ∧ Cond.selects "[Ljava/lang/Object;" ⟨"java/lang/Object", "getClass", "()Ljava/lang/Class;"⟩ ⟨"java/lang/Object", "getClass", "()Ljava/lang/Class;"⟩ ∈ lw_all ∧
    Cond.instanceMethod ⟨"java/lang/Object", "getClass", "()Ljava/lang/Class;"⟩ ∈ lw_all ∧ Cond.native ⟨"java/lang/Object", "getClass", "()Ljava/lang/Class;"⟩ ∈ lw_all ∧ va_Mi "[Ljava/lang/Object;" (E i) Y.s0 ∧ va_Dc Y.s0)
def am_evF (Y : am_Y) (own : String) (T : Nat → am_I) (idx : Nat) (ax : List Nat) : Prop :=
  ∃ n tb, ax = 0 :: n :: tb ∧ ∀ k M, am_vt k tb = some M → am_EC (T M) n ∧ ∃ r, Y.cl[k]? = some r ∧ k < 1000 ∧ am_EVF r.1 own idx (T M)
def am_evN (Y : am_Y) (own : String) (cc : ByteArray) (pc : Nat) (e : am_E) (idx : Nat) : Prop :=
  (am_de cc pc e 3 ∧ ∃ k w ts, e.2.2 = 0 :: k :: w :: ts ∧ am_NW Y.cl own idx k w ts) ∨
  (∃ (k ic : Nat) (cls : String) (names : List String) (T0 : u_T), e.2.2 = [1, k] ∧ e.2.1 = pc + 7 ∧ decode cc pc = .ok (e.1, 3) ∧ decode cc (pc + 3) = .ok (.dup, 1) ∧ decode cc (pc + 4) = .ok (.invokespecial ic, 3) ∧ Y.cl[k]? = some (cls, T0, 0) ∧ am_XK own idx ic cls names)
def am_evA (at_ : ArrayType) (ax : List Nat) : Prop := ∃ t ty, ax = [t] ∧ am_aty t = some ty ∧ newarray.typeOf at_ = ty ∧ Cond.arrayClass ty ∈ lw_all ∧ defaultValue ty = am_adf t ∧ fits ty (am_adf t) = true ∧ componentBytes ty ≤ 8 ∧ ∀ U c, va_RA U c ty → U.vm.findClass ("[" ++ ty.toString) = some c
def am_evC (own : String) (idx : Nat) (ax : List Nat) : Prop := ∃ t C, ax = [t] ∧ am_aty t = some (.object C) ∧ am_adf t = .null ∧ Cond.classLink own idx C ∈ lw_all ∧ Cond.arrayOver (.object C) ∈ lw_tbl
def am_evW (Y : am_Y) (y : MethodName) (idx : Nat) (ax : List Nat) : Prop := ∃ (c0 j t : Nat) (r0 : vw_C) (ty : FieldType), ax = [c0, j, t] ∧ Y.cl[c0]? = some r0 ∧ am_FL Y.cl y.cls idx c0 j ∧ parseFieldDescriptor (r0.2.1 j).2.2.1 = some ty ∧ am_tyk t ty ∧
  ((r0.2.1 j).2.2.2 = false ∨ ((r0.2.1 j).1 = y.cls ∧ y.name = "<init>" ∧ ∃ ref, Cond.fieldLink y.cls idx ref (r0.2.1 j).2.1 (r0.2.1 j).2.2.1 ∈ lw_all ∧ ref = (r0.2.1 j).1))
def am_evK (Y : am_Y) (own : String) (idx : Nat) (ax : List Nat) : Prop := ∃ nm, Cond.classLink own idx nm ∈ lw_all ∧ ∀ k ∈ ax, am_CO Y.cl nm k
/-- the evidence of an entry in the method y -/
def am_ev (Y : am_Y) (E : Nat → Nat) (T : Nat → am_I) (y : MethodName) (ret : Option FieldType) (cc : ByteArray) (pc : Nat) (e : am_E) : Prop := match e.1 with
  | .ldc idx => am_de cc pc e 2 ∧ ∀ v, am_cv E e.2.2 = some v → am_KC Y y.cls idx v
  | .ldc_w idx => am_de cc pc e 3 ∧ ∀ v, am_cv E e.2.2 = some v → ∃ x, v = .int x ∧ Cond.constant y.cls idx x ∈ lw_all
  | .ldc2_w idx => am_de cc pc e 3 ∧ ∀ v, am_cv E e.2.2 = some v → ∃ x, v = .long x ∧ Cond.constantLong y.cls idx x ∈ lw_all
  | .getstatic idx => am_de cc pc e 3 ∧ ∀ v, am_cv E e.2.2 = some v → am_KS Y y.cls idx v
  | .getfield idx => am_de cc pc e 3 ∧ ∃ c0 j, e.2.2 = [c0, j] ∧ am_FL Y.cl y.cls idx c0 j
  | .putfield idx => am_de cc pc e 3 ∧ am_evW Y y idx e.2.2
  | .new idx => am_evN Y y.cls cc pc e idx
  | .newarray at_ => am_de cc pc e 2 ∧ am_evA at_ e.2.2
  | .anewarray idx => am_de cc pc e 3 ∧ am_evC y.cls idx e.2.2
  | .multianewarray idx d => am_de cc pc e 4 ∧ d = 2 ∧ Cond.classLink y.cls idx ("[" ++ (FieldType.array .int).toString) ∈ lw_all ∧ Cond.arrayOver (.array .int) ∈ lw_tbl ∧ Cond.arrayClass .int ∈ lw_all
  | .checkcast idx => am_de cc pc e 3 ∧ am_evK Y y.cls idx e.2.2
  | .instanceof idx => am_de cc pc e 3 ∧ am_evK Y y.cls idx e.2.2
  | .ireturn => am_de cc pc e 1 ∧ ∃ t ty, e.2.2 = [t] ∧ am_tyk t ty ∧ ret = some ty
  | .lreturn => am_de cc pc e 1 ∧ ret = some .long
  | .freturn => am_de cc pc e 1 ∧ ret = some .float
  | .dreturn => am_de cc pc e 1 ∧ ret = some .double
  | .areturn => am_de cc pc e 1 ∧ ∃ ty, ((∃ n, ty = .object n) ∨ ∃ t, ty = .array t) ∧ ret = some ty
  | .return_ => am_de cc pc e 1 ∧ ret = none
  | .invokestatic idx => am_de cc pc e 3 ∧ am_evS y.cls T idx e.2.2
  | .invokespecial idx => am_de cc pc e 3 ∧ am_evP y.cls T idx e.2.2
  | .invokevirtual idx => am_de cc pc e 3 ∧ am_evV Y E y.cls T idx e.2.2
  | .invokeinterface idx _ => am_de cc pc e 5 ∧ am_evF Y y.cls T idx e.2.2
  | .invokedynamic _ => False
  | .tableswitch _ _ _ _ => ∃ n, am_de cc pc e n
  | .lookupswitch _ _ => ∃ n, am_de cc pc e n
  | _ => am_de cc pc e (am_len1 e.1)
section AMD
variable {Y : am_Y} {X : am_X} {y : MethodName} {cc : ByteArray} {pc : Nat} {ls st : List Value} {H : am_H} {pc' : Nat} {ls' st' : List Value} {H' : am_H} {G : am_G} {T : Nat → am_I} {L : Nat} {ret : Option FieldType} {hh : List (Nat × Nat × Nat × Nat)} {e : am_E}
/-- what holds of the world beside the tables -/
def am_w0 (Y : am_Y) (G : am_G) : Prop := am_CL Y ∧ am_OB Y ∧ am_sub Y.cl G.1 ∧ G.2.1 = Y.base ∧ am_ZT Y
theorem am_n_retI {ax : List Nat} {q} : ¬ am_retI ax st = some (.inl q) := by
  unfold am_retI
  repeat' split
  all_goals (intro h; cases h)
theorem am_n_retL {q} : ¬ am_retL st = some (.inl q) := by
  unfold am_retL
  repeat' split
  all_goals (intro h; cases h)
theorem am_n_retF {q} : ¬ am_retF st = some (.inl q) := by
  unfold am_retF
  repeat' split
  all_goals (intro h; cases h)
theorem am_n_retD {q} : ¬ am_retD st = some (.inl q) := by
  unfold am_retD
  repeat' split
  all_goals (intro h; cases h)
theorem am_n_ret {ok : Value → Bool} {q} : ¬ am_ret ok ls st H = some (.inl q) := by
  unfold am_ret
  repeat' split
  all_goals (intro h; cases h)
theorem am_n_retV {q} : ¬ am_retV st = some (.inl q) := by
  unfold am_retV
  repeat' split
  all_goals (intro h; cases h)
theorem am_n_throw {q} : ¬ am_throw st H = some (.inl q) := by
  unfold am_throw
  repeat' split
  all_goals (intro h; cases h)
theorem am_x_callS (M n : Nat) (st : List Value) {q} : ¬ am_callS M n st = some (.inl q) := by
  unfold am_callS
  repeat' split
  all_goals (intro h; cases h)
theorem am_x_callI (M n : Nat) (st : List Value) {q} : ¬ am_callI M n st = some (.inl q) := by
  unfold am_callI
  repeat' split
  all_goals (intro h; cases h)
theorem am_x_callU (M n : Nat) (st : List Value) (H : am_H) {q} : ¬ am_callU M n st H = some (.inl q) := by
  unfold am_callU
  repeat' split
  all_goals (intro h; cases h)
theorem am_x_callV (n : Nat) (tb : List Nat) (st : List Value) (H : am_H) {q} : ¬ am_callV n tb st H = some (.inl q) := by
  unfold am_callV
  repeat' split
  all_goals (intro h; cases h)
set_option maxHeartbeats 4000000 in
theorem am_so_nx (hw : am_w0 Y G) (hA : am_A Y X y cc) (hB : am_B X L ret hh) (hLen : ls.length = L) (hBg : am_big X) (hl : X.l.stackTraces = false) (he : am_ev Y G.2.2.1 T y ret cc pc e) (hro : am_room X H) (hro' : am_room X H') (hs : am_step G pc e ls st H = am_nx pc' ls' st' H') (k : am_W Y X pc' ls' st' H') : am_W Y X pc ls st H := by
  obtain ⟨i, n, ax⟩ := e
  unfold am_step at hs
  unfold am_ev at he
  dsimp only at hs he
  cases i <;> dsimp only at hs he
  case aconst_null => obtain ⟨hd, rfl⟩ := he; exact am_so_aconst hA hd hs k
  case iconst _ => obtain ⟨hd, rfl⟩ := he; exact am_so_iconst hA hd hs k
  case lconst _ => obtain ⟨hd, rfl⟩ := he; exact am_so_lconst hA hd hs k
  case iload_n _ => obtain ⟨hd, rfl⟩ := he; exact am_so_iload_n hA hd hs k
  case lload_n _ => obtain ⟨hd, rfl⟩ := he; exact am_so_lload_n hA hd hs k
  case fload_n _ => obtain ⟨hd, rfl⟩ := he; exact am_so_fload_n hA hd hs k
  case dload_n _ => obtain ⟨hd, rfl⟩ := he; exact am_so_dload_n hA hd hs k
  case aload_n _ => obtain ⟨hd, rfl⟩ := he; exact am_so_aload_n hA hd hs k
  case istore_n _ => obtain ⟨hd, rfl⟩ := he; exact am_so_istore_n hA hd hs k
  case fstore_n _ => obtain ⟨hd, rfl⟩ := he; exact am_so_fstore_n hA hd hs k
  case lstore_n _ => obtain ⟨hd, rfl⟩ := he; exact am_so_lstore_n hA hd hs k
  case dstore_n _ => obtain ⟨hd, rfl⟩ := he; exact am_so_dstore_n hA hd hs k
  case astore_n _ => obtain ⟨hd, rfl⟩ := he; exact am_so_astore_n hA hd hs k
  case iadd => obtain ⟨hd, rfl⟩ := he; exact am_so_iadd hA hd hs k
  case isub => obtain ⟨hd, rfl⟩ := he; exact am_so_isub hA hd hs k
  case imul => obtain ⟨hd, rfl⟩ := he; exact am_so_imul hA hd hs k
  case iand => obtain ⟨hd, rfl⟩ := he; exact am_so_iand hA hd hs k
  case ior => obtain ⟨hd, rfl⟩ := he; exact am_so_ior hA hd hs k
  case ixor => obtain ⟨hd, rfl⟩ := he; exact am_so_ixor hA hd hs k
  case ishl => obtain ⟨hd, rfl⟩ := he; exact am_so_ishl hA hd hs k
  case ishr => obtain ⟨hd, rfl⟩ := he; exact am_so_ishr hA hd hs k
  case iushr => obtain ⟨hd, rfl⟩ := he; exact am_so_iushr hA hd hs k
  case idiv => obtain ⟨hd, rfl⟩ := he; exact am_so_idiv hA hd hs k
  case irem => obtain ⟨hd, rfl⟩ := he; exact am_so_irem hA hd hs k
  case ineg => obtain ⟨hd, rfl⟩ := he; exact am_so_ineg hA hd hs k
  case i2l => obtain ⟨hd, rfl⟩ := he; exact am_so_i2l hA hd hs k
  case i2f => obtain ⟨hd, rfl⟩ := he; exact am_so_i2f hA hd hs k
  case i2d => obtain ⟨hd, rfl⟩ := he; exact am_so_i2d hA hd hs k
  case i2b => obtain ⟨hd, rfl⟩ := he; exact am_so_i2b hA hd hs k
  case i2c => obtain ⟨hd, rfl⟩ := he; exact am_so_i2c hA hd hs k
  case ladd => obtain ⟨hd, rfl⟩ := he; exact am_so_ladd hA hd hs k
  case land => obtain ⟨hd, rfl⟩ := he; exact am_so_land hA hd hs k
  case lor => obtain ⟨hd, rfl⟩ := he; exact am_so_lor hA hd hs k
  case l2i => obtain ⟨hd, rfl⟩ := he; exact am_so_l2i hA hd hs k
  case lcmp => obtain ⟨hd, rfl⟩ := he; exact am_so_lcmp hA hd hs k
  case fcmp _ => obtain ⟨hd, rfl⟩ := he; exact am_so_fcmp hA hd hs k
  case dcmp _ => obtain ⟨hd, rfl⟩ := he; exact am_so_dcmp hA hd hs k
  case f2d => obtain ⟨hd, rfl⟩ := he; exact am_so_f2d hA hd hs k
  case fdiv => obtain ⟨hd, rfl⟩ := he; exact am_so_fdiv hA hd hs k
  case ddiv => obtain ⟨hd, rfl⟩ := he; exact am_so_ddiv hA hd hs k
  case pop => obtain ⟨hd, rfl⟩ := he; exact am_so_pop hA hd hs k
  case dup => obtain ⟨hd, rfl⟩ := he; exact am_so_dup hA hd hs k
  case dup_x1 => obtain ⟨hd, rfl⟩ := he; exact am_so_dup_x1 hA hd hs k
  case dup2 => obtain ⟨hd, rfl⟩ := he; exact am_so_dup2 hA hd hs k
  case iaload => obtain ⟨hd, rfl⟩ := he; exact am_so_iaload hA hd hs k
  case laload => obtain ⟨hd, rfl⟩ := he; exact am_so_laload hA hd hs k
  case baload => obtain ⟨hd, rfl⟩ := he; exact am_so_baload hA hd hs k
  case caload => obtain ⟨hd, rfl⟩ := he; exact am_so_caload hA hd hs k
  case daload => obtain ⟨hd, rfl⟩ := he; exact am_so_daload hA hd hs k
  case aaload => obtain ⟨hd, rfl⟩ := he; exact am_so_aaload hA hd hs k
  case iastore => obtain ⟨hd, rfl⟩ := he; rw [hw.2.2.2.1] at hs; exact am_so_iastore hA hd hs k
  case lastore => obtain ⟨hd, rfl⟩ := he; rw [hw.2.2.2.1] at hs; exact am_so_lastore hA hd hs k
  case bastore => obtain ⟨hd, rfl⟩ := he; rw [hw.2.2.2.1] at hs; exact am_so_bastore hA hd hs k
  case castore => obtain ⟨hd, rfl⟩ := he; rw [hw.2.2.2.1] at hs; exact am_so_castore hA hd hs k
  case dastore => obtain ⟨hd, rfl⟩ := he; rw [hw.2.2.2.1] at hs; exact am_so_dastore hA hd hs k
  case arraylength => obtain ⟨hd, rfl⟩ := he; exact am_so_alen hA hd hs k
  case bipush _ => obtain ⟨hd, rfl⟩ := he; exact am_so_bipush hA hd hs k
  case iload _ => obtain ⟨hd, rfl⟩ := he; exact am_so_iload hA hd hs k
  case lload _ => obtain ⟨hd, rfl⟩ := he; exact am_so_lload hA hd hs k
  case fload _ => obtain ⟨hd, rfl⟩ := he; exact am_so_fload hA hd hs k
  case dload _ => obtain ⟨hd, rfl⟩ := he; exact am_so_dload hA hd hs k
  case aload _ => obtain ⟨hd, rfl⟩ := he; exact am_so_aload hA hd hs k
  case istore _ => obtain ⟨hd, rfl⟩ := he; exact am_so_istore hA hd hs k
  case fstore _ => obtain ⟨hd, rfl⟩ := he; exact am_so_fstore hA hd hs k
  case lstore _ => obtain ⟨hd, rfl⟩ := he; exact am_so_lstore hA hd hs k
  case dstore _ => obtain ⟨hd, rfl⟩ := he; exact am_so_dstore hA hd hs k
  case astore _ => obtain ⟨hd, rfl⟩ := he; exact am_so_astore hA hd hs k
  case sipush _ => obtain ⟨hd, rfl⟩ := he; exact am_so_sipush hA hd hs k
  case iinc _ _ => obtain ⟨hd, rfl⟩ := he; exact am_so_iinc hA hd hs k
  case goto _ => obtain ⟨hd, rfl⟩ := he; exact am_so_goto hA hd hs k
  case ifCond _ _ => obtain ⟨hd, rfl⟩ := he; exact am_so_if hA hd hs k
  case if_icmp _ _ => obtain ⟨hd, rfl⟩ := he; exact am_so_if_icmp hA hd hs k
  case if_acmp _ _ => obtain ⟨hd, rfl⟩ := he; exact am_so_if_acmp hA hd hs k
  case ifnull _ => obtain ⟨hd, rfl⟩ := he; exact am_so_ifnull hA hd hs k
  case ifnonnull _ => obtain ⟨hd, rfl⟩ := he; exact am_so_ifnonnull hA hd hs k
  case aastore => obtain ⟨hd, rfl⟩ := he; rw [hw.2.2.2.1] at hs; exact am_so_aastore hA hw.2.1 hd hs k
  case tableswitch _ _ _ _ => obtain ⟨n, hd, rfl⟩ := he; exact am_so_tsw hA hd hs k
  case lookupswitch _ _ => obtain ⟨n, hd, rfl⟩ := he; exact am_so_lsw hA hd hs k
  case ldc _ => obtain ⟨⟨hd, rfl⟩, hK⟩ := he; exact am_so_ldc hA hK hd hs k
  case ldc_w _ => obtain ⟨⟨hd, rfl⟩, hK⟩ := he; exact am_so_ldcw hA hK hd hs k
  case ldc2_w _ => obtain ⟨⟨hd, rfl⟩, hK⟩ := he; exact am_so_ldc2 hA hK hd hs k
  case getstatic _ => obtain ⟨⟨hd, rfl⟩, hK⟩ := he; exact am_so_getstatic hA hK hd hro hs k
  case getfield _ => obtain ⟨⟨hd, rfl⟩, c0, j, rfl, hF⟩ := he; exact am_so_getfield hA hw.1 hw.2.2.1 hF hd hs k
  case putfield _ => obtain ⟨⟨hd, rfl⟩, c0, j, t, r0, ty, rfl, h1, h2, h3, h4, h5⟩ := he; rw [hw.2.2.2.1] at hs; exact am_so_putfield hA hw.1 hw.2.2.1 h1 h2 h3 h4 h5 hd hs k
  case new _ =>
    rcases he with ⟨⟨hd, rfl⟩, k0, w, ts, rfl, hN⟩ | ⟨k0, ic, cls, names, T0, rfl, rfl, hd, hd3, hd4, hr, hX⟩
    · exact am_so_new hA hw.1 hN hd hro hro' hs k
    · exact am_so_make hA hw.1 hB hBg hLen hl hw.2.2.2.2 hr hX hd hd3 hd4 hro hro' hs k
  case newarray _ => obtain ⟨⟨hd, rfl⟩, t, ty, rfl, h1, h2, h3, h4, h5, h6, h7⟩ := he; exact am_so_newarray hA h1 h2 h3 h4 h5 h6 h7 hd hro hro' hs k
  case anewarray _ => obtain ⟨⟨hd, rfl⟩, t, C, rfl, h1, h2, h3, h4⟩ := he; exact am_so_anewarray hA h1 h2 h3 h4 hd hro hro' hs k
  case multianewarray _ _ => obtain ⟨⟨hd, rfl⟩, rfl, h1, h2, h3⟩ := he; exact am_so_multi hA h1 h2 h3 hd hro hro' hs k
  case checkcast _ => obtain ⟨⟨hd, rfl⟩, nm, h1, h2⟩ := he; exact am_so_checkcast hA hw.1 h1 h2 hd hs k
  case instanceof _ => obtain ⟨⟨hd, rfl⟩, nm, h1, h2⟩ := he; exact am_so_instanceof hA hw.1 h1 h2 hd hs k
  case invokestatic _ =>
    obtain ⟨⟨hd, rfl⟩, he⟩ := he
    rcases he with ⟨M, n, rfl, -⟩ | ⟨rfl, h1, h2, h3, h4⟩
    · exact absurd hs (am_x_callS _ _ _)
    · rw [hw.2.2.2.1] at hs; exact am_so_copy hA hw.2.1 hB hBg hLen h1 h2 h3 h4 hd hs k
  case invokespecial _ =>
    obtain ⟨⟨hd, rfl⟩, he⟩ := he
    rcases he with ⟨M, n, rfl, -⟩ | ⟨M, n, rfl, -⟩ | ⟨rfl, h1, h2, h3⟩
    · exact absurd hs (am_x_callI _ _ _)
    · exact absurd hs (am_x_callU _ _ _ _)
    · exact am_so_objInit hA hB hBg hLen h1 h2 h3 hd hs k
  case invokevirtual _ =>
    obtain ⟨⟨hd, rfl⟩, he⟩ := he
    rcases he with ⟨n, tb, rfl, -⟩ | ⟨t, ty, ad, rfl, h1, h2, h3, h4, h5, h6, h7, h8⟩ | ⟨i, rfl, h1, h2, h3, h4, h5, h6⟩
    · exact absurd hs (am_x_callV _ _ _ _)
    · rw [hw.2.2.2.1] at hs; exact am_so_clone hA hB hBg hLen h1 h2 h3 h4 h5 h6 h7 h8 hd hro hro' hs k
    · exact am_so_getClass hA hB hBg hLen h1 h6 h2 h3 h4 h5 hd hs k
  case invokeinterface _ _ =>
    obtain ⟨⟨hd, rfl⟩, n, tb, rfl, -⟩ := he
    exact absurd hs (am_x_callV _ _ _ _)
  all_goals first | (cases hs; done) | (exact absurd hs (by first | exact am_n_retI | exact am_n_retL | exact am_n_retF | exact am_n_retD | exact am_n_ret | exact am_n_retV | exact am_n_throw))
/-- the arguments of a call are of category 1 -/
theorem am_pops_cat {n : Nat} {st as rest : List Value} (h : am_pops n [] st = some (as, rest)) : ∀ v ∈ as, am_is2 v = false := by
  obtain ⟨bs, rfl, -, -, h4⟩ := am_pops_spec n [] st as rest h
  intro v hv
  exact h4 v (by simpa using hv)
theorem am_c_callS {M n M' : Nat} {as rest : List Value} (hs : am_callS M n st = am_cl M' as rest) : M' = M ∧ ∀ v ∈ as, am_is2 v = false := by
  unfold am_callS at hs
  split at hs
  · rename_i hp
    split at hs
    · cases hs; exact ⟨rfl, am_pops_cat hp⟩
    · cases hs
  · cases hs
theorem am_c_callI {M n M' : Nat} {as rest : List Value} (hs : am_callI M n st = am_cl M' as rest) : M' = M ∧ ∀ v ∈ as, am_is2 v = false := by
  unfold am_callI at hs
  split at hs
  · rename_i hp
    split at hs
    · cases hs
      refine ⟨rfl, fun v hv => ?_⟩
      rcases List.mem_cons.mp hv with rfl | hv
      · rfl
      · exact am_pops_cat hp v hv
    · cases hs
  · cases hs
theorem am_c_callU {M n M' : Nat} {as rest : List Value} (hs : am_callU M n st H = am_cl M' as rest) : M' = M ∧ ∀ v ∈ as, am_is2 v = false := by
  unfold am_callU at hs
  split at hs
  · rename_i hp
    split at hs
    · split at hs
      · cases hs
        refine ⟨rfl, fun v hv => ?_⟩
        rcases List.mem_cons.mp hv with rfl | hv
        · rfl
        · exact am_pops_cat hp v hv
      · cases hs
    · cases hs
  · cases hs
theorem am_c_callV {n M' : Nat} {tb : List Nat} {as rest : List Value} (hs : am_callV n tb st H = am_cl M' as rest) : (∃ k, am_vt k tb = some M') ∧ ∀ v ∈ as, am_is2 v = false := by
  unfold am_callV at hs
  split at hs
  · rename_i hp
    split at hs
    · rename_i k vs hk
      split at hs
      · rename_i M hv
        split at hs
        · cases hs
          refine ⟨⟨k, hv⟩, fun v hv => ?_⟩
          rcases List.mem_cons.mp hv with rfl | hv
          · rfl
          · exact am_pops_cat hp v hv
        · cases hs
      · cases hs
    · cases hs
  · cases hs
/-- an operation that never calls -/
theorem am_y_copy {base n : Nat} {q} : ¬ am_copy base n ls st H = some (.inr (.inl q)) := by
  unfold am_copy
  repeat' split
  · intro h
    unfold am_arr at h
    repeat' split at h
    all_goals first | (cases h; done) | (dsimp only at h; split at h <;> cases h)
  · intro h; cases h
theorem am_y_objI {n : Nat} {q} : ¬ am_objI n ls st H = some (.inr (.inl q)) := by
  unfold am_objI
  repeat' split
  all_goals (intro h; cases h)
theorem am_y_clone {t base n : Nat} {q} : ¬ am_clone t base n ls st H = some (.inr (.inl q)) := by
  unfold am_clone
  repeat' split
  · intro h
    unfold am_arr at h
    repeat' split at h
    all_goals first | (cases h; done) | (dsimp only at h; split at h <;> cases h)
  · intro h; cases h
theorem am_y_gcls {v n : Nat} {q} : ¬ am_gcls v n ls st H = some (.inr (.inl q)) := by
  unfold am_gcls
  repeat' split
  · intro h
    unfold am_arr at h
    repeat' split at h
    all_goals first | (cases h; done) | (dsimp only at h; split at h <;> cases h)
  · intro h; cases h
theorem am_o_push {v : Value} {n : Nat} {r : am_S} (h : am_push v n ls st H = some r) : ∃ q, r = .inl q := ⟨_, (Option.some.inj h).symm⟩
theorem am_o_inc {i : Nat} {z : Int} {n : Nat} {r : am_S} (h : am_inc i z n ls st H = some r) : ∃ q, r = .inl q := by
  unfold am_inc at h
  repeat' split at h
  all_goals first | (cases h; done) | exact ⟨_, (Option.some.inj h).symm⟩
theorem am_o_ib {f : Int32 → Int32 → Int32} {n : Nat} {r : am_S} (h : am_ib f n ls st H = some r) : ∃ q, r = .inl q := by
  unfold am_ib at h
  repeat' split at h
  all_goals first | (cases h; done) | exact ⟨_, (Option.some.inj h).symm⟩
theorem am_o_ibz {f : Int32 → Int32 → Int32} {n : Nat} {r : am_S} (h : am_ibz f n ls st H = some r) : ∃ q, r = .inl q := by
  unfold am_ibz at h
  repeat' split at h
  all_goals first | (cases h; done) | exact ⟨_, (Option.some.inj h).symm⟩
theorem am_o_iu {f : Int32 → Value} {n : Nat} {r : am_S} (h : am_iu f n ls st H = some r) : ∃ q, r = .inl q := by
  unfold am_iu at h
  repeat' split at h
  all_goals first | (cases h; done) | exact ⟨_, (Option.some.inj h).symm⟩
theorem am_o_lb {f : Int64 → Int64 → Int64} {n : Nat} {r : am_S} (h : am_lb f n ls st H = some r) : ∃ q, r = .inl q := by
  unfold am_lb at h
  repeat' split at h
  all_goals first | (cases h; done) | exact ⟨_, (Option.some.inj h).symm⟩
theorem am_o_fcmp {op : ClassFile.CmpOp} {n : Nat} {r : am_S} (h : am_fcmp op n ls st H = some r) : ∃ q, r = .inl q := by
  unfold am_fcmp at h
  repeat' split at h
  all_goals first | (cases h; done) | exact ⟨_, (Option.some.inj h).symm⟩
theorem am_o_dcmp {op : ClassFile.CmpOp} {n : Nat} {r : am_S} (h : am_dcmp op n ls st H = some r) : ∃ q, r = .inl q := by
  unfold am_dcmp at h
  repeat' split at h
  all_goals first | (cases h; done) | exact ⟨_, (Option.some.inj h).symm⟩
theorem am_o_goto {off : Int} {r : am_S} (h : am_goto off pc ls st H = some r) : ∃ q, r = .inl q := by
  unfold am_goto at h
  try unfold am_jp at h
  repeat' split at h
  all_goals first | (cases h; done) | exact ⟨_, (Option.some.inj h).symm⟩
theorem am_o_if {c : ClassFile.Cond} {off : Int} {n : Nat} {r : am_S} (h : am_if c off pc n ls st H = some r) : ∃ q, r = .inl q := by
  unfold am_if at h
  try unfold am_jp at h
  repeat' split at h
  all_goals first | (cases h; done) | exact ⟨_, (Option.some.inj h).symm⟩
theorem am_o_icmp {c : ClassFile.Cond} {off : Int} {n : Nat} {r : am_S} (h : am_icmp c off pc n ls st H = some r) : ∃ q, r = .inl q := by
  unfold am_icmp at h
  try unfold am_jp at h
  repeat' split at h
  all_goals first | (cases h; done) | exact ⟨_, (Option.some.inj h).symm⟩
theorem am_o_acmp {c : ClassFile.ACond} {off : Int} {n : Nat} {r : am_S} (h : am_acmp c off pc n ls st H = some r) : ∃ q, r = .inl q := by
  unfold am_acmp at h
  try unfold am_jp at h
  repeat' split at h
  all_goals first | (cases h; done) | exact ⟨_, (Option.some.inj h).symm⟩
theorem am_o_ifnull {off : Int} {n : Nat} {r : am_S} (h : am_ifnull off pc n ls st H = some r) : ∃ q, r = .inl q := by
  unfold am_ifnull at h
  try unfold am_jp at h
  repeat' split at h
  all_goals first | (cases h; done) | exact ⟨_, (Option.some.inj h).symm⟩
theorem am_o_ifnonnull {off : Int} {n : Nat} {r : am_S} (h : am_ifnonnull off pc n ls st H = some r) : ∃ q, r = .inl q := by
  unfold am_ifnonnull at h
  try unfold am_jp at h
  repeat' split at h
  all_goals first | (cases h; done) | exact ⟨_, (Option.some.inj h).symm⟩
theorem am_o_tsw {d lo hi : Int} {os : Array Int} {r : am_S} (h : am_tsw d lo hi os pc ls st H = some r) : ∃ q, r = .inl q := by
  unfold am_tsw at h
  try unfold am_jp at h
  repeat' split at h
  all_goals first | (cases h; done) | exact ⟨_, (Option.some.inj h).symm⟩
theorem am_o_lsw {d : Int} {ps : Array (Int × Int)} {r : am_S} (h : am_lsw d ps pc ls st H = some r) : ∃ q, r = .inl q := by
  unfold am_lsw at h
  try unfold am_jp at h
  repeat' split at h
  all_goals first | (cases h; done) | exact ⟨_, (Option.some.inj h).symm⟩
theorem am_o_const {E : Nat → Nat} {ax : List Nat} {n : Nat} {r : am_S} (h : am_const E ax n ls st H = some r) : ∃ q, r = .inl q := by
  unfold am_const at h
  repeat' split at h
  all_goals first | (cases h; done) | exact ⟨_, (Option.some.inj h).symm⟩
theorem am_o_get {sub : Nat → Nat → Bool} {ax : List Nat} {n : Nat} {r : am_S} (h : am_get sub ax n ls st H = some r) : ∃ q, r = .inl q := by
  unfold am_get at h
  repeat' split at h
  all_goals first | (cases h; done) | exact ⟨_, (Option.some.inj h).symm⟩
theorem am_o_putf {sub : Nat → Nat → Bool} {base : Nat} {ax : List Nat} {n : Nat} {r : am_S} (h : am_putf sub base ax n ls st H = some r) : ∃ q, r = .inl q := by
  unfold am_putf at h
  repeat' split at h
  all_goals first | (cases h; done) | exact ⟨_, (Option.some.inj h).symm⟩
theorem am_o_aload {ok : Nat → Bool} {n : Nat} {r : am_S} (h : am_aload ok n ls st H = some r) : ∃ q, r = .inl q := by
  unfold am_aload at h
  repeat' split at h
  all_goals first | (cases h; done) | exact ⟨_, (Option.some.inj h).symm⟩
theorem am_o_astore {k0 base : Nat} {ok : Value → Bool} {n : Nat} {r : am_S} (h : am_astore k0 base ok n ls st H = some r) : ∃ q, r = .inl q := by
  unfold am_astore at h
  repeat' split at h
  all_goals first | (cases h; done) | exact ⟨_, (Option.some.inj h).symm⟩
theorem am_o_aastore {base n : Nat} {r : am_S} (h : am_aastore base n ls st H = some r) : ∃ q, r = .inl q := by
  unfold am_aastore at h
  repeat' split at h
  all_goals first | (cases h; done) | exact ⟨_, (Option.some.inj h).symm⟩
theorem am_o_alen {n : Nat} {r : am_S} (h : am_alen n ls st H = some r) : ∃ q, r = .inl q := by
  unfold am_alen at h
  repeat' split at h
  all_goals first | (cases h; done) | exact ⟨_, (Option.some.inj h).symm⟩
theorem am_o_newo {ax : List Nat} {n : Nat} {r : am_S} (h : am_newo ax n ls st H = some r) : ∃ q, r = .inl q := by
  unfold am_newo at h
  try unfold am_mk at h
  repeat' split at h
  all_goals first | (cases h; done) | exact ⟨_, (Option.some.inj h).symm⟩
theorem am_o_newa {ax : List Nat} {n : Nat} {r : am_S} (h : am_newa ax n ls st H = some r) : ∃ q, r = .inl q := by
  unfold am_newa at h
  repeat' split at h
  all_goals first | (cases h; done) | exact ⟨_, (Option.some.inj h).symm⟩
theorem am_o_multi {n : Nat} {r : am_S} (h : am_multi n ls st H = some r) : ∃ q, r = .inl q := by
  unfold am_multi at h
  repeat' split at h
  all_goals first | (cases h; done) | exact ⟨_, (Option.some.inj h).symm⟩
theorem am_o_cast {ax : List Nat} {n : Nat} {r : am_S} (h : am_cast ax n ls st H = some r) : ∃ q, r = .inl q := by
  unfold am_cast at h
  repeat' split at h
  all_goals first | (cases h; done) | exact ⟨_, (Option.some.inj h).symm⟩
theorem am_o_inst {ax : List Nat} {n : Nat} {r : am_S} (h : am_inst ax n ls st H = some r) : ∃ q, r = .inl q := by
  unfold am_inst at h
  repeat' split at h
  all_goals first | (cases h; done) | exact ⟨_, (Option.some.inj h).symm⟩
theorem am_o_recEq {ax : List Nat} {n : Nat} {r : am_S} (h : am_recEq ax n ls st H = some r) : ∃ q, r = .inl q := by
  unfold am_recEq at h
  repeat' split at h
  all_goals first | (cases h; done) | exact ⟨_, (Option.some.inj h).symm⟩
theorem am_o_loadI {i n : Nat} {r : am_S} (h : am_loadI i n ls st H = some r) : ∃ q, r = .inl q := by
  unfold am_loadI at h
  repeat' split at h
  all_goals first | (cases h; done) | exact ⟨_, (Option.some.inj h).symm⟩
theorem am_o_loadL {i n : Nat} {r : am_S} (h : am_loadL i n ls st H = some r) : ∃ q, r = .inl q := by
  unfold am_loadL at h
  repeat' split at h
  all_goals first | (cases h; done) | exact ⟨_, (Option.some.inj h).symm⟩
theorem am_o_loadF {i n : Nat} {r : am_S} (h : am_loadF i n ls st H = some r) : ∃ q, r = .inl q := by
  unfold am_loadF at h
  repeat' split at h
  all_goals first | (cases h; done) | exact ⟨_, (Option.some.inj h).symm⟩
theorem am_o_loadD {i n : Nat} {r : am_S} (h : am_loadD i n ls st H = some r) : ∃ q, r = .inl q := by
  unfold am_loadD at h
  repeat' split at h
  all_goals first | (cases h; done) | exact ⟨_, (Option.some.inj h).symm⟩
theorem am_o_loadA {i n : Nat} {r : am_S} (h : am_loadA i n ls st H = some r) : ∃ q, r = .inl q := by
  unfold am_loadA at h
  repeat' split at h
  all_goals first | (cases h; done) | exact ⟨_, (Option.some.inj h).symm⟩
theorem am_o_storeI {i n : Nat} {r : am_S} (h : am_storeI i n ls st H = some r) : ∃ q, r = .inl q := by
  unfold am_storeI at h
  repeat' split at h
  all_goals first | (cases h; done) | exact ⟨_, (Option.some.inj h).symm⟩
theorem am_o_storeL {i n : Nat} {r : am_S} (h : am_storeL i n ls st H = some r) : ∃ q, r = .inl q := by
  unfold am_storeL at h
  repeat' split at h
  all_goals first | (cases h; done) | exact ⟨_, (Option.some.inj h).symm⟩
theorem am_o_storeF {i n : Nat} {r : am_S} (h : am_storeF i n ls st H = some r) : ∃ q, r = .inl q := by
  unfold am_storeF at h
  repeat' split at h
  all_goals first | (cases h; done) | exact ⟨_, (Option.some.inj h).symm⟩
theorem am_o_storeD {i n : Nat} {r : am_S} (h : am_storeD i n ls st H = some r) : ∃ q, r = .inl q := by
  unfold am_storeD at h
  repeat' split at h
  all_goals first | (cases h; done) | exact ⟨_, (Option.some.inj h).symm⟩
theorem am_o_storeA {i n : Nat} {r : am_S} (h : am_storeA i n ls st H = some r) : ∃ q, r = .inl q := by
  unfold am_storeA at h
  repeat' split at h
  all_goals first | (cases h; done) | exact ⟨_, (Option.some.inj h).symm⟩
theorem am_o_l2i {n : Nat} {r : am_S} (h : am_l2i n ls st H = some r) : ∃ q, r = .inl q := by
  unfold am_l2i at h
  repeat' split at h
  all_goals first | (cases h; done) | exact ⟨_, (Option.some.inj h).symm⟩
theorem am_o_lcmp {n : Nat} {r : am_S} (h : am_lcmp n ls st H = some r) : ∃ q, r = .inl q := by
  unfold am_lcmp at h
  repeat' split at h
  all_goals first | (cases h; done) | exact ⟨_, (Option.some.inj h).symm⟩
theorem am_o_f2d {n : Nat} {r : am_S} (h : am_f2d n ls st H = some r) : ∃ q, r = .inl q := by
  unfold am_f2d at h
  repeat' split at h
  all_goals first | (cases h; done) | exact ⟨_, (Option.some.inj h).symm⟩
theorem am_o_fdiv {n : Nat} {r : am_S} (h : am_fdiv n ls st H = some r) : ∃ q, r = .inl q := by
  unfold am_fdiv at h
  repeat' split at h
  all_goals first | (cases h; done) | exact ⟨_, (Option.some.inj h).symm⟩
theorem am_o_ddiv {n : Nat} {r : am_S} (h : am_ddiv n ls st H = some r) : ∃ q, r = .inl q := by
  unfold am_ddiv at h
  repeat' split at h
  all_goals first | (cases h; done) | exact ⟨_, (Option.some.inj h).symm⟩
theorem am_o_pop {n : Nat} {r : am_S} (h : am_pop n ls st H = some r) : ∃ q, r = .inl q := by
  unfold am_pop at h
  repeat' split at h
  all_goals first | (cases h; done) | exact ⟨_, (Option.some.inj h).symm⟩
theorem am_o_dup {n : Nat} {r : am_S} (h : am_dup n ls st H = some r) : ∃ q, r = .inl q := by
  unfold am_dup at h
  repeat' split at h
  all_goals first | (cases h; done) | exact ⟨_, (Option.some.inj h).symm⟩
theorem am_o_dupx1 {n : Nat} {r : am_S} (h : am_dupx1 n ls st H = some r) : ∃ q, r = .inl q := by
  unfold am_dupx1 at h
  repeat' split at h
  all_goals first | (cases h; done) | exact ⟨_, (Option.some.inj h).symm⟩
theorem am_o_dup2 {n : Nat} {r : am_S} (h : am_dup2 n ls st H = some r) : ∃ q, r = .inl q := by
  unfold am_dup2 at h
  repeat' split at h
  all_goals first | (cases h; done) | exact ⟨_, (Option.some.inj h).symm⟩
def am_isC : Instr → Nat
  | .invokestatic _ => 1
  | .invokespecial _ => 1
  | .invokevirtual _ => 1
  | .invokeinterface _ _ => 1
  | .ireturn => 2
  | .lreturn => 2
  | .freturn => 2
  | .dreturn => 2
  | .areturn => 2
  | .return_ => 2
  | .athrow => 3
  | _ => 0
set_option maxHeartbeats 4000000 in
theorem am_o_step (h0 : am_isC e.1 = 0) {r : am_S} (hs : am_step G pc e ls st H = some r) : ∃ q, r = .inl q := by
  obtain ⟨i, n, ax⟩ := e
  unfold am_step at hs
  dsimp only at hs h0
  cases i <;> dsimp only at hs <;> first | (cases hs; done) | (cases h0; done) | exact am_o_push hs | exact am_o_inc hs | exact am_o_ib hs | exact am_o_ibz hs | exact am_o_iu hs | exact am_o_lb hs | exact am_o_fcmp hs | exact am_o_dcmp hs | exact am_o_goto hs | exact am_o_if hs | exact am_o_icmp hs | exact am_o_acmp hs | exact am_o_ifnull hs | exact am_o_ifnonnull hs | exact am_o_tsw hs | exact am_o_lsw hs | exact am_o_const hs | exact am_o_get hs | exact am_o_putf hs | exact am_o_aload hs | exact am_o_astore hs | exact am_o_aastore hs | exact am_o_alen hs | exact am_o_newo hs | exact am_o_newa hs | exact am_o_multi hs | exact am_o_cast hs | exact am_o_inst hs | exact am_o_recEq hs | exact am_o_loadI hs | exact am_o_loadL hs | exact am_o_loadF hs | exact am_o_loadD hs | exact am_o_loadA hs | exact am_o_storeI hs | exact am_o_storeL hs | exact am_o_storeF hs | exact am_o_storeD hs | exact am_o_storeA hs | exact am_o_l2i hs | exact am_o_lcmp hs | exact am_o_f2d hs | exact am_o_fdiv hs | exact am_o_ddiv hs | exact am_o_pop hs | exact am_o_dup hs | exact am_o_dupx1 hs | exact am_o_dup2 hs
theorem am_m_retI {ax : List Nat} {q} : ¬ am_retI ax st = some (.inr (.inl q)) := by
  intro h
  unfold am_retI at h
  repeat' split at h
  all_goals first | (cases h; done) | (dsimp only at h; split at h <;> cases h)
theorem am_m_retL  {q} : ¬ am_retL st = some (.inr (.inl q)) := by
  intro h
  unfold am_retL at h
  repeat' split at h
  all_goals first | (cases h; done) | (dsimp only at h; split at h <;> cases h)
theorem am_m_retF  {q} : ¬ am_retF st = some (.inr (.inl q)) := by
  intro h
  unfold am_retF at h
  repeat' split at h
  all_goals first | (cases h; done) | (dsimp only at h; split at h <;> cases h)
theorem am_m_retD  {q} : ¬ am_retD st = some (.inr (.inl q)) := by
  intro h
  unfold am_retD at h
  repeat' split at h
  all_goals first | (cases h; done) | (dsimp only at h; split at h <;> cases h)
theorem am_m_ret {ok : Value → Bool} {q} : ¬ am_ret ok ls st H = some (.inr (.inl q)) := by
  intro h
  unfold am_ret at h
  repeat' split at h
  all_goals first | (cases h; done) | (dsimp only at h; split at h <;> cases h)
theorem am_m_retV  {q} : ¬ am_retV st = some (.inr (.inl q)) := by
  intro h
  unfold am_retV at h
  repeat' split at h
  all_goals first | (cases h; done) | (dsimp only at h; split at h <;> cases h)
theorem am_m_throw  {q} : ¬ am_throw st H = some (.inr (.inl q)) := by
  intro h
  unfold am_throw at h
  repeat' split at h
  all_goals first | (cases h; done) | (dsimp only at h; split at h <;> cases h)
theorem am_r_throw  {q} : ¬ am_throw st H = some (.inr (.inr (.inl q))) := by
  intro h
  unfold am_throw at h
  repeat' split at h
  all_goals first | (cases h; done) | (dsimp only at h; split at h <;> cases h)
theorem am_r_static {base n : Nat} {ax : List Nat} {q} : ¬ am_static base ax n ls st H = some (.inr (.inr (.inl q))) := by
  intro h
  unfold am_static at h
  try unfold am_callS at h
  try unfold am_copy at h
  try unfold am_arr at h
  repeat' split at h
  all_goals first | (cases h; done) | (dsimp only at h; split at h <;> cases h)
theorem am_r_special {n : Nat} {ax : List Nat} {q} : ¬ am_special ax n ls st H = some (.inr (.inr (.inl q))) := by
  intro h
  unfold am_special at h
  try unfold am_callI at h
  try unfold am_callU at h
  try unfold am_objI at h
  repeat' split at h
  all_goals first | (cases h; done) | (dsimp only at h; split at h <;> cases h)
theorem am_r_virt {base n : Nat} {E : Nat → Nat} {ax : List Nat} {q} : ¬ am_virt base E ax n ls st H = some (.inr (.inr (.inl q))) := by
  intro h
  unfold am_virt at h
  try unfold am_callV at h
  try unfold am_clone at h
  try unfold am_gcls at h
  try unfold am_arr at h
  repeat' split at h
  all_goals first | (cases h; done) | (dsimp only at h; split at h <;> cases h)
theorem am_t_retI {ax : List Nat} {q} : ¬ am_retI ax st = some (.inr (.inr (.inr q))) := by
  intro h
  unfold am_retI at h
  repeat' split at h
  all_goals first | (cases h; done) | (dsimp only at h; split at h <;> cases h)
theorem am_t_retL  {q} : ¬ am_retL st = some (.inr (.inr (.inr q))) := by
  intro h
  unfold am_retL at h
  repeat' split at h
  all_goals first | (cases h; done) | (dsimp only at h; split at h <;> cases h)
theorem am_t_retF  {q} : ¬ am_retF st = some (.inr (.inr (.inr q))) := by
  intro h
  unfold am_retF at h
  repeat' split at h
  all_goals first | (cases h; done) | (dsimp only at h; split at h <;> cases h)
theorem am_t_retD  {q} : ¬ am_retD st = some (.inr (.inr (.inr q))) := by
  intro h
  unfold am_retD at h
  repeat' split at h
  all_goals first | (cases h; done) | (dsimp only at h; split at h <;> cases h)
theorem am_t_ret {ok : Value → Bool} {q} : ¬ am_ret ok ls st H = some (.inr (.inr (.inr q))) := by
  intro h
  unfold am_ret at h
  repeat' split at h
  all_goals first | (cases h; done) | (dsimp only at h; split at h <;> cases h)
theorem am_t_retV  {q} : ¬ am_retV st = some (.inr (.inr (.inr q))) := by
  intro h
  unfold am_retV at h
  repeat' split at h
  all_goals first | (cases h; done) | (dsimp only at h; split at h <;> cases h)
theorem am_t_static {base n : Nat} {ax : List Nat} {q} : ¬ am_static base ax n ls st H = some (.inr (.inr (.inr q))) := by
  intro h
  unfold am_static at h
  try unfold am_callS at h
  try unfold am_copy at h
  try unfold am_arr at h
  repeat' split at h
  all_goals first | (cases h; done) | (dsimp only at h; split at h <;> cases h)
theorem am_t_special {n : Nat} {ax : List Nat} {q} : ¬ am_special ax n ls st H = some (.inr (.inr (.inr q))) := by
  intro h
  unfold am_special at h
  try unfold am_callI at h
  try unfold am_callU at h
  try unfold am_objI at h
  repeat' split at h
  all_goals first | (cases h; done) | (dsimp only at h; split at h <;> cases h)
theorem am_t_virt {base n : Nat} {E : Nat → Nat} {ax : List Nat} {q} : ¬ am_virt base E ax n ls st H = some (.inr (.inr (.inr q))) := by
  intro h
  unfold am_virt at h
  try unfold am_callV at h
  try unfold am_clone at h
  try unfold am_gcls at h
  try unfold am_arr at h
  repeat' split at h
  all_goals first | (cases h; done) | (dsimp only at h; split at h <;> cases h)
set_option maxHeartbeats 4000000 in
theorem am_so_cl (hA : am_A Y X y cc) (hB : am_B X L ret hh) (hLen : ls.length = L) (he : am_ev Y G.2.2.1 T y ret cc pc e) {M' : Nat} {as rest : List Value} (hs : am_step G pc e ls st H = am_cl M' as rest) :
    (∃ m, am_EC (T M') m) ∧ (∀ v ∈ as, am_is2 v = false) ∧ ∀ (d : Nat) (out : am_O) (Hf : am_H), am_MX Y X.l (T M') d as H out Hf → am_deep X d → H.2.1 ≤ Hf.2.1 ∧ H.2.2 ≤ Hf.2.2 → am_room X H → am_room X Hf → am_kont Y X out pc e.2.1 ls rest Hf → am_W Y X pc ls st H := by
  obtain ⟨i, n, ax⟩ := e
  have hs0 := hs
  unfold am_step at hs
  unfold am_ev at he
  dsimp only at hs he
  cases i <;> dsimp only at hs he
  case invokestatic _ =>
    obtain ⟨⟨hd, rfl⟩, he⟩ := he
    rcases he with ⟨M, n, rfl, h1, h2, h3⟩ | ⟨rfl, -⟩
    · obtain ⟨rfl, hc⟩ := am_c_callS hs
      exact ⟨⟨_, h1⟩, hc, fun d out Hf hM hD hm hro hrf kk => am_so_callS (M := M') hA hB hLen h1 h2 h3 hM hD hm hro hrf hd hs kk⟩
    · exact absurd hs am_y_copy
  case invokespecial _ =>
    obtain ⟨⟨hd, rfl⟩, he⟩ := he
    rcases he with ⟨M, n, rfl, h1, h2⟩ | ⟨M, n, rfl, h1, h2⟩ | ⟨rfl, -⟩
    · obtain ⟨rfl, hc⟩ := am_c_callI hs
      exact ⟨⟨_, h1⟩, hc, fun d out Hf hM hD hm hro hrf kk => am_so_callI (M := M') hA hB hLen h1 h2 hM hD hm hro hrf hd hs kk⟩
    · obtain ⟨rfl, hc⟩ := am_c_callU hs
      exact ⟨⟨_, h1⟩, hc, fun d out Hf hM hD hm hro hrf kk => am_so_callU (M := M') hA hB hLen h1 h2 hM hD hm hro hrf hd hs kk⟩
    · exact absurd hs am_y_objI
  case invokevirtual _ =>
    obtain ⟨⟨hd, rfl⟩, he⟩ := he
    rcases he with ⟨n, tb, rfl, h1⟩ | ⟨t, ty, ad, rfl, -⟩ | ⟨i, rfl, -⟩
    · obtain ⟨⟨k, hk⟩, hc⟩ := am_c_callV hs
      exact ⟨⟨_, (h1 k _ hk).1⟩, hc, fun d out Hf hM hD hm hro hrf kk => am_so_callV hA hB hLen (h1 k _ hk).1 (fun k' hk' => (h1 k' _ hk').2) hM hD hm hro hrf hd hs kk⟩
    · exact absurd hs am_y_clone
    · exact absurd hs am_y_gcls
  case invokeinterface _ _ =>
    obtain ⟨⟨hd, rfl⟩, n, tb, rfl, h1⟩ := he
    obtain ⟨⟨k, hk⟩, hc⟩ := am_c_callV hs
    exact ⟨⟨_, (h1 k _ hk).1⟩, hc, fun d out Hf hM hD hm hro hrf kk => am_so_callF hA hB hLen (h1 k _ hk).1 (fun k' hk' => (h1 k' _ hk').2) hM hD hm hro hrf hd hs kk⟩
  all_goals exfalso
  all_goals first | (cases hs; done) | (obtain ⟨q, hq⟩ := am_o_step (e := (_, n, ax)) rfl hs0; cases hq; done) | skip
  all_goals first | exact am_m_retI hs | exact am_m_retL hs | exact am_m_retF hs | exact am_m_retD hs | exact am_m_ret hs | exact am_m_retV hs | exact am_m_throw hs
set_option maxHeartbeats 4000000 in
theorem am_so_rt (hA : am_A Y X y cc) (hB : am_B X L ret hh) (he : am_ev Y G.2.2.1 T y ret cc pc e) {v : Option Value} (hs : am_step G pc e ls st H = am_rt v) (hE : am_End Y X (.ok v) H) : am_W Y X pc ls st H := by
  obtain ⟨i, n, ax⟩ := e
  have hs0 := hs
  unfold am_step at hs
  unfold am_ev at he
  dsimp only at hs he
  cases i <;> dsimp only at hs he
  case ireturn => obtain ⟨⟨hd, -⟩, t, ty, rfl, h1, rfl⟩ := he; exact am_so_ireturn hA h1 hB hd hs hE
  case lreturn => obtain ⟨⟨hd, -⟩, rfl⟩ := he; exact am_so_lreturn hA hB hd hs hE
  case freturn => obtain ⟨⟨hd, -⟩, rfl⟩ := he; exact am_so_freturn hA hB hd hs hE
  case dreturn => obtain ⟨⟨hd, -⟩, rfl⟩ := he; exact am_so_dreturn hA hB hd hs hE
  case areturn => obtain ⟨⟨hd, -⟩, ty, h1, rfl⟩ := he; exact am_so_areturn hA h1 hB hd hs hE
  case return_ => obtain ⟨⟨hd, -⟩, rfl⟩ := he; exact am_so_return hA hB hd hs hE
  all_goals exfalso
  all_goals first | (cases hs; done) | (obtain ⟨q, hq⟩ := am_o_step (e := (_, n, ax)) rfl hs0; cases hq; done) | skip
  all_goals first | exact am_r_throw hs | exact am_r_static hs | exact am_r_special hs | exact am_r_virt hs
set_option maxHeartbeats 4000000 in
theorem am_so_th (hA : am_A Y X y cc) (he : am_ev Y G.2.2.1 T y ret cc pc e) {q : Nat} (hs : am_step G pc e ls st H = am_th q) (k : am_V Y X pc ls q H) : am_W Y X pc ls st H := by
  obtain ⟨i, n, ax⟩ := e
  have hs0 := hs
  unfold am_step at hs
  unfold am_ev at he
  dsimp only at hs he
  cases i <;> dsimp only at hs he
  case athrow => obtain ⟨hd, -⟩ := he; exact am_so_athrow hA hd hs k
  all_goals exfalso
  all_goals first | (cases hs; done) | (obtain ⟨q, hq⟩ := am_o_step (e := (_, n, ax)) rfl hs0; cases hq; done) | skip
  all_goals first | exact am_t_retI hs | exact am_t_retL hs | exact am_t_retF hs | exact am_t_retD hs | exact am_t_ret hs | exact am_t_retV hs | exact am_t_static hs | exact am_t_special hs | exact am_t_virt hs
end AMD
