/-! THE MACHINE BENEATH: what an abstract state says of the machine's, and one lemma an operation -/
set_option maxRecDepth 100000
/-! locals -/
def am_pl (ls : List Value) : List (Nat × Value) := (List.range ls.length).filterMap fun i => match ls[i]? with
  | some v => if v = .retAddr 0 then none else some (i, v)
  | none => none
theorem am_pl_mem {ls : List Value} {i : Nat} {v : Value} : (i, v) ∈ am_pl ls ↔ ls[i]? = some v ∧ v ≠ .retAddr 0 := by
  unfold am_pl
  rw [List.mem_filterMap]
  constructor
  · rintro ⟨j, hj, h⟩
    cases hw : ls[j]? with
    | none => rw [hw] at h; cases h
    | some w =>
      rw [hw] at h
      dsimp only at h
      by_cases hm : w = .retAddr 0
      · rw [if_pos hm] at h; cases h
      · rw [if_neg hm] at h
        cases h
        exact ⟨hw, hm⟩
  · rintro ⟨h, hm⟩
    refine ⟨i, List.mem_range.mpr (List.getElem?_eq_some_iff.mp h).1, ?_⟩
    rw [h]
    exact if_neg hm
def am_L (lsA : Array Slot) (ls : List Value) : Prop := lv_has lsA ls.length (am_pl ls)
theorem am_L_get {lsA : Array Slot} {ls : List Value} {k : Nat} {v : Value} (h : am_L lsA ls) (hk : ls[k]? = some v) (hv : v ≠ .retAddr 0) : lsA[k]? = some (.val v) := h.2.2 (k, v) (am_pl_mem.mpr ⟨hk, hv⟩)
theorem am_L_of {lsA : Array Slot} {ls : List Value} {n : Nat} {l : List (Nat × Value)} (h : lv_has lsA n l) (hn : ls.length = n) (hm : ∀ i v, ls[i]? = some v → v ≠ .retAddr 0 → (i, v) ∈ l) : am_L lsA ls :=
  ⟨h.1.trans hn.symm, h.2.1, fun q hq => by
    obtain ⟨i, v⟩ := q
    obtain ⟨h1, h2⟩ := am_pl_mem.mp hq
    exact h.2.2 (i, v) (hm i v h1 h2)⟩
theorem am_cat {v : Value} (h : am_is2 v = false) : v.category = 1 := by cases v <;> first | rfl | cases h
theorem am_cat2 {v : Value} (h : am_is2 v = true) : v.category = 2 := by cases v <;> first | rfl | cases h
theorem am_is2R {v : Value} (h : am_isR v = true) : am_is2 v = false := by cases v <;> first | rfl | cases h
theorem am_cat_le (v : Value) : v.category ≤ 2 := by cases v <;> simp [Value.category]
theorem am_st1_spec {ls l : List Value} {k : Nat} {v : Value} (h : am_st1 ls k v = some l) : k < ls.length ∧ l = ls.set k v ∧ ∀ j w, j + 1 = k → ls[j]? = some w → am_is2 w = false := by
  unfold am_st1 at h
  by_cases hk : k < ls.length
  · rw [if_pos hk] at h
    cases k with
    | zero => cases h; exact ⟨hk, rfl, fun j w e _ => by omega⟩
    | succ j =>
      dsimp only at h
      cases hw : ls[j]? with
      | none => rw [hw] at h; cases h
      | some w =>
        rw [hw] at h
        dsimp only at h
        by_cases h2 : am_is2 w = true
        · rw [if_pos h2] at h; cases h
        · rw [if_neg h2] at h
          cases h
          refine ⟨hk, rfl, fun j' w' e hw' => ?_⟩
          have : j' = j := by omega
          subst this
          rw [hw] at hw'
          cases hw'
          simpa using h2
  · rw [if_neg hk] at h; cases h
theorem am_st2_spec {ls l : List Value} {k : Nat} {v : Value} (h : am_st2 ls k v = some l) : k + 1 < ls.length ∧ l = (ls.set k v).set (k + 1) (.retAddr 0) ∧ ∀ j w, j + 1 = k → ls[j]? = some w → am_is2 w = false := by
  unfold am_st2 at h
  by_cases hk : k + 1 < ls.length
  · rw [if_pos hk] at h
    cases k with
    | zero => cases h; exact ⟨hk, rfl, fun j w e _ => by omega⟩
    | succ j =>
      dsimp only at h
      cases hw : ls[j]? with
      | none => rw [hw] at h; cases h
      | some w =>
        rw [hw] at h
        dsimp only at h
        by_cases h2 : am_is2 w = true
        · rw [if_pos h2] at h; cases h
        · rw [if_neg h2] at h
          cases h
          refine ⟨hk, rfl, fun j' w' e hw' => ?_⟩
          have : j' = j := by omega
          subst this
          rw [hw] at hw'
          cases hw'
          simpa using h2
  · rw [if_neg hk] at h; cases h
/-- behind a write of category 1 -/
theorem am_L_st1 {lsA : Array Slot} {ls l : List Value} {k : Nat} {v : Value} (hs : am_st1 ls k v = some l) (h : lv_has lsA ls.length ((k, v) :: (am_pl ls).filter (fun q => !(q.1 == k) && !(q.1 + 1 == k && q.2.category == 2)))) : am_L lsA l := by
  obtain ⟨hk, rfl, h2⟩ := am_st1_spec hs
  refine am_L_of h (by simp) fun i w hi hw => ?_
  by_cases hik : i = k
  · subst hik
    rw [List.getElem?_set_self hk] at hi
    cases hi
    exact List.mem_cons_self
  · rw [List.getElem?_set_ne (Ne.symm hik)] at hi
    refine List.mem_cons_of_mem _ (List.mem_filter.mpr ⟨am_pl_mem.mpr ⟨hi, hw⟩, ?_⟩)
    by_cases h3 : i + 1 = k
    · have := am_cat (h2 i w h3 hi)
      simp [hik, this]
    · simp [hik, h3]
theorem am_L_st2 {lsA : Array Slot} {ls l : List Value} {k : Nat} {v : Value} (hs : am_st2 ls k v = some l) (h : lv_has lsA ls.length ((k, v) :: (am_pl ls).filter (fun q => !(q.1 == k) && (!(q.1 == k + 1) && !(q.1 + 1 == k && q.2.category == 2))))) : am_L lsA l := by
  obtain ⟨hk, rfl, h2⟩ := am_st2_spec hs
  refine am_L_of h (by simp) fun i w hi hw => ?_
  by_cases hik1 : i = k + 1
  · subst hik1
    rw [List.getElem?_set_self (by simpa using hk)] at hi
    cases hi
    exact absurd rfl hw
  · rw [List.getElem?_set_ne (Ne.symm hik1)] at hi
    by_cases hik : i = k
    · subst hik
      rw [List.getElem?_set_self (by omega)] at hi
      cases hi
      exact List.mem_cons_self
    · rw [List.getElem?_set_ne (Ne.symm hik)] at hi
      refine List.mem_cons_of_mem _ (List.mem_filter.mpr ⟨am_pl_mem.mpr ⟨hi, hw⟩, ?_⟩)
      by_cases h3 : i + 1 = k
      · have := am_cat (h2 i w h3 hi)
        simp [hik, hik1, this]
      · simp [hik, hik1, h3]
/-! the world: s0 the law's start; D the classes' numbers and slots; aC the arrays' classes; cl the classes by number -/
abbrev am_Y : Type := State × va_G × (Nat → ClassId) × List vw_C
abbrev am_Y.s0 (Y : am_Y) : State := Y.1
abbrev am_Y.D (Y : am_Y) : va_G := Y.2.1
abbrev am_Y.aC (Y : am_Y) : Nat → ClassId := Y.2.2.1
abbrev am_Y.cl (Y : am_Y) : List vw_C := Y.2.2.2
abbrev am_Y.base (Y : am_Y) : Nat := Y.1.heap.size
def am_cell (Y : am_Y) (a : Nat) (q : am_C) (x : Cell) : Prop :=
  x.vm ≠ .unknown ∧ x.vm.isStatics = false ∧ (Y.base ≤ a → x.vm = .none) ∧
  ((q.1 < 1000 ∧ x.cls = Y.D.1 q.1 ∧ ∃ r : vw_C, Y.cl[q.1]? = some r ∧ q.2.length = r.2.2 ∧ ∀ (j : Nat) (v : Value), q.2[j]? = some v → x.slots[Y.D.2 q.1 j]? = some v) ∨
   (1000 ≤ q.1 ∧ (am_aty (q.1 - 1000)).isSome = true ∧ x.cls = Y.aC (q.1 - 1000) ∧ (∀ (j : Nat) (v : Value), q.2[j]? = some v → x.slots[j]? = some v) ∧ q.2.length ≤ x.slots.size ∧ x.slots.size.toInt32 = Int32.ofNat q.2.length ∧ (Y.base ≤ a → x.slots.size = q.2.length) ∧ ∀ ty, am_aty (q.1 - 1000) = some ty → ∀ v ∈ q.2, fits ty v = true))
def am_R (Y : am_Y) (H : am_H) (Hm : Heap) : Prop :=
  Hm.size = H.2.1 ∧ Y.base ≤ Hm.size ∧ (∀ q : Nat, q < Y.base → Hm[q]? = Y.s0.heap[q]?) ∧ ∀ (a : Nat) (q : am_C), H.1 a = some q → ∃ x, Hm[a]? = some x ∧ am_cell Y a q x
/-- the classes and arrays, known in a state -/
def am_K (Y : am_Y) (s : State) : Prop :=
  (∀ (k : Nat) (q : vw_C), Y.cl[k]? = some q → u_Kn s q.1 q.2.1 q.2.2 (Y.D.1 k) (Y.D.2 k)) ∧ ∀ (t : Nat) (ty : FieldType), am_aty t = some ty → ArrOfT s (Y.aC t) ty ∧ va_RA s (Y.aC t) ty
/-- the classes' words hold through the run, their slots are apart -/
def am_CL (Y : am_Y) : Prop := ∀ (k : Nat) (r : vw_C), Y.cl[k]? = some r → k < 1000 ∧ (∀ w ∈ u_ws r.1 r.2.1 r.2.2, w ∈ lw_all) ∧ ∀ i j, i < r.2.2 → j < r.2.2 → i ≠ j → Y.D.2 k i ≠ Y.D.2 k j
theorem am_K.moved {Y : am_Y} {u U : State} (hvm : u.vm.Alike U.vm) (h : am_K Y u) : am_K Y U := ⟨fun c q hq => u_Kn_moved hvm (h.1 c q hq), fun k q hk => ⟨arrOfT_moved hvm (h.2 k q hk).1, (h.2 k q hk).2.moved hvm⟩⟩
/-! the activation of a method -/
abbrev am_X : Type := Program × Launch × Env × Room × State × MethodId × Array Value × List Frame × Method × Code × (Nat × Nat) × (State → Prop)
abbrev am_X.p (X : am_X) : Program := X.1
abbrev am_X.l (X : am_X) : Launch := X.2.1
abbrev am_X.e (X : am_X) : Env := X.2.2.1
abbrev am_X.R (X : am_X) : Room := X.2.2.2.1
abbrev am_X.s (X : am_X) : State := X.2.2.2.2.1
abbrev am_X.m (X : am_X) : MethodId := X.2.2.2.2.2.1
abbrev am_X.args (X : am_X) : Array Value := X.2.2.2.2.2.2.1
abbrev am_X.below (X : am_X) : List Frame := X.2.2.2.2.2.2.2.1
abbrev am_X.meth (X : am_X) : Method := X.2.2.2.2.2.2.2.2.1
abbrev am_X.c (X : am_X) : Code := X.2.2.2.2.2.2.2.2.2.1
abbrev am_X.z (X : am_X) : Nat := X.2.2.2.2.2.2.2.2.2.2.1.1
abbrev am_X.u (X : am_X) : Nat := X.2.2.2.2.2.2.2.2.2.2.1.2
abbrev am_X.Q (X : am_X) : State → Prop := X.2.2.2.2.2.2.2.2.2.2.2
abbrev am_X.WW (X : am_X) (H : Heap) (locs : List Jvm.Loc) (cells slots : Nat) (g : JFrame) : Prop := W X.p X.l X.e X.R X.s X.m X.args X.below X.meth X.c H locs cells slots X.Q g
abbrev am_X.VV (X : am_X) (H : Heap) (locs : List Jvm.Loc) (cells slots : Nat) (g : JFrame) (q : Addr) : Prop := vx_W X.p X.l X.e X.R X.s X.m X.args X.below X.meth X.c H locs cells slots X.Q g q
def am_room (X : am_X) (H : am_H) : Prop := X.z ≤ H.2.1 ∧ X.u ≤ H.2.2 ∧ H.2.1 - X.z ≤ X.R.cells ∧ H.2.2 - X.u ≤ X.R.slots
/-- from here the machine comes to the method's end -/
def am_W (Y : am_Y) (X : am_X) (pc : Nat) (ls st : List Value) (H : am_H) : Prop :=
  ∀ (Hm : Heap) (lsA : Array Slot) (locs : List Jvm.Loc), am_R Y H Hm → am_L lsA ls → (∀ z ∈ locs, Y.base ≤ z.base) → X.WW Hm locs (H.2.1 - X.z) (H.2.2 - X.u) (F0 X.m pc lsA st)
def am_V (Y : am_Y) (X : am_X) (pc : Nat) (ls : List Value) (q : Nat) (H : am_H) : Prop :=
  ∀ (Hm : Heap) (lsA : Array Slot) (locs : List Jvm.Loc) (rest : List Value), am_R Y H Hm → am_L lsA ls → (∀ z ∈ locs, Y.base ≤ z.base) → X.VV Hm locs (H.2.1 - X.z) (H.2.2 - X.u) (F0 X.m pc lsA rest) q
/-- what is known of the activation of the method y with the code cc -/
def am_A (Y : am_Y) (X : am_X) (y : MethodName) (cc : ByteArray) : Prop :=
  X.p.tables.exec = Jvm.exec ∧ X.c.code = cc ∧ X.s.vm.findClass y.cls = some X.m.cls ∧ X.meth.name = y.name ∧ Y.s0.WarmedH X.s.vm ∧ am_K Y X.s ∧ X.l.flags = flags0 ∧ (∀ w ∈ lw_all, w.before X.args X.s = true) ∧ (∃ a : Array Value, ∀ w ∈ lw_tbl, w.before a Y.s0 = true) ∧
  X.s.heap.size = X.z ∧ Y.base ≤ X.z ∧ ∀ q : Nat, q < Y.base → X.s.heap[q]? = Y.s0.heap[q]?
section AMW
variable {Y : am_Y} {X : am_X} {y : MethodName} {cc : ByteArray} {pc n : Nat} {ls st : List Value} {H : am_H} {pc' : Nat} {ls' st' : List Value} {H' : am_H}
theorem am_push_W (hA : am_A Y X y cc) {v : Value} (hs : am_push v n ls st H = am_nx pc' ls' st' H')
    (row : ∀ (Hm : Heap) (lsA : Array Slot) (locs : List Jvm.Loc) (cells slots : Nat), X.WW Hm locs cells slots (F0 X.m n lsA (v :: st)) → X.WW Hm locs cells slots (F0 X.m pc lsA st))
    (k : am_W Y X pc' ls' st' H') : am_W Y X pc ls st H := by
  cases hs
  exact fun Hm lsA locs hR hL hl => row Hm lsA locs _ _ (k Hm lsA locs hR hL hl)
theorem am_so_aconst (hA : am_A Y X y cc) (hd : decode cc pc = .ok (.aconst_null, 1)) (hs : am_push .null (pc + 1) ls st H = am_nx pc' ls' st' H') (k : am_W Y X pc' ls' st' H') : am_W Y X pc ls st H :=
  am_push_W hA hs (fun Hm lsA locs _ _ k => lv_null hA.1 hA.2.1 hd k) k
theorem am_so_iconst (hA : am_A Y X y cc) {x : Int} (hd : decode cc pc = .ok (.iconst x, 1)) (hs : am_push (.int (Int32.ofInt x)) (pc + 1) ls st H = am_nx pc' ls' st' H') (k : am_W Y X pc' ls' st' H') : am_W Y X pc ls st H :=
  am_push_W hA hs (fun Hm lsA locs _ _ k => lv_iconst hA.1 hA.2.1 hd rfl k) k
theorem am_so_bipush (hA : am_A Y X y cc) {x : Int} (hd : decode cc pc = .ok (.bipush x, 2)) (hs : am_push (.int (Int8.ofInt x).toInt32) (pc + 2) ls st H = am_nx pc' ls' st' H') (k : am_W Y X pc' ls' st' H') : am_W Y X pc ls st H :=
  am_push_W hA hs (fun Hm lsA locs _ _ k => lv_bipush hA.1 hA.2.1 hd rfl k) k
theorem am_so_sipush (hA : am_A Y X y cc) {x : Int} (hd : decode cc pc = .ok (.sipush x, 3)) (hs : am_push (.int (Int16.ofInt x).toInt32) (pc + 3) ls st H = am_nx pc' ls' st' H') (k : am_W Y X pc' ls' st' H') : am_W Y X pc ls st H :=
  am_push_W hA hs (fun Hm lsA locs _ _ k => lv_sipush hA.1 hA.2.1 hd rfl k) k
theorem am_so_lconst (hA : am_A Y X y cc) {x : Fin 2} (hd : decode cc pc = .ok (.lconst x, 1)) (hs : am_push (.long (Int64.ofNat x.val)) (pc + 1) ls st H = am_nx pc' ls' st' H') (k : am_W Y X pc' ls' st' H') : am_W Y X pc ls st H :=
  am_push_W hA hs (fun Hm lsA locs _ _ k => lv_lconst hA.1 hA.2.1 hd rfl k) k
end AMW
