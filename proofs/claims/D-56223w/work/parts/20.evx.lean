/-! EVIDENCE IN TWO: the bytes by one check a method; the rest by an entry's own proof (printed by gen/genx.py) -/
set_option maxRecDepth 100000
def am_exN (Y : am_Y) (own : String) (cc : ByteArray) (pc : Nat) (e : am_E) (idx : Nat) : Prop :=
  ((∃ k w ts, e.2.2 = 0 :: k :: w :: ts ∧ am_NW Y.cl own idx k w ts)) ∨
  (∃ (k ic : Nat) (cls : String) (names : List String) (T0 : u_T), e.2.2 = [1, k] ∧ decode cc (pc + 3) = .ok (.dup, 1) ∧ decode cc (pc + 4) = .ok (.invokespecial ic, 3) ∧ Y.cl[k]? = some (cls, T0, 0) ∧ am_XK own idx ic cls names)
def am_ex (Y : am_Y) (E : Nat → Nat) (T : Nat → am_I) (y : MethodName) (ret : Option FieldType) (cc : ByteArray) (pc : Nat) (e : am_E) : Prop := match e.1 with
  | .ldc idx => ∀ v, am_cv E e.2.2 = some v → am_KC Y y.cls idx v
  | .ldc_w idx => ∀ v, am_cv E e.2.2 = some v → ∃ x, v = .int x ∧ Cond.constant y.cls idx x ∈ lw_all
  | .ldc2_w idx => ∀ v, am_cv E e.2.2 = some v → ∃ x, v = .long x ∧ Cond.constantLong y.cls idx x ∈ lw_all
  | .getstatic idx => ∀ v, am_cv E e.2.2 = some v → am_KS Y y.cls idx v
  | .getfield idx => ∃ c0 j, e.2.2 = [c0, j] ∧ am_FL Y.cl y.cls idx c0 j
  | .putfield idx => am_evW Y y idx e.2.2
  | .new idx => am_exN Y y.cls cc pc e idx
  | .newarray at_ => am_evA at_ e.2.2
  | .anewarray idx => am_evC y.cls idx e.2.2
  | .multianewarray idx d => d = 2 ∧ Cond.classLink y.cls idx ("[" ++ (FieldType.array .int).toString) ∈ lw_all ∧ Cond.arrayOver (.array .int) ∈ lw_tbl ∧ Cond.arrayClass .int ∈ lw_all
  | .checkcast idx => am_evK Y y.cls idx e.2.2
  | .instanceof idx => am_evK Y y.cls idx e.2.2
  | .ireturn => ∃ t ty, e.2.2 = [t] ∧ am_tyk t ty ∧ ret = some ty
  | .lreturn => ret = some .long
  | .freturn => ret = some .float
  | .dreturn => ret = some .double
  | .areturn => ∃ ty, ((∃ n, ty = .object n) ∨ ∃ t, ty = .array t) ∧ ret = some ty
  | .return_ => ret = none
  | .invokestatic idx => am_evS y.cls T idx e.2.2
  | .invokespecial idx => am_evP y.cls T idx e.2.2
  | .invokevirtual idx => am_evV Y E y.cls T idx e.2.2
  | .invokeinterface idx _ => am_evF Y y.cls T idx e.2.2
  | .invokedynamic _ => False
  | .tableswitch _ _ _ _ => True
  | .lookupswitch _ _ => True
  | _ => True
/-- an operation's length; 0: its own -/
def am_lenA : Instr → Nat
  | .ldc _ => 2
  | .newarray _ => 2
  | .ldc_w _ => 3
  | .ldc2_w _ => 3
  | .getstatic _ => 3
  | .getfield _ => 3
  | .putfield _ => 3
  | .new _ => 3
  | .anewarray _ => 3
  | .checkcast _ => 3
  | .instanceof _ => 3
  | .invokestatic _ => 3
  | .invokespecial _ => 3
  | .invokevirtual _ => 3
  | .multianewarray _ _ => 4
  | .invokeinterface _ _ => 5
  | .ireturn => 1
  | .lreturn => 1
  | .freturn => 1
  | .dreturn => 1
  | .areturn => 1
  | .return_ => 1
  | .tableswitch _ _ _ _ => 0
  | .lookupswitch _ _ => 0
  | .invokedynamic _ => 5
  | i => am_len1 i
def am_isX : Instr → List Nat → Bool
  | .new _, [1, _] => true
  | _, _ => false
def am_isW : Instr → Bool
  | .tableswitch _ _ _ _ => true
  | .lookupswitch _ _ => true
  | _ => false
def am_dc (cc : ByteArray) (q : Nat × am_E) : Bool := match decode cc q.1 with
  | .ok (ins, len) => decide (ins = q.2.1) && (am_isW ins || decide (len = am_lenA ins)) && (if am_isX ins q.2.2.2 then decide (q.2.2.1 = q.1 + 7) else decide (q.2.2.1 = q.1 + len))
  | .error _ => false
theorem am_dc_spec {cc : ByteArray} {pc : Nat} {e : am_E} (h : am_dc cc (pc, e) = true) : ∃ len, decode cc pc = .ok (e.1, len) ∧ (am_isW e.1 = true ∨ len = am_lenA e.1) ∧ if am_isX e.1 e.2.2 then e.2.1 = pc + 7 else e.2.1 = pc + len := by
  unfold am_dc at h
  cases hd : decode cc pc with
  | error _ => rw [hd] at h; cases h
  | ok q =>
    obtain ⟨ins, len⟩ := q
    rw [hd] at h
    dsimp only at h
    rw [Bool.and_eq_true, Bool.and_eq_true, Bool.or_eq_true] at h
    obtain ⟨⟨h1, h2⟩, h3⟩ := h
    have h1 := of_decide_eq_true h1
    subst h1
    refine ⟨len, rfl, ?_, ?_⟩
    · rcases h2 with h2 | h2
      · exact Or.inl h2
      · exact Or.inr (of_decide_eq_true h2)
    · split at h3
      · rw [if_pos ‹_›]; exact of_decide_eq_true h3
      · rw [if_neg ‹_›]; exact of_decide_eq_true h3
set_option maxHeartbeats 1000000 in
theorem am_ev_of {Y : am_Y} {E : Nat → Nat} {T : Nat → am_I} {y : MethodName} {ret : Option FieldType} {cc : ByteArray} {pc : Nat} {e : am_E} (h1 : am_dc cc (pc, e) = true) (h2 : am_ex Y E T y ret cc pc e) : am_ev Y E T y ret cc pc e := by
  obtain ⟨len, hd, hl, hn⟩ := am_dc_spec h1
  obtain ⟨i, n, ax⟩ := e
  have h0 := hl
  unfold am_ev
  unfold am_ex at h2
  dsimp only at hd hl hn h2 ⊢
  cases i
  case new idx =>
    rcases h2 with ⟨k, w, ts, rfl, h3⟩ | ⟨k, ic, cls, names, T0, rfl, h3⟩
    · refine Or.inl ⟨⟨?_, ?_⟩, k, w, ts, rfl, h3⟩
      · rcases hl with hl | hl
        · cases hl
        · rw [← show len = 3 from hl]; exact hd
      · rcases hl with hl | hl
        · cases hl
        · rw [← show len = 3 from hl]
          have : am_isX (.new idx) (0 :: k :: w :: ts) = false := rfl
          rw [this] at hn
          exact hn
    · refine Or.inr ⟨k, ic, cls, names, T0, rfl, ?_, ?_, h3⟩
      · have : am_isX (.new idx) [1, k] = true := rfl
        rw [this] at hn
        exact hn
      · rcases hl with hl | hl
        · cases hl
        · rw [← show len = 3 from hl]; exact hd
  case tableswitch => exact ⟨len, hd, hn⟩
  case lookupswitch => exact ⟨len, hd, hn⟩
  case invokedynamic => exact h2
  all_goals
    rcases hl with hl | hl
    · cases hl
    · have hnn : n = pc + len := hn
      dsimp only [am_lenA] at hl
      subst hl
      first
        | exact ⟨hd, hnn⟩
        | exact ⟨⟨hd, hnn⟩, h2⟩
/-! one row a method: what it is, its code, its handlers -/
abbrev am_M : Type := am_I × List (Nat × am_E) × List (Nat × Nat × Nat × Nat)
def am_lk : List (Nat × am_E) → Nat → Option am_E
  | [], _ => none
  | q :: r, pc => if pc = q.1 then some q.2 else am_lk r pc
theorem am_lk_mem : ∀ {t : List (Nat × am_E)} {pc : Nat} {e : am_E}, am_lk t pc = some e → (pc, e) ∈ t
  | q :: r, pc, e, h => by
    unfold am_lk at h
    split at h
    · rename_i hp
      cases h
      rw [hp]
      exact List.mem_cons_self
    · exact List.mem_cons_of_mem _ (am_lk_mem h)
def am_rok (Y : am_Y) (E : Nat → Nat) (T : Nat → am_I) (xs : Nat → Nat → Option Bool) (r : am_M) : Prop :=
  plainFor r.1.1 = true ∧ (∀ q ∈ r.2.1, am_dc r.1.2.1 q = true) ∧ (∀ q ∈ r.2.1, am_ex Y E T r.1.1 r.1.2.2.2.1 r.1.2.1 q.1 q.2) ∧ am_rows Y xs r.1.1.cls r.1.2.2.2.2 r.2.2
def am_Iz : am_I := (⟨"", "", ""⟩, ⟨#[]⟩, 0, none, [])
def am_Tof (tab : Nat → Option am_M) (M : Nat) : am_I := match tab M with
  | some r => r.1
  | none => am_Iz
def am_Pof (tab : Nat → Option am_M) : am_P := (fun M pc => match tab M with
  | some r => am_lk r.2.1 pc
  | none => none, fun M => (am_Tof tab M).2.2.1, fun M => match tab M with
  | some r => r.2.2
  | none => [])
theorem am_world {Y : am_Y} {G : am_G} {l : Launch} {tab : Nat → Option am_M} (h0 : am_w0 Y G) (h1 : l.flags = flags0) (h2 : l.stackTraces = false) (h3 : am_K Y Y.s0) (h4 : ∃ a : Array Value, ∀ w ∈ lw_tbl, w.before a Y.s0 = true)
    (h5 : ∀ M r, tab M = some r → am_rok Y G.2.2.1 (am_Tof tab) G.2.2.2 r) : am_w1 Y (am_Pof tab) G (am_Tof tab) l := by
  refine ⟨h0, h1, h2, h3, h4, fun M => rfl, fun M pc e h => ?_⟩
  have hP : (am_Pof tab).1 M pc = match tab M with
    | some r => am_lk r.2.1 pc
    | none => none := rfl
  rw [hP] at h
  have hT : am_Tof tab M = match tab M with
    | some r => r.1
    | none => am_Iz := rfl
  have hH : (am_Pof tab).2.2 M = match tab M with
    | some r => r.2.2
    | none => [] := rfl
  cases hr : tab M with
  | none => rw [hr] at h; cases h
  | some r =>
    rw [hr] at h hT hH
    dsimp only at h hT hH
    obtain ⟨g1, g2, g3, g4⟩ := h5 M r hr
    have hm := am_lk_mem h
    rw [hT, hH]
    exact ⟨g1, am_ev_of (g2 _ hm) (g3 _ hm), g4⟩
/-! small helpers of the printed evidence -/
theorem am_wa {w : Cond} (i : Nat) (h : am_wd i = some w) (g : goodWord w = true) : w ∈ lw_all := List.mem_filter.mpr ⟨am_wd_mem h, g⟩
theorem am_wv {w : Cond} (i : Nat) (h : am_wd i = some w) : w ∈ lw_tbl := am_wd_mem h
theorem am_fc {P : Nat → Prop} {k : Nat} {l : List Nat} (h : P k) (t : ∀ j ∈ l, P j) : ∀ j ∈ k :: l, P j := List.forall_mem_cons.mpr ⟨h, t⟩
theorem am_vt_nil {P : Nat → Nat → Prop} : ∀ k M, am_vt k [] = some M → P k M := fun _ _ h => by cases h
theorem am_vc {P : Nat → Nat → Prop} {a b : Nat} {r : List Nat} (h : P a b) (t : ∀ k M, am_vt k r = some M → P k M) : ∀ k M, am_vt k (a :: b :: r) = some M → P k M := fun k M hk => by
  unfold am_vt at hk
  split at hk
  · rename_i e
    cases hk
    rw [← e]; exact h
  · exact t k M hk
def am_tyb : u_T → Nat → List Nat → Bool
  | _, _, [] => true
  | T, j, t :: ts => decide ((parseFieldDescriptor (T j).2.2.1).map defaultValue = some (am_df t)) && am_tyb T (j + 1) ts
theorem am_tyb_spec : ∀ (ts : List Nat) (T : u_T) (j0 : Nat), am_tyb T j0 ts = true → ∀ j t, ts[j]? = some t → (parseFieldDescriptor (T (j0 + j)).2.2.1).map defaultValue = some (am_df t)
  | [], _, _, _, j, t, h => by simp at h
  | t0 :: ts, T, j0, hb, j, t, h => by
    unfold am_tyb at hb
    rw [Bool.and_eq_true] at hb
    cases j with
    | zero =>
      simp at h
      subst h
      exact of_decide_eq_true hb.1
    | succ j =>
      simp at h
      have := am_tyb_spec ts T (j0 + 1) hb.2 j t h
      rwa [Nat.add_right_comm] at this
theorem am_tys (T : u_T) (ts : List Nat) (h : am_tyb T 0 ts = true) : ∀ j t, ts[j]? = some t → (parseFieldDescriptor (T j).2.2.1).map defaultValue = some (am_df t) := fun j t hj => by
  have := am_tyb_spec ts T 0 h j t hj
  rwa [Nat.zero_add] at this
theorem am_al {P : Nat × am_E → Prop} {q : Nat × am_E} {l : List (Nat × am_E)} (h : P q) (t : ∀ q ∈ l, P q) : ∀ q' ∈ q :: l, P q' := List.forall_mem_cons.mpr ⟨h, t⟩
theorem am_al0 {P : Nat × am_E → Prop} : ∀ q ∈ ([] : List (Nat × am_E)), P q := fun _ h => absurd h List.not_mem_nil
