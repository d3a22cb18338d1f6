set_option maxRecDepth 100000
/-! handlers -/
theorem am_covers {x : ExceptionTableEntry} {pc : Nat} : covers x pc = true ↔ x.startPc ≤ pc ∧ pc < x.endPc := by
  unfold covers
  simp
def am_row (Y : am_Y) (xs : Nat → Nat → Option Bool) (own : String) (w r : Nat × Nat × Nat × Nat) : Prop := w.1 = r.1 ∧ w.2.1 = r.2.1 ∧ w.2.2.1 = r.2.2.1 ∧
  ((w.2.2.2 = 0 ∧ r.2.2.2 = 999) ∨ (w.2.2.2 ≠ 0 ∧ r.2.2.2 ≠ 999 ∧ ∃ nm, Cond.classLink own w.2.2.2 nm ∈ lw_all ∧ ∀ k b, xs k r.2.2.2 = some b → ∃ rk, Y.cl[k]? = some rk ∧ k < 1000 ∧ ((b = true ∧ (rk.1 = nm ∨ Cond.castable rk.1 nm ∈ lw_tbl)) ∨ (b = false ∧ va_Nc rk.1 nm Y.s0))) ∨ (r.2.2.2 ≠ 999 ∧ ∀ k, xs k r.2.2.2 = none))
def am_rows (Y : am_Y) (xs : Nat → Nat → Option Bool) (own : String) : List (Nat × Nat × Nat × Nat) → List (Nat × Nat × Nat × Nat) → Prop
  | [], [] => True
  | w :: ws, r :: rs => am_row Y xs own w r ∧ am_rows Y xs own ws rs
  | _, _ => False
section AMH
variable {Y : am_Y} {X : am_X} {y : MethodName} {cc : ByteArray} {pc : Nat} {ls : List Value} {H : am_H} {xs : Nat → Nat → Option Bool}
theorem am_rowP (hA : am_A Y X y cc) {e : Env} (hpl : e.platform.magicAccessors = ({} : Platform).magicAccessors) {a k : Nat} {vs : List Value} {x : Cell} (hc : am_cell Y a (k, vs) x) {z : ExceptionTableEntry} {r : Nat × Nat × Nat × Nat} (hr : am_row Y xs y.cls (z.startPc, z.endPc, z.handlerPc, z.catchType) r)
    (hf : ¬ (r.1 ≤ pc ∧ pc < r.2.1) ∨ (r.2.2.2 ≠ 999 ∧ xs k r.2.2.2 = some false)) : RowPassed e.platform X.s X.m.cls pc x.cls z := by
  obtain ⟨h1, h2, h3, h4⟩ := hr
  dsimp only at h1 h2 h3 h4
  rcases hf with hf | ⟨h9, hf⟩
  · refine Or.inl ?_
    cases hcv : covers z pc with
    | false => rfl
    | true =>
      have := am_covers.mp hcv
      rw [h1, h2] at this
      exact absurd this hf
  · rcases h4 with ⟨-, h4⟩ | ⟨h0, -, nm, hlk, hx⟩ | h4
    · exact absurd h4 h9
    rotate_left
    · rw [h4.2 k] at hf; cases hf
    · obtain ⟨rk, hrk, hlt, hb⟩ := hx k false hf
      rcases hb with ⟨hb, -⟩ | ⟨-, hn⟩
      · cases hb
      · obtain ⟨c6, hc6, hcl6⟩ := Cond.classLink_spec hA.2.2.1 (hA.2.2.2.2.2.2.2.1 _ hlk) e.platform hpl
        obtain ⟨a8, b8, g1, g2, g3⟩ := va_Nc.moved hA.2.2.2.2.1.alike hn
        cases Option.some.inj (g2.symm.trans hc6)
        refine Or.inr ⟨h0, _, hcl6, ?_⟩
        rcases hc.2.2.2 with ⟨-, hcl, -⟩ | ⟨hge, -⟩
        · have hfc := (hA.2.2.2.2.2.1.1 k rk hrk).2.1
          rw [hcl, Option.some.inj (hfc.symm.trans g1)]
          exact g3
        · dsimp only at hge; omega
theorem am_rowC (hA : am_A Y X y cc) {e : Env} (hpl : e.platform.magicAccessors = ({} : Platform).magicAccessors) {a k : Nat} {vs : List Value} {x : Cell} (hc : am_cell Y a (k, vs) x) {z : ExceptionTableEntry} {r : Nat × Nat × Nat × Nat} (hr : am_row Y xs y.cls (z.startPc, z.endPc, z.handlerPc, z.catchType) r)
    (hf : r.2.2.2 = 999 ∨ xs k r.2.2.2 = some true) : RowCatches e.platform X.s X.m.cls x.cls z := by
  obtain ⟨h1, h2, h3, h4⟩ := hr
  dsimp only at h1 h2 h3 h4
  rcases h4 with ⟨h0, -⟩ | ⟨h0, h9, nm, hlk, hx⟩ | h4
  · exact Or.inl h0
  rotate_left
  · have hf := hf.resolve_left h4.1
    rw [h4.2 k] at hf; cases hf
  · have hf := hf.resolve_left h9
    obtain ⟨rk, hrk, hlt, hb⟩ := hx k true hf
    rcases hb with ⟨-, hb⟩ | ⟨hb, -⟩
    · obtain ⟨c6, hc6, hcl6⟩ := Cond.classLink_spec hA.2.2.1 (hA.2.2.2.2.2.2.2.1 _ hlk) e.platform hpl
      have hcls := hA.2.2.2.2.2.1.1 k rk hrk
      refine Or.inr ⟨h0, _, hcl6, ?_⟩
      rcases hc.2.2.2 with ⟨-, hcl, -⟩ | ⟨hge, -⟩
      · rw [hcl]
        rcases hb with rfl | hw
        · rw [Option.some.inj (hc6.symm.trans hcls.2.1)]
          exact va_assign hcls.2
        · obtain ⟨c0, t0, f1, f2, f3⟩ := Cond.castable_spec (am_castW hA hw)
          cases hcls.2.1.symm.trans f1
          cases hc6.symm.trans f2
          exact f3
      · dsimp only at hge; omega
    · cases hb
theorem am_hnd_none (hA : am_A Y X y cc) {e : Env} (hpl : e.platform.magicAccessors = ({} : Platform).magicAccessors) {a k : Nat} {vs : List Value} {x : Cell} (hc : am_cell Y a (k, vs) x) : ∀ (tb : List ExceptionTableEntry) (hs : List (Nat × Nat × Nat × Nat)), am_rows Y xs y.cls (tb.map fun h => (h.startPc, h.endPc, h.handlerPc, h.catchType)) hs → am_hnd xs pc k hs = some none → ∀ z ∈ tb, RowPassed e.platform X.s X.m.cls pc x.cls z
  | [], _, _, _ => fun z h => by cases h
  | z :: tb, [], h, _ => by cases h
  | z :: tb, r :: hs, h, hh => by
    obtain ⟨h1, h2⟩ := h
    obtain ⟨f, t, hp, c⟩ := r
    unfold am_hnd at hh
    have key : am_hnd xs pc k hs = some none ∧ (¬ (f ≤ pc ∧ pc < t) ∨ (c ≠ 999 ∧ xs k c = some false)) := by
      by_cases hcv : f ≤ pc ∧ pc < t
      · rw [if_pos hcv] at hh
        by_cases h9 : c = 999
        · rw [if_pos h9] at hh; cases hh
        · rw [if_neg h9] at hh
          cases hx : xs k c with
          | none => rw [hx] at hh; cases hh
          | some b =>
            rw [hx] at hh
            cases b with
            | true => cases hh
            | false => exact ⟨hh, Or.inr ⟨h9, rfl⟩⟩
      · rw [if_neg hcv] at hh
        exact ⟨hh, Or.inl hcv⟩
    intro w hw
    rcases List.mem_cons.mp hw with rfl | hw
    · exact am_rowP hA hpl hc h1 key.2
    · exact am_hnd_none hA hpl hc tb hs h2 key.1 w hw
theorem am_hnd_some (hA : am_A Y X y cc) {e : Env} (hpl : e.platform.magicAccessors = ({} : Platform).magicAccessors) {a k h0 : Nat} {vs : List Value} {x : Cell} (hc : am_cell Y a (k, vs) x) : ∀ (tb : List ExceptionTableEntry) (hs : List (Nat × Nat × Nat × Nat)), am_rows Y xs y.cls (tb.map fun h => (h.startPc, h.endPc, h.handlerPc, h.catchType)) hs → am_hnd xs pc k hs = some (some h0) →
    ∃ pre z suf, tb = pre ++ z :: suf ∧ (∀ w ∈ pre, RowPassed e.platform X.s X.m.cls pc x.cls w) ∧ covers z pc = true ∧ RowCatches e.platform X.s X.m.cls x.cls z ∧ z.handlerPc = h0
  | [], [], _, hh => by cases hh
  | [], _ :: _, h, _ => by cases h
  | z :: tb, [], h, _ => by cases h
  | z :: tb, r :: hs, h, hh => by
    obtain ⟨h1, h2⟩ := h
    obtain ⟨f, t, hp, c⟩ := r
    unfold am_hnd at hh
    have rest : am_hnd xs pc k hs = some (some h0) → (¬ (f ≤ pc ∧ pc < t) ∨ (c ≠ 999 ∧ xs k c = some false)) → ∃ pre z' suf, z :: tb = pre ++ z' :: suf ∧ (∀ w ∈ pre, RowPassed e.platform X.s X.m.cls pc x.cls w) ∧ covers z' pc = true ∧ RowCatches e.platform X.s X.m.cls x.cls z' ∧ z'.handlerPc = h0 := by
      intro g1 g2
      obtain ⟨pre, z', suf, e1, e2, e3, e4, e5⟩ := am_hnd_some hA hpl hc tb hs h2 g1
      refine ⟨z :: pre, z', suf, by rw [e1]; rfl, fun w hw => ?_, e3, e4, e5⟩
      rcases List.mem_cons.mp hw with rfl | hw
      · exact am_rowP hA hpl hc h1 g2
      · exact e2 w hw
    by_cases hcv : f ≤ pc ∧ pc < t
    · rw [if_pos hcv] at hh
      have hcv' : covers z pc = true := am_covers.mpr (by
        obtain ⟨e1, e2, -⟩ := h1
        dsimp only at e1 e2
        rw [e1, e2]; exact hcv)
      by_cases h9 : c = 999
      · rw [if_pos h9] at hh
        cases hh
        exact ⟨[], z, tb, rfl, (fun w hw => by cases hw), hcv', am_rowC hA hpl hc h1 (Or.inl h9), h1.2.2.1⟩
      · rw [if_neg h9] at hh
        cases hx : xs k c with
        | none => rw [hx] at hh; cases hh
        | some b =>
          rw [hx] at hh
          cases b with
          | true =>
            cases hh
            exact ⟨[], z, tb, rfl, (fun w hw => by cases hw), hcv', am_rowC hA hpl hc h1 (Or.inr hx), h1.2.2.1⟩
          | false => exact rest hh (Or.inr ⟨h9, hx⟩)
    · rw [if_neg hcv] at hh
      exact rest hh (Or.inl hcv)
/-- an exception is caught here -/
theorem am_so_catch (hA : am_A Y X y cc) {L : Nat} {ret : Option FieldType} {hh hs : List (Nat × Nat × Nat × Nat)} (hB : am_B X L ret hh) (hrs : am_rows Y xs y.cls hh hs) {q k h0 : Nat} {vs : List Value} (hq : H.1 q = some (k, vs)) (hn : am_hnd xs pc k hs = some (some h0)) (kk : am_W Y X h0 ls [.ref q] H) : am_V Y X pc ls q H := by
  intro Hm lsA locs rest hR hL hl T hT S
  have hpl : X.e.platform.magicAccessors = ({} : Platform).magicAccessors := by rw [S.admits.platform]
  obtain ⟨x, hx, hc⟩ := hR.2.2.2 q _ hq
  rw [← hB.2.2.2] at hrs
  obtain ⟨pre, z, suf, e1, e2, e3, e4, e5⟩ := am_hnd_some hA hpl hc _ _ hrs hn
  obtain ⟨vm', S', st⟩ := S.thenCaughtThrough q (g := F0 X.m pc lsA rest) rfl (Steps.refl _) (by rw [hT]; exact hx) hc.2.1 (by
    rcases hc.2.2.2 with ⟨-, hcl, r, hr, -⟩ | ⟨-, hty, hcl, -⟩
    · obtain ⟨-, -, kB, hkB, -⟩ := hA.2.2.2.2.2.1.1 k r hr
      exact ⟨kB, by rw [hcl]; exact hkB⟩
    · obtain ⟨ty, hty⟩ := Option.isSome_iff_exists.mp hty
      obtain ⟨-, kA, hk, -⟩ := (hA.2.2.2.2.2.1.2 _ ty hty).1 0 (fun _ => .null)
      exact ⟨kA, by rw [hcl]; exact hk⟩) pre z suf e1 e2 e3 e4
  have h := kk Hm lsA locs hR hL hl
  rw [← e5] at h
  obtain ⟨t, a1, b1⟩ := h (T.setVm vm') hT S'
  exact ⟨t, st.trans a1, b1⟩
/-- an exception leaves the method -/
theorem am_so_out (hA : am_A Y X y cc) {L : Nat} {ret : Option FieldType} {hh hs : List (Nat × Nat × Nat × Nat)} (hB : am_B X L ret hh) (hrs : am_rows Y xs y.cls hh hs) {q k : Nat} {vs : List Value} (hq : H.1 q = some (k, vs)) (hb : Y.base ≤ q) (hn : am_hnd xs pc k hs = some none) (hE : am_End Y X (.error q) H) : am_V Y X pc ls q H := by
  intro Hm lsA locs rest hR hL hl T hT S
  have hpl : X.e.platform.magicAccessors = ({} : Platform).magicAccessors := by rw [S.admits.platform]
  obtain ⟨x, hx, hc⟩ := hR.2.2.2 q _ hq
  rw [← hB.2.2.2] at hrs
  have hpass := am_hnd_none hA hpl hc _ _ hrs hn
  obtain ⟨vm', hW', S', st⟩ := S.outThrough hB.2.2.1 q (g := F0 X.m pc lsA rest) rfl rfl rfl (cell := x) (by rw [hT]; exact hx) hc.2.1 (by
    rcases hc.2.2.2 with ⟨-, hcl, r, hr, -⟩ | ⟨-, hty, hcl, -⟩
    · obtain ⟨-, -, kB, hkB, -⟩ := hA.2.2.2.2.2.1.1 k r hr
      exact ⟨kB, by rw [hcl]; exact hkB⟩
    · obtain ⟨ty, hty⟩ := Option.isSome_iff_exists.mp hty
      obtain ⟨-, kA, hk, -⟩ := (hA.2.2.2.2.2.1.2 _ ty hty).1 0 (fun _ => .null)
      exact ⟨kA, by rw [hcl]; exact hk⟩) hpass
  obtain ⟨g₀, hfr⟩ := S'.frames_eq
  have hend : Ended ((T.setVm vm').setFrames (.throwing q :: X.below)) X.below (.threw q) := State.frames_setFrames _ (State.cur_lt_of_frames hfr)
  refine ⟨(T.setVm vm').setFrames (.throwing q :: X.below), ?_, hE _ ⟨.threw q, S'.here.running, hend, Or.inr ⟨q, x, locs, rfl, rfl, ?_, ?_, hc.2.2.1 hb, (S'.ends _).1, (S'.ends _).2, hl⟩⟩⟩
  · rw [S.pushThrowing_eq]
    exact st
  · show am_R Y H T.heap
    rw [hT]; exact hR
  · show T.heap[q]? = some x
    rw [hT]; exact hx
end AMH
