/-! calls -/
abbrev am_I : Type := MethodName × ByteArray × Nat × Option FieldType × List (Nat × Nat × Nat × Nat)
def am_cw (I : am_I) : Cond := if I.2.2.2.2 = [] then .code I.1 I.2.1 I.2.2.1 I.2.2.2.1 else .codeWith I.1 I.2.1 I.2.2.1 I.2.2.2.1 I.2.2.2.2
theorem am_cw_spec {I : am_I} {a : Array Value} {U : State} (h : (am_cw I).before a U = true) : ∃ mk meth c, U.methodNamed? I.1 = some mk ∧ U.vm.method? mk = some meth ∧ meth.code = some c ∧ c.code = I.2.1 ∧ c.maxLocals = I.2.2.1 ∧ meth.sig.returnType = I.2.2.2.1 ∧ meth.locks = false ∧ c.exceptionTable.toList.map (fun h => (h.startPc, h.endPc, h.handlerPc, h.catchType)) = I.2.2.2.2 ∧ parseMethodDescriptor I.1.desc = some meth.sig := by
  unfold am_cw at h
  by_cases hh : I.2.2.2.2 = []
  · rw [if_pos hh] at h
    obtain ⟨mk, hn⟩ := Cond.code_named h
    obtain ⟨meth, c, h1, h2, h3, h4, h5, h6, h7, h8⟩ := Cond.code_spec hn h
    exact ⟨mk, meth, c, hn, h1, h2, h3, h4, h5, h6, by rw [hh, Array.isEmpty_iff.mp h7]; rfl, h8⟩
  · rw [if_neg hh] at h
    obtain ⟨mk, meth, c, hn, h1, h2, h3, h4, h5, h6, h7, h8⟩ := Cond.codeWith_spec h
    exact ⟨mk, meth, c, hn, h1, h2, h3, h4, h6, h7, h5, h8⟩
def am_rm (d : Nat) (H Hf : am_H) : Room := { frames := d + 8, cells := Hf.2.1 - H.2.1, slots := Hf.2.2 - H.2.2, locals := 64 * (d + 8) }
def am_pre (Y : am_Y) (as : List Value) (H : am_H) : Array Value → State → Prop := fun a U => a = as.toArray ∧ Y.s0.WarmedH U.vm ∧ am_R Y H U.heap
/-- the machine's contract of one run of a method -/
def am_MX (Y : am_Y) (l : Launch) (I : am_I) (d : Nat) (as : List Value) (H : am_H) (out : am_O) (Hf : am_H) : Prop :=
  MetFree l I.1 (headSpec [am_cw I] (am_rm d H Hf)) (am_pre Y as H) (fun _ _ _ _ _ => True) (fun _ st o t => am_QX Y st out Hf (Hf.2.1 - H.2.1) (Hf.2.2 - H.2.2) o t)
def am_PreC (Y : am_Y) (R : Room) (as : List Value) (H Hf : am_H) : Pt → Array Value → Prop := fun A a => A.cells + (Hf.2.1 - H.2.1) ≤ R.cells ∧ A.slots + (Hf.2.2 - H.2.2) ≤ R.slots ∧ a = as.toArray ∧ am_R Y H A.U.heap
def am_PostC (Y : am_Y) (H : am_H) (out : am_O) (Hf : am_H) : Pt → Array Value → Option Value → Pt → Prop := fun A _ v B => out = .ok v ∧ am_R Y Hf B.U.heap ∧ (∃ L, B.locs = A.locs ++ L ∧ ∀ q ∈ L, Y.base ≤ q.base) ∧ B.cells = A.cells + (Hf.2.1 - H.2.1) ∧ B.slots = A.slots + (Hf.2.2 - H.2.2)
def am_PostX (Y : am_Y) (H : am_H) (out : am_O) (Hf : am_H) : Pt → Array Value → Addr → Pt → Prop := fun A _ q B => out = .error q ∧ am_R Y Hf B.U.heap ∧ (∃ L, B.locs = A.locs ++ L ∧ ∀ q ∈ L, Y.base ≤ q.base) ∧ B.cells = A.cells + (Hf.2.1 - H.2.1) ∧ B.slots = A.slots + (Hf.2.2 - H.2.2)
section AMB
variable {Y : am_Y} {l : Launch} {R : Room} {p : Program} {e : Env} {below : List Frame} {s : State} {sargs : Array Value} {len d : Nat} {I : am_I} {as : List Value} {H Hf : am_H} {out : am_O}
/-- (follows kit/laws EXCEPTIONS, vx_back) -/
theorem am_back (hM : am_MX Y l I d as H out Hf) (hframes : d + 8 + 1 ≤ R.frames) (hlocals : 20 + (I.2.2.1 + 11) + 64 * (d + 8) ≤ R.locals) (hW0 : Y.s0.WarmedH s.vm)
    (hcw : ∀ a' U, s.WarmedH U.vm → (am_cw I).before a' U = true) (hinit : ∀ a' U, s.WarmedH U.vm → (Cond.initialized I.1.cls).before a' U = true) :
    vx_Back l R p e below s sargs I.1 len 20 (am_PreC Y R as H Hf) (am_PostC Y H out Hf) (am_PostX Y H out Hf) := by
  intro m meth c A g ig mk a X hg hsize hdg hWt hn hp
  have h1 : (headSpec [am_cw I] (am_rm d H Hf)).pre.before a A.U = true := atoms_intro fun w hw => by
    rw [List.mem_singleton.mp hw]
    exact hcw _ _ X.warmed
  have h2 : (am_cw I).before a A.U = true := hcw _ _ X.warmed
  have h3 : (Cond.initialized I.1.cls).before a A.U = true := hinit _ _ X.warmed
  obtain ⟨hp1, hp2, hp3, hp4⟩ := hp
  have h4 : A.cells + (headSpec [am_cw I] (am_rm d H Hf)).room.cells ≤ R.cells := hp1
  have h5 : A.slots + (headSpec [am_cw I] (am_rm d H Hf)).room.slots ≤ R.slots := hp2
  have hlo : 20 + (I.2.2.1 + 11) + (headSpec [am_cw I] (am_rm d H Hf)).room.locals ≤ R.locals := hlocals
  have hPc : am_pre Y as H a (A.U.calling g mk a) := ⟨hp3, State.WarmedH.trans hW0 X.warmed, hp4⟩
  obtain ⟨U, Ls, c0, s0⟩ := A
  dsimp only [Pt.U, Pt.locs, Pt.cells, Pt.slots] at h1 h2 h3 h4 h5 X hn hPc ⊢
  obtain ⟨mk', methY, cY, hn', hmY, hcY, -, hlY, -, -, -, -⟩ := am_cw_spec h2
  cases hn.symm.trans hn'
  obtain ⟨kY, hkY, -⟩ := className_of_methodNamed hn
  have hinitY : kY.init = .initialized := Cond.initialized_spec (findClass_of_methodNamed hn) hkY h3
  have h : At U g.method c below := by rw [hg]; exact X.here
  have happ : (headSpec [am_cw I] (am_rm d H Hf)).appliesLoose I.1 e.platform (U.calling g mk a) = true :=
    Spec.appliesLoose_calling (g := g) h hdg hn hkY hinitY
      (X.room_calling (g := g) (R' := (headSpec [am_cw I] (am_rm d H Hf)).room) hsize hmY hcY hframes (by rw [hlY]; omega) h4 h5) h1
  obtain ⟨mid, hmid⟩ := h.above
  have hfr : (U.setTop g).frames = (.java g :: mid) ++ below := by rw [State.frames_setTop' g h.top, hmid]; rfl
  obtain ⟨o, s₂, hsteps, -, hend, hq⟩ := Steps.callFree hM p X.admits X.cas X.clock (acts := []) hfr happ hPc trivial
  have hq' : am_QX Y (U.calling g mk a) out Hf (Hf.2.1 - H.2.1) (Hf.2.2 - H.2.2) o s₂ := hq
  rw [State.frames_setTop' g h.top] at hend
  obtain ⟨g₀, hg0⟩ := Option.isSome_iff_exists.mp h.top
  obtain ⟨r, hr⟩ := State.topJava?_eq_some.mp hg0
  have hr' : (({ U with heap := s₂.heap, slotsUsed := s₂.slotsUsed } : State).setVm s₂.vm).frames = .java g₀ :: r := hr
  rcases hq' with ⟨v, hout, rfl, hRf, L, hfe, hL⟩ | ⟨q, ce, L, hout, rfl, hRf, hce, hcv, hW₂, hsm, hL⟩
  · obtain ⟨-, hW₂, e2, q2, q3, q4, q5, q6⟩ := id hfe
    have e3 : s₂ = ({ (U.calling g mk a).setFrames s₂.frames with heap := s₂.heap, slotsUsed := s₂.slotsUsed } : State).setVm s₂.vm := by
      have : s₂ = ({ s₂ with vm := (U.calling g mk a).vm } : State).setVm s₂.vm := rfl
      rw [e2] at this
      exact this
    obtain ⟨c₂, i₂, len₂, hc₂, hd₂, hf₂⟩ := hend
    have hW' : U.WarmedH s₂.vm := hW₂
    have hcc : c₂ = c := by
      have h1 : s₂.code? g.method = U.code? g.method := by
        rw [State.code?_eq, State.code?_eq, hW'.alike.method?]
      exact Option.some.inj (hc₂.symm.trans (h1.trans h.code))
    subst hcc
    have hlen : len₂ = len := by rw [hdg] at hd₂; cases hd₂; rfl
    subst hlen
    have hs₂ : s₂ = (({ U with heap := s₂.heap, slotsUsed := s₂.slotsUsed } : State).setVm s₂.vm).setTop { g with pc := g.pc + len₂, stack := v.toList ++ g.stack } := by
      refine e3.trans ?_
      rw [hf₂, State.calling_eq h.top, State.setFrames_setFrames, State.setTop_of_frames _ hr', hr]
      rfl
    have hsame : U.sameButNew ({ U with heap := s₂.heap, slotsUsed := s₂.slotsUsed } : State) L (Hf.2.1 - H.2.1) (Hf.2.2 - H.2.2) := by
      refine ⟨?_, q2, q3, q4, q5, q6⟩
      obtain ⟨t, ht, -⟩ := State.frames_cons hr
      show ({ U with heap := s₂.heap, slotsUsed := s₂.slotsUsed } : State) = { U.setFrames U.frames with heap := s₂.heap, slotsUsed := s₂.slotsUsed }
      rw [State.setFrames_self ht]
    subst hg
    refine Or.inl ⟨v, ⟨(({ U with heap := s₂.heap, slotsUsed := s₂.slotsUsed } : State).setVm s₂.vm), Ls ++ L, c0 + (Hf.2.1 - H.2.1), s0 + (Hf.2.2 - H.2.2)⟩,
      ⟨X.admits, X.cas, X.clock, X.frames, X.room, X.hears, X.method, X.code, (X.here.setHeapUsed s₂.heap s₂.slotsUsed).setVm hW'.alike, X.tail, State.WarmedH.trans X.warmed hW', X.limits, X.bytes, X.same.trans (hsame.setVm s.vm)⟩,
      ⟨hout, hRf, ⟨L, rfl, hL⟩, rfl, rfl⟩, ?_⟩
    show Steps p.tables e below _ ((({ U with heap := s₂.heap, slotsUsed := s₂.slotsUsed } : State).setVm s₂.vm).setTop { g with pc := g.pc + len₂, stack := v.toList ++ g.stack })
    rw [← hs₂]
    exact hsteps
  · obtain ⟨e2, q2, q3, q4, q5, q6⟩ := id hsm
    have e3 : s₂ = ({ (U.calling g mk a).setFrames s₂.frames with heap := s₂.heap, slotsUsed := s₂.slotsUsed } : State).setVm s₂.vm := by
      have : s₂ = ({ s₂ with vm := (U.calling g mk a).vm } : State).setVm s₂.vm := rfl
      rw [e2] at this
      exact this
    have hf₂ : s₂.frames = .throwing q :: .java g :: U.frames.tail := hend
    have hW' : U.WarmedH s₂.vm := hW₂
    have hs₂ : s₂ = ((({ U with heap := s₂.heap, slotsUsed := s₂.slotsUsed } : State).setVm s₂.vm).setTop g).pushFrame (.throwing q) := by
      refine e3.trans ?_
      rw [hf₂, State.calling_eq h.top, State.setFrames_setFrames, State.pushFrame, State.frames_setTop _ hr', State.setTop_of_frames _ hr', State.setFrames_setFrames, hr]
      rfl
    have hsame : U.sameButNew ({ U with heap := s₂.heap, slotsUsed := s₂.slotsUsed } : State) L (Hf.2.1 - H.2.1) (Hf.2.2 - H.2.2) := by
      refine ⟨?_, q2, q3, q4, q5, q6⟩
      obtain ⟨t, ht, -⟩ := State.frames_cons hr
      show ({ U with heap := s₂.heap, slotsUsed := s₂.slotsUsed } : State) = { U.setFrames U.frames with heap := s₂.heap, slotsUsed := s₂.slotsUsed }
      rw [State.setFrames_self ht]
    subst hg
    refine Or.inr ⟨q, ⟨(({ U with heap := s₂.heap, slotsUsed := s₂.slotsUsed } : State).setVm s₂.vm), Ls ++ L, c0 + (Hf.2.1 - H.2.1), s0 + (Hf.2.2 - H.2.2)⟩,
      ⟨X.admits, X.cas, X.clock, X.frames, X.room, X.hears, X.method, X.code, (X.here.setHeapUsed s₂.heap s₂.slotsUsed).setVm hW'.alike, X.tail, State.WarmedH.trans X.warmed hW', X.limits, X.bytes, X.same.trans (hsame.setVm s.vm)⟩,
      ⟨hout, hRf, ⟨L, rfl, hL⟩, rfl, rfl⟩, ?_⟩
    show Steps p.tables e below _ (((({ U with heap := s₂.heap, slotsUsed := s₂.slotsUsed } : State).setVm s₂.vm).setTop g).pushFrame (.throwing q))
    rw [← hs₂]
    exact hsteps
end AMB
