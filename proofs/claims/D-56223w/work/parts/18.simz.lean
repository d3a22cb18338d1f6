/-! THE SIMULATION: what an abstract run says, the machine does -/
set_option maxRecDepth 100000
/-- what holds of the world: the tables of the code beside all else -/
def am_w1 (Y : am_Y) (P : am_P) (G : am_G) (T : Nat → am_I) (l : Launch) : Prop := am_w0 Y G ∧ l.flags = flags0 ∧ l.stackTraces = false ∧ am_K Y Y.s0 ∧ (∃ a : Array Value, ∀ w ∈ lw_tbl, w.before a Y.s0 = true) ∧
  (∀ M, P.2.1 M = (T M).2.2.1) ∧
  ∀ M pc e, P.1 M pc = some e → plainFor (T M).1 = true ∧ am_ev Y G.2.2.1 T (T M).1 (T M).2.2.2.1 (T M).2.1 pc e ∧ am_rows Y G.2.2.2 (T M).1.cls (T M).2.2.2.2 (P.2.2 M)
section AMZ
variable {Y : am_Y} {P : am_P} {G : am_G} {T : Nat → am_I} {l : Launch}
theorem am_run_ext : ∀ (n d M pc : Nat) (ls st : List Value) (H : am_H) (out : am_O) (Hf : am_H), am_run P G n d M pc ls st H = some (out, Hf) → am_ext H Hf
  | 0, _, _, _, _, _, _, _, _, h => by cases h
  | n + 1, d, M, pc, ls, st, H, out, Hf, h => by
    unfold am_run at h
    cases hp : P.1 M pc with
    | none => rw [hp] at h; cases h
    | some e =>
      rw [hp] at h
      dsimp only at h
      have thr : ∀ (a : Nat) (H1 : am_H), (match H1.1 a with
        | none => none
        | some (k, _) => match am_hnd G.2.2.2 pc k (P.2.2 M) with
          | some (some h) => am_run P G n d M h ls [.ref a] H1
          | some none => if G.2.1 ≤ a then some ((.error a : am_O), H1) else none
          | none => none) = some (out, Hf) → am_ext H1 Hf := by
        intro a H1 ht
        split at ht
        · cases ht
        · split at ht
          · exact am_run_ext n d M _ _ _ _ _ _ ht
          · split at ht
            · cases ht; exact am_ext_rfl _
            · cases ht
          · cases ht
      split at h
      · cases h
      · rename_i pc' ls' st' H' hs
        exact (am_step_inv hs).2.trans (am_run_ext n d M _ _ _ _ _ _ h)
      · split at h
        · cases h
        · split at h
          · split at h
            · cases h
            · rename_i hr
              exact (am_run_ext n _ _ _ _ _ _ _ _ hr).trans (am_run_ext n _ _ _ _ _ _ _ _ h)
            · rename_i hr
              exact (am_run_ext n _ _ _ _ _ _ _ _ hr).trans (thr _ _ h)
          · cases h
      · cases h; exact am_ext_rfl _
      · exact thr _ _ h
theorem am_lvargs : ∀ (as : List Value) (k i : Nat) (v : Value), (∀ w ∈ as, am_is2 w = false) → as[i]? = some v → (k + i, v) ∈ lv_args k as
  | [], _, _, _, _, h => by simp at h
  | w :: as, k, 0, v, _, h => by
    simp at h
    subst h
    exact List.mem_cons_self
  | w :: as, k, i + 1, v, hc, h => by
    simp at h
    have h1 := am_lvargs as (k + 1) i v (fun w' hw' => hc w' (List.mem_cons_of_mem _ hw')) h
    unfold lv_args
    rw [if_neg (by rw [am_cat (hc w List.mem_cons_self)]; decide)]
    have e : k + (i + 1) = k + 1 + i := by omega
    rw [e]
    exact List.mem_cons_of_mem _ h1
theorem am_lgsl : ∀ (as : List Value), (∀ w ∈ as, am_is2 w = false) → (lg_sl as).length = as.length
  | [], _ => rfl
  | w :: as, hc => by
    have h1 := am_lgsl as (fun w' hw' => hc w' (List.mem_cons_of_mem _ hw'))
    unfold lg_sl at h1 ⊢
    rw [List.flatMap_cons, if_neg (by rw [am_cat (hc w List.mem_cons_self)]; decide), List.length_append, h1]
    simp [Nat.add_comm]
/-- the locals at a method's entry -/
theorem am_L_ent {as : List Value} {L : Nat} (hc : ∀ w ∈ as, am_is2 w = false) (hL : as.length ≤ L) : am_L ((lg_sl as ++ List.replicate (L - (lg_sl as).length) Slot.unset).toArray) (am_ent L as) := by
  have h0 := am_lgsl as hc
  refine am_L_of (lv_entry as (n := L) (by omega)) ?_ ?_
  · unfold am_ent
    rw [List.length_append, List.length_replicate]
    omega
  · intro i v hi hv
    unfold am_ent at hi
    by_cases h : i < as.length
    · rw [List.getElem?_append_left h] at hi
      have := am_lvargs as 0 i v hc hi
      rwa [Nat.zero_add] at this
    · rw [List.getElem?_append_right (by omega), List.getElem?_replicate] at hi
      split at hi
      · cases hi; exact absurd rfl hv
      · cases hi
def am_dp (X : am_X) (d : Nat) : Prop := d + 8 ≤ X.R.frames ∧ 64 * (d + 8) ≤ X.R.locals
theorem am_mx_of (hw : am_w1 Y P G T l) {M d m : Nat} {as : List Value} {H Hf : am_H} {out : am_O} (hpf : plainFor (T M).1 = true) (hEC : am_EC (T M) m) (hcat : ∀ v ∈ as, am_is2 v = false) (hlen : as.length ≤ (T M).2.2.1) (hext : am_ext H Hf)
    (h : ∀ X : am_X, X.l = l → am_A Y X (T M).1 (T M).2.1 → am_B X (T M).2.2.1 (T M).2.2.2.1 (T M).2.2.2.2 → am_room X H → am_room X Hf → am_dp X d → am_End Y X out Hf → am_W Y X 0 (am_ent (T M).2.2.1 as) [] H) : am_MX Y l (T M) d as H out Hf := by
  refine MetFree.of_bodySF (code := (T M).2.1) (maxLocals := (T M).2.2.1) (ret := (T M).2.2.2.1) hpf ?_ ?_
  · intro args s m h hn
    obtain ⟨mk, meth, c, h1, h2, h3, h4, h5, h6, h7, -⟩ := am_cw_spec (atoms_spec (ws := [am_cw (T M)]) h _ List.mem_cons_self)
    cases hn.symm.trans h1
    exact ⟨meth, c, h2, h3, h4, h5, h6, h7⟩
  · intro p e s m args below meth c s₁ B hml hP _
    obtain ⟨rfl, hW, hR⟩ := hP
    have hh0 : s₁.heap = s.heap := by rw [B.state]; rfl
    have ht : c.exceptionTable.toList.map (fun h => (h.startPc, h.endPc, h.handlerPc, h.catchType)) = (T M).2.2.2.2 := by
      obtain ⟨mk, meth9, c9, h1, h2, h3, h4, h5, h6, h7, h8, -⟩ := am_cw_spec (atoms_spec (ws := [am_cw (T M)]) B.pre _ List.mem_cons_self)
      cases B.named.symm.trans h1
      cases Option.some.inj (h2.symm.trans B.method)
      cases Option.some.inj (h3.symm.trans (Stand.of_body B).code)
      exact h8
    obtain ⟨hw0, hfl, hst, hK, hT, hPL, -⟩ := hw
    let X : am_X := (p, l, e, am_rm d H Hf, s, m, as.toArray, below, meth, c, (H.2.1, H.2.2), fun t => ∃ o, t.status = .running ∧ Ended t below o ∧ am_QX Y s out Hf (Hf.2.1 - H.2.1) (Hf.2.2 - H.2.2) o t)
    have hA : am_A Y X (T M).1 (T M).2.1 := ⟨B.exec, B.bytes, findClass_of_methodNamed B.named, (name_of_methodNamed B.named B.method).1, hW, am_K.moved hW.alike hK, hfl, (by
      obtain ⟨a, h0⟩ := hT
      exact fun w hw' => am_good hw' (h0 w (lw_all_tbl hw')) hW), hT, hR.1, (by have := hR.2.1; rw [hR.1] at this; exact this), hR.2.2.1⟩
    have hB : am_B X (T M).2.2.1 (T M).2.2.2.1 (T M).2.2.2.2 := ⟨hml, B.returns, B.notSynchronized, ht⟩
    have hr1 : am_room X H := ⟨Nat.le_refl _, Nat.le_refl _, by show H.2.1 - H.2.1 ≤ _; rw [Nat.sub_self]; exact Nat.zero_le _, by show H.2.2 - H.2.2 ≤ _; rw [Nat.sub_self]; exact Nat.zero_le _⟩
    have hr2 : am_room X Hf := ⟨hext.1, hext.2, Nat.le_refl _, Nat.le_refl _⟩
    have k := h X rfl hA hB hr1 hr2 ⟨Nat.le_refl _, Nat.le_refl _⟩ (fun t ht => ht) s.heap _ [] hR (am_L_ent hcat hlen) (fun z hz => by cases hz)
    have e1 : H.2.1 - X.z = 0 := Nat.sub_self _
    have e2 : H.2.2 - X.u = 0 := Nat.sub_self _
    rw [e1, e2] at k
    rw [lg_entry_eq m as (T M).2.2.1]
    obtain ⟨t, a1, o, b1, b2, b3⟩ := k s₁ hh0 (Stand.of_body B)
    exact ⟨t, o, a1, b1, b2, b3⟩
set_option maxHeartbeats 1000000 in
theorem am_sim (hw : am_w1 Y P G T l) : ∀ (n d M pc : Nat) (ls st : List Value) (H : am_H) (out : am_O) (Hf : am_H), am_run P G n d M pc ls st H = some (out, Hf) →
    ∀ X : am_X, X.l = l → am_A Y X (T M).1 (T M).2.1 → am_B X (T M).2.2.1 (T M).2.2.2.1 (T M).2.2.2.2 → ls.length = (T M).2.2.1 → am_room X H → am_room X Hf → am_dp X d → am_End Y X out Hf → am_W Y X pc ls st H
  | 0, _, _, _, _, _, _, _, _, h => by cases h
  | n + 1, d, M, pc, ls, st, H, out, Hf, h => by
    intro X hl hA hB hLen hr1 hr2 hD hE
    have hExt := am_run_ext _ _ _ _ _ _ _ _ _ h
    unfold am_run at h
    cases hp : P.1 M pc with
    | none => rw [hp] at h; cases h
    | some e =>
      rw [hp] at h
      dsimp only at h
      obtain ⟨hpf, hev, hrows⟩ := hw.2.2.2.2.2.2 M pc e hp
      have hBg : am_big X := ⟨by have := hD.1; omega, by have := hD.2; omega⟩
      have hlS : X.l.stackTraces = false := by rw [hl]; exact hw.2.2.1
      have mid : ∀ H1 : am_H, am_ext H H1 → am_ext H1 Hf → am_room X H1 := by
        intro H1 e1 e2
        obtain ⟨a1, a2, a3, a4⟩ := hr1
        obtain ⟨b1, b2, b3, b4⟩ := hr2
        have := e1.1; have := e1.2; have := e2.1; have := e2.2
        exact ⟨by omega, by omega, by omega, by omega⟩
      have thr : ∀ (a : Nat) (H1 : am_H), am_ext H H1 → (match H1.1 a with
        | none => none
        | some (k, _) => match am_hnd G.2.2.2 pc k (P.2.2 M) with
          | some (some h) => am_run P G n d M h ls [.ref a] H1
          | some none => if G.2.1 ≤ a then some ((.error a : am_O), H1) else none
          | none => none) = some (out, Hf) → am_V Y X pc ls a H1 := by
        intro a H1 he1 ht
        split at ht
        · cases ht
        · rename_i k vs hk
          split at ht
          · rename_i h0 hh
            have he2 := am_run_ext _ _ _ _ _ _ _ _ _ ht
            exact am_so_catch hA hB hrows hk hh (am_sim hw n d M _ _ _ _ _ _ ht X hl hA hB hLen (mid _ he1 he2) hr2 hD hE)
          · rename_i hh
            split at ht
            · rename_i hb
              cases ht
              rw [hw.1.2.2.2.1] at hb
              exact am_so_out hA hB hrows hk hb hh hE
            · cases ht
          · cases ht
      split at h
      · cases h
      · rename_i pc' ls' st' H' hs
        have hi := am_step_inv hs
        have he2 := am_run_ext _ _ _ _ _ _ _ _ _ h
        have hm := mid _ hi.2 he2
        exact am_so_nx hw.1 hA hB hLen hBg hlS hev hr1 hm hs (am_sim hw n d M _ _ _ _ _ _ h X hl hA hB (hi.1.trans hLen) hm hr2 hD hE)
      · rename_i M' as rest hs
        obtain ⟨⟨m, hEC⟩, hcat, hcall⟩ := am_so_cl hA hB hLen hev hs
        split at h
        · cases h
        · rename_i d'
          split at h
          · rename_i hlen
            have hlen' : as.length ≤ (T M').2.2.1 := by rw [← hw.2.2.2.2.2.1]; exact hlen
            have hMX : ∀ (o1 : am_O) (H1 : am_H), am_run P G n d' M' 0 (am_ent (P.2.1 M') as) [] H = some (o1, H1) → am_MX Y X.l (T M') d' as H o1 H1 := by
              intro o1 H1 hr
              have hpf' : plainFor (T M').1 = true := by
                cases n with
                | zero => cases hr
                | succ n' =>
                  unfold am_run at hr
                  cases hp' : P.1 M' 0 with
                  | none => rw [hp'] at hr; cases hr
                  | some e' => exact (hw.2.2.2.2.2.2 M' 0 e' hp').1
              rw [hl]
              rw [hw.2.2.2.2.2.1] at hr
              refine am_mx_of hw hpf' hEC hcat hlen' (am_run_ext _ _ _ _ _ _ _ _ _ hr) (fun X' g1 g2 g3 g4 g5 g6 g7 => ?_)
              refine am_sim hw n d' M' _ _ _ _ _ _ hr X' g1 g2 g3 ?_ g4 g5 g6 g7
              unfold am_ent
              rw [List.length_append, List.length_replicate]
              omega
            have hDp : am_deep X d' := ⟨by have := hD.1; omega, by have := hD.2; omega⟩
            split at h
            · cases h
            · rename_i v H1 hr
              have he1 := am_run_ext _ _ _ _ _ _ _ _ _ hr
              have he2 := am_run_ext _ _ _ _ _ _ _ _ _ h
              have hm := mid _ he1 he2
              exact hcall d' _ _ (hMX _ _ hr) hDp he1 hr1 hm (am_sim hw n (d' + 1) M _ _ _ _ _ _ h X hl hA hB hLen hm hr2 hD hE)
            · rename_i a H1 hr
              have he1 := am_run_ext _ _ _ _ _ _ _ _ _ hr
              have he2 : am_ext H1 Hf := by
                split at h
                · cases h
                · split at h
                  · exact am_run_ext _ _ _ _ _ _ _ _ _ h
                  · split at h
                    · cases h; exact am_ext_rfl _
                    · cases h
                  · cases h
              have hm := mid _ he1 he2
              exact hcall d' _ _ (hMX _ _ hr) hDp he1 hr1 hm (thr _ _ he1 h)
          · cases h
      · rename_i v hs
        cases h
        exact am_so_rt hA hB hev hs hE
      · rename_i a hs
        exact am_so_th hA hev hs (thr _ _ (am_ext_rfl _) h)
/-- a method's contract out of an abstract run -/
theorem am_met (hw : am_w1 Y P G T l) {n d M m : Nat} {as : List Value} {H Hf : am_H} {out : am_O} (hEC : am_EC (T M) m) (hcat : ∀ v ∈ as, am_is2 v = false) (hlen : as.length ≤ (T M).2.2.1) (hr : am_run P G n d M 0 (am_ent (T M).2.2.1 as) [] H = some (out, Hf)) : am_MX Y l (T M) d as H out Hf := by
  have hpf : plainFor (T M).1 = true := by
    cases n with
    | zero => cases hr
    | succ n' =>
      have hr' := hr
      unfold am_run at hr'
      cases hp' : P.1 M 0 with
      | none => rw [hp'] at hr'; cases hr'
      | some e' => exact (hw.2.2.2.2.2.2 M 0 e' hp').1
  refine am_mx_of hw hpf hEC hcat hlen (am_run_ext _ _ _ _ _ _ _ _ _ hr) (fun X' g1 g2 g3 g4 g5 g6 g7 => ?_)
  refine am_sim hw n d M _ _ _ _ _ _ hr X' g1 g2 g3 ?_ g4 g5 g6 g7
  unfold am_ent
  rw [List.length_append, List.length_replicate]
  omega
end AMZ
