section AMJ
variable {Y : am_Y} {X : am_X} {y : MethodName} {cc : ByteArray} {pc n : Nat} {ls st : List Value} {H : am_H} {pc' : Nat} {ls' st' : List Value} {H' : am_H}
variable {r : am_S} {off : Int}
theorem am_jp_spec {K : Nat → Option am_S} (hs : am_jp pc off K = some r) : ∃ t : Nat, (pc : Int) + off = (t : Int) ∧ K t = some r := by
  unfold am_jp at hs
  split at hs
  · rename_i h; exact ⟨_, (Int.toNat_of_nonneg h).symm, hs⟩
  · cases hs
theorem am_so_goto (hA : am_A Y X y cc) (hd : decode cc pc = .ok (.goto off, 3)) (hs : am_goto off pc ls st H = am_nx pc' ls' st' H') (k : am_W Y X pc' ls' st' H') : am_W Y X pc ls st H := by
  obtain ⟨t, ht, e⟩ := am_jp_spec hs
  cases e
  exact fun Hm lsA locs hR hL hl => lv_goto hA.1 hA.2.1 hd ht (k Hm lsA locs hR hL hl)
theorem am_if_spec {c : ClassFile.Cond} (hs : am_if c off pc n ls st H = some r) : ∃ x t s, st = .int x :: s ∧ (pc : Int) + off = ((t : Nat) : Int) ∧ ((am_cond c x 0 = true ∧ (.inl (t, ls, s, H) : am_S) = r) ∨ (am_cond c x 0 = false ∧ (.inl (n, ls, s, H) : am_S) = r)) := by
  unfold am_if at hs
  split at hs
  · obtain ⟨t, ht, e⟩ := am_jp_spec hs
    split at e
    · rename_i h; exact ⟨_, t, _, rfl, ht, Or.inl ⟨h, Option.some.inj e⟩⟩
    · rename_i h; exact ⟨_, t, _, rfl, ht, Or.inr ⟨by simpa using h, Option.some.inj e⟩⟩
  · cases hs
theorem am_icmp_spec {c : ClassFile.Cond} (hs : am_icmp c off pc n ls st H = some r) : ∃ x y t s, st = .int y :: .int x :: s ∧ (pc : Int) + off = ((t : Nat) : Int) ∧ ((am_cond c x y = true ∧ (.inl (t, ls, s, H) : am_S) = r) ∨ (am_cond c x y = false ∧ (.inl (n, ls, s, H) : am_S) = r)) := by
  unfold am_icmp at hs
  split at hs
  · obtain ⟨t, ht, e⟩ := am_jp_spec hs
    split at e
    · rename_i h; exact ⟨_, _, t, _, rfl, ht, Or.inl ⟨h, Option.some.inj e⟩⟩
    · rename_i h; exact ⟨_, _, t, _, rfl, ht, Or.inr ⟨by simpa using h, Option.some.inj e⟩⟩
  · cases hs
theorem am_so_if (hA : am_A Y X y cc) {c : ClassFile.Cond} (hd : decode cc pc = .ok (.ifCond c off, 3)) (hs : am_if c off pc (pc + 3) ls st H = am_nx pc' ls' st' H') (k : am_W Y X pc' ls' st' H') : am_W Y X pc ls st H := by
  cases c <;> obtain ⟨x, t, s, rfl, ht, ⟨hc, e⟩ | ⟨hc, e⟩⟩ := am_if_spec hs <;> cases e
  · exact fun Hm lsA locs hR hL hl => lv_if_eq hA.1 hA.2.1 hd ht (fun _ => k Hm lsA locs hR hL hl) (fun h => absurd (of_decide_eq_true hc) h)
  · exact fun Hm lsA locs hR hL hl => lv_if_eq hA.1 hA.2.1 hd ht (fun h => absurd h (of_decide_eq_false hc)) (fun _ => k Hm lsA locs hR hL hl)
  · exact fun Hm lsA locs hR hL hl => lv_if_ne hA.1 hA.2.1 hd ht (fun _ => k Hm lsA locs hR hL hl) (fun h => absurd h (of_decide_eq_true hc))
  · exact fun Hm lsA locs hR hL hl => lv_if_ne hA.1 hA.2.1 hd ht (fun h => absurd h (of_decide_eq_false hc)) (fun _ => k Hm lsA locs hR hL hl)
  · exact fun Hm lsA locs hR hL hl => lv_if_lt hA.1 hA.2.1 hd ht (fun _ => k Hm lsA locs hR hL hl) (fun h => absurd (of_decide_eq_true hc) h)
  · exact fun Hm lsA locs hR hL hl => lv_if_lt hA.1 hA.2.1 hd ht (fun h => absurd h (of_decide_eq_false hc)) (fun _ => k Hm lsA locs hR hL hl)
  · exact fun Hm lsA locs hR hL hl => lv_if_ge hA.1 hA.2.1 hd ht (fun _ => k Hm lsA locs hR hL hl) (fun h => absurd (of_decide_eq_true hc) h)
  · exact fun Hm lsA locs hR hL hl => lv_if_ge hA.1 hA.2.1 hd ht (fun h => absurd h (of_decide_eq_false hc)) (fun _ => k Hm lsA locs hR hL hl)
  · exact fun Hm lsA locs hR hL hl => lv_if_gt hA.1 hA.2.1 hd ht (fun _ => k Hm lsA locs hR hL hl) (fun h => absurd (of_decide_eq_true hc) h)
  · exact fun Hm lsA locs hR hL hl => lv_if_gt hA.1 hA.2.1 hd ht (fun h => absurd h (of_decide_eq_false hc)) (fun _ => k Hm lsA locs hR hL hl)
  · exact fun Hm lsA locs hR hL hl => lv_if_le hA.1 hA.2.1 hd ht (fun _ => k Hm lsA locs hR hL hl) (fun h => absurd (of_decide_eq_true hc) h)
  · exact fun Hm lsA locs hR hL hl => lv_if_le hA.1 hA.2.1 hd ht (fun h => absurd h (of_decide_eq_false hc)) (fun _ => k Hm lsA locs hR hL hl)
theorem am_so_if_icmp (hA : am_A Y X y cc) {c : ClassFile.Cond} (hd : decode cc pc = .ok (.if_icmp c off, 3)) (hs : am_icmp c off pc (pc + 3) ls st H = am_nx pc' ls' st' H') (k : am_W Y X pc' ls' st' H') : am_W Y X pc ls st H := by
  cases c <;> obtain ⟨x, y, t, s, rfl, ht, ⟨hc, e⟩ | ⟨hc, e⟩⟩ := am_icmp_spec hs <;> cases e
  · exact fun Hm lsA locs hR hL hl => lv_icmp_eq hA.1 hA.2.1 hd ht (fun _ => k Hm lsA locs hR hL hl) (fun h => absurd (of_decide_eq_true hc) h)
  · exact fun Hm lsA locs hR hL hl => lv_icmp_eq hA.1 hA.2.1 hd ht (fun h => absurd h (of_decide_eq_false hc)) (fun _ => k Hm lsA locs hR hL hl)
  · exact fun Hm lsA locs hR hL hl => lv_icmp_ne hA.1 hA.2.1 hd ht (fun _ => k Hm lsA locs hR hL hl) (fun h => absurd h (of_decide_eq_true hc))
  · exact fun Hm lsA locs hR hL hl => lv_icmp_ne hA.1 hA.2.1 hd ht (fun h => absurd h (of_decide_eq_false hc)) (fun _ => k Hm lsA locs hR hL hl)
  · exact fun Hm lsA locs hR hL hl => lv_icmp_lt hA.1 hA.2.1 hd ht (fun _ => k Hm lsA locs hR hL hl) (fun h => absurd (of_decide_eq_true hc) h)
  · exact fun Hm lsA locs hR hL hl => lv_icmp_lt hA.1 hA.2.1 hd ht (fun h => absurd h (of_decide_eq_false hc)) (fun _ => k Hm lsA locs hR hL hl)
  · exact fun Hm lsA locs hR hL hl => lv_icmp_ge hA.1 hA.2.1 hd ht (fun _ => k Hm lsA locs hR hL hl) (fun h => absurd (of_decide_eq_true hc) h)
  · exact fun Hm lsA locs hR hL hl => lv_icmp_ge hA.1 hA.2.1 hd ht (fun h => absurd h (of_decide_eq_false hc)) (fun _ => k Hm lsA locs hR hL hl)
  · exact fun Hm lsA locs hR hL hl => lv_icmp_gt hA.1 hA.2.1 hd ht (fun _ => k Hm lsA locs hR hL hl) (fun h => absurd (of_decide_eq_true hc) h)
  · exact fun Hm lsA locs hR hL hl => lv_icmp_gt hA.1 hA.2.1 hd ht (fun h => absurd h (of_decide_eq_false hc)) (fun _ => k Hm lsA locs hR hL hl)
  · exact fun Hm lsA locs hR hL hl => lv_icmp_le hA.1 hA.2.1 hd ht (fun _ => k Hm lsA locs hR hL hl) (fun h => absurd (of_decide_eq_true hc) h)
  · exact fun Hm lsA locs hR hL hl => lv_icmp_le hA.1 hA.2.1 hd ht (fun h => absurd h (of_decide_eq_false hc)) (fun _ => k Hm lsA locs hR hL hl)
theorem am_rf_of {v : Value} (h : am_isR v = true) : ∃ o : Option Nat, v = va_rf o := by
  cases v <;> first | (cases h; done) | skip
  · exact ⟨none, rfl⟩
  · exact ⟨some _, rfl⟩
theorem am_rf_inj {a b : Option Nat} (h : va_rf a = va_rf b) : a = b := by
  cases a <;> cases b <;> first | rfl | (cases h; done) | (cases h; rfl)
theorem am_acmp_spec {c : ClassFile.ACond} (hs : am_acmp c off pc n ls st H = some r) : ∃ a b t s, st = va_rf b :: va_rf a :: s ∧ (pc : Int) + off = ((t : Nat) : Int) ∧ (((match c with | .eq => a = b | .ne => ¬ a = b) ∧ (.inl (t, ls, s, H) : am_S) = r) ∨ (¬ (match c with | .eq => a = b | .ne => ¬ a = b) ∧ (.inl (n, ls, s, H) : am_S) = r)) := by
  match st, hs with
  | w :: v :: s, hs =>
    dsimp only [am_acmp] at hs
    by_cases hvw : (am_isR v && am_isR w) = true
    · rw [if_pos hvw] at hs
      simp only [Bool.and_eq_true] at hvw
      obtain ⟨a, rfl⟩ := am_rf_of hvw.1
      obtain ⟨b, rfl⟩ := am_rf_of hvw.2
      obtain ⟨t, ht, e⟩ := am_jp_spec hs
      refine ⟨a, b, t, s, rfl, ht, ?_⟩
      cases c
      · dsimp only at e
        by_cases h : decide (va_rf a = va_rf b) = true
        · rw [if_pos h] at e; exact Or.inl ⟨am_rf_inj (of_decide_eq_true h), Option.some.inj e⟩
        · rw [if_neg h] at e; exact Or.inr ⟨fun q => h (decide_eq_true (by rw [q])), Option.some.inj e⟩
      · dsimp only at e
        by_cases h : decide (va_rf a ≠ va_rf b) = true
        · rw [if_pos h] at e; exact Or.inl ⟨fun q => (of_decide_eq_true h) (by rw [q]), Option.some.inj e⟩
        · rw [if_neg h] at e; exact Or.inr ⟨fun q => h (decide_eq_true (fun z => q (am_rf_inj z))), Option.some.inj e⟩
    · rw [if_neg hvw] at hs; cases hs
  | [], hs => cases hs
  | [_], hs => cases hs
theorem am_so_if_acmp (hA : am_A Y X y cc) {c : ClassFile.ACond} (hd : decode cc pc = .ok (.if_acmp c off, 3)) (hs : am_acmp c off pc (pc + 3) ls st H = am_nx pc' ls' st' H') (k : am_W Y X pc' ls' st' H') : am_W Y X pc ls st H := by
  obtain ⟨a, b, t, s, rfl, ht, ⟨hc, e⟩ | ⟨hc, e⟩⟩ := am_acmp_spec hs <;> cases e <;> cases c
  · exact fun Hm lsA locs hR hL hl => lv_acmp_eq hA.1 hA.2.1 hd ht (fun _ => k Hm lsA locs hR hL hl) (fun h => absurd hc h)
  · exact fun Hm lsA locs hR hL hl => lv_acmp_ne hA.1 hA.2.1 hd ht (fun _ => k Hm lsA locs hR hL hl) (fun h => absurd h hc)
  · exact fun Hm lsA locs hR hL hl => lv_acmp_eq hA.1 hA.2.1 hd ht (fun h => absurd h hc) (fun _ => k Hm lsA locs hR hL hl)
  · exact fun Hm lsA locs hR hL hl => lv_acmp_ne hA.1 hA.2.1 hd ht (fun h => absurd h hc) (fun _ => k Hm lsA locs hR hL hl)
theorem am_ifnull_spec (hs : am_ifnull off pc n ls st H = some r) : ∃ t s, (pc : Int) + off = ((t : Nat) : Int) ∧ ((st = .null :: s ∧ (.inl (t, ls, s, H) : am_S) = r) ∨ (∃ a, st = .ref a :: s ∧ (.inl (n, ls, s, H) : am_S) = r)) := by
  unfold am_ifnull at hs
  split at hs
  · rename_i v s
    split at hs
    · rename_i hv
      obtain ⟨t, ht, e⟩ := am_jp_spec hs
      refine ⟨t, s, ht, ?_⟩
      cases v <;> first | (cases hv; done) | skip
      · rw [if_pos rfl] at e; exact Or.inl ⟨rfl, Option.some.inj e⟩
      · rw [if_neg (fun h => by cases h)] at e; exact Or.inr ⟨_, rfl, Option.some.inj e⟩
    · cases hs
  · cases hs
theorem am_ifnonnull_spec (hs : am_ifnonnull off pc n ls st H = some r) : ∃ t s, (pc : Int) + off = ((t : Nat) : Int) ∧ ((st = .null :: s ∧ (.inl (n, ls, s, H) : am_S) = r) ∨ (∃ a, st = .ref a :: s ∧ (.inl (t, ls, s, H) : am_S) = r)) := by
  unfold am_ifnonnull at hs
  split at hs
  · rename_i v s
    split at hs
    · rename_i hv
      obtain ⟨t, ht, e⟩ := am_jp_spec hs
      refine ⟨t, s, ht, ?_⟩
      cases v <;> first | (cases hv; done) | skip
      · rw [if_pos rfl] at e; exact Or.inl ⟨rfl, Option.some.inj e⟩
      · rw [if_neg (fun h => by cases h)] at e; exact Or.inr ⟨_, rfl, Option.some.inj e⟩
    · cases hs
  · cases hs
theorem am_so_ifnull (hA : am_A Y X y cc) (hd : decode cc pc = .ok (.ifnull off, 3)) (hs : am_ifnull off pc (pc + 3) ls st H = am_nx pc' ls' st' H') (k : am_W Y X pc' ls' st' H') : am_W Y X pc ls st H := by
  obtain ⟨t, s, ht, ⟨rfl, e⟩ | ⟨a, rfl, e⟩⟩ := am_ifnull_spec hs <;> cases e
  · exact fun Hm lsA locs hR hL hl => lv_ifnullN hA.1 hA.2.1 hd ht (k Hm lsA locs hR hL hl)
  · exact fun Hm lsA locs hR hL hl => lv_ifnull hA.1 hA.2.1 hd (k Hm lsA locs hR hL hl)
theorem am_so_ifnonnull (hA : am_A Y X y cc) (hd : decode cc pc = .ok (.ifnonnull off, 3)) (hs : am_ifnonnull off pc (pc + 3) ls st H = am_nx pc' ls' st' H') (k : am_W Y X pc' ls' st' H') : am_W Y X pc ls st H := by
  obtain ⟨t, s, ht, ⟨rfl, e⟩ | ⟨a, rfl, e⟩⟩ := am_ifnonnull_spec hs <;> cases e
  · exact fun Hm lsA locs hR hL hl => lv_ifnonnullN hA.1 hA.2.1 hd (k Hm lsA locs hR hL hl)
  · exact fun Hm lsA locs hR hL hl => lv_ifnonnull hA.1 hA.2.1 hd ht (k Hm lsA locs hR hL hl)
theorem am_so_tsw (hA : am_A Y X y cc) {d lo hi : Int} {os : Array Int} {len : Nat} (hd : decode cc pc = .ok (.tableswitch d lo hi os, len)) (hs : am_tsw d lo hi os pc ls st H = am_nx pc' ls' st' H') (k : am_W Y X pc' ls' st' H') : am_W Y X pc ls st H := by
  unfold am_tsw at hs
  split at hs
  · split at hs
    · rename_i h
      obtain ⟨t, ht, e⟩ := am_jp_spec hs
      cases e
      exact fun Hm lsA locs hR hL hl => lv_tableOut hA.1 hA.2.1 hd h ht (k Hm lsA locs hR hL hl)
    · rename_i h
      split at hs
      · rename_i o ho
        obtain ⟨t, ht, e⟩ := am_jp_spec hs
        cases e
        exact fun Hm lsA locs hR hL hl => lv_tableIn hA.1 hA.2.1 hd (fun q => h (Or.inl q)) (fun q => h (Or.inr q)) ho ht (k Hm lsA locs hR hL hl)
      · cases hs
  · cases hs
theorem am_so_lsw (hA : am_A Y X y cc) {d : Int} {ps : Array (Int × Int)} {len : Nat} (hd : decode cc pc = .ok (.lookupswitch d ps, len)) (hs : am_lsw d ps pc ls st H = am_nx pc' ls' st' H') (k : am_W Y X pc' ls' st' H') : am_W Y X pc ls st H := by
  unfold am_lsw at hs
  split at hs
  · split at hs
    · rename_i h
      obtain ⟨t, ht, e⟩ := am_jp_spec hs
      cases e
      exact fun Hm lsA locs hR hL hl => lv_lookup hA.1 hA.2.1 hd h rfl ht (k Hm lsA locs hR hL hl)
    · cases hs
  · cases hs
end AMJ
