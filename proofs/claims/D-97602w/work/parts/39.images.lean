/-! undo, image, restore -/
def h_undo (I : Nat → Int32) (A : Nat → Nat → Int32) (R : Nat → Option Nat) (P : Nat → Option Par) (N : Nat → Option Rw_) (T : Int32 × (Nat → Int32)) (pl n : Nat) (ks : Nat → Nat) : Option (Int32 × (Nat → Int32) × (Nat → Nat → Int32) × (Nat → Option Nat) × (Nat × Nat × (Nat → Nat))) :=
  if (I 107) = 0 then (some ((-1000002), I, A, R, (pl, n, ks))) else (ob1 (slN 0 24 ((upd I 107 ((I 107) - 1)) 107)) fun (j2 : Nat) =>
    ob1 (P j2) fun (B3 : Par) =>
    some ((mg 200 (upd I 107 ((I 107) - 1)) (becI (sh 200 (upd I 107 ((I 107) - 1))) B3.1)) 107, mg 200 (upd I 107 ((I 107) - 1)) (becI (sh 200 (upd I 107 ((I 107) - 1))) B3.1), mg 200 A (becA (sh 200 A) B3.2.1), mg 200 R (va_up (sh 200 R) 1 (some B3.2.2.1)), B3.2.2))
set_option maxRecDepth 100000 in
set_option maxHeartbeats 4000000 in
theorem h_undo_met (l : Launch) (D : dd_) (s0 : State) (h0 : ∀ w ∈ lw_tbl, va_Nw w s0) (ad : Nat → Nat) (base : Nat) (r1 r2 : Option Nat) (de : Nat) (hz : FZ base s0 r1 r2 de) (I : Nat → Int32) (A : Nat → Nat → Int32) (R : Nat → Option Nat) (P : Nat → Option Par) (N : Nat → Option Rw_) (T : Int32 × (Nat → Int32)) (pl n : Nat) (ks : Nat → Nat) (Y : va_W) (r : Int32) (I1 : (Nat → Int32)) (A1 : (Nat → Nat → Int32)) (R1 : (Nat → Option Nat)) (Q1 : (Nat × Nat × (Nat → Nat))) (hf : h_undo I A R P N T pl n ks = some (r, I1, A1, R1, Q1)) : Met l yX0_undo (ws_ yX0_undo cX0_undo 1 (some .int)) ({ frames := 2, cells := 0, slots := 0, locals := 85 }) (PcH D s0 ad I A R (P, N, T, (pl, n, ks), Y) base [.ref (ad 199)]) (QcE (HX D ad I1 A1 R1 (P, N, T, Q1, Y) base) base (some (.int r))) 0 0 (upB base) := by
  refine Met.ofW (cc := cX0_undo) (maxL := 1) (ret := (some .int)) (by decide) rfl ?_
  intro p e s m args below meth c s₁ B hml hv
  obtain ⟨rfl, hK, hY, hB0, hH, hq0⟩ := hv
  obtain ⟨G, X, own, af, ra, ta, hF, hAP, hW⟩ := hH
  have hR := hF.reg
  have hx := B.exec
  have hb := B.bytes
  have hr := B.returns
  have hts0 := atoms_spec (ws := (ws_ yX0_undo cX0_undo 1 (some .int))) B.pre
  have hts : ∀ w ∈ lw_all, w.before _ s = true := fun w h => hts0 w (List.mem_cons_of_mem _ h)
  have hown : s.vm.findClass RX0 = some m.cls := findClass_of_methodNamed B.named
  have hlocks := B.notSynchronized
  have hRf : 2 ≤ (headSpec (ws_ yX0_undo cX0_undo 1 (some .int)) ({ frames := 2, cells := 0, slots := 0, locals := 85 })).room.frames := Nat.le_refl _
  have hRl : 85 ≤ (headSpec (ws_ yX0_undo cX0_undo 1 (some .int)) ({ frames := 2, cells := 0, slots := 0, locals := 85 })).room.locals := Nat.le_refl _
  have hcs : 0 ≤ (headSpec (ws_ yX0_undo cX0_undo 1 (some .int)) ({ frames := 2, cells := 0, slots := 0, locals := 85 })).room.cells ∧ 0 ≤ (headSpec (ws_ yX0_undo cX0_undo 1 (some .int)) ({ frames := 2, cells := 0, slots := 0, locals := 85 })).room.slots := ⟨Nat.zero_le _, Nat.zero_le _⟩
  have hS : va_S (upB base) s.heap s.heap [] := va_S.rf
  have hl := lv_entry ([.ref (ad 199)]) (n := 1) (Nat.le_of_ble_eq_true rfl)
  rw [lg_entry_eq]
  generalize (lg_sl ([.ref (ad 199)]) ++ List.replicate (1 - (lg_sl ([.ref (ad 199)])).length) Slot.unset).toArray = ls at hl ⊢
  have hl : lv_has ls 1 [(0, .ref (ad 199))] := hl
  have hf : (if (I 107) = 0 then (some ((-1000002), I, A, R, (pl, n, ks))) else (ob1 (slN 0 24 ((upd I 107 ((I 107) - 1)) 107)) fun (j2 : Nat) =>
      ob1 (P j2) fun (B3 : Par) =>
      some ((mg 200 (upd I 107 ((I 107) - 1)) (becI (sh 200 (upd I 107 ((I 107) - 1))) B3.1)) 107, mg 200 (upd I 107 ((I 107) - 1)) (becI (sh 200 (upd I 107 ((I 107) - 1))) B3.1), mg 200 A (becA (sh 200 A) B3.2.1), mg 200 R (va_up (sh 200 R) 1 (some B3.2.2.1)), B3.2.2))) = some (r, I1, A1, R1, Q1) := hf
  refine lv_aload_n hx hb dX0_undo_0 rfl (lv_at hl 0 rfl) ?_
  refine x_get (v := .int (I 107)) hx hb hts hown hK hW xO199 in_X0 rfl 7 (by decide) q231 rfl rfl dX0_undo_1 ?_
  refine lv_if_ne (tgt := 10) hx hb dX0_undo_4 (by decide) (fun c1 => ?_) (fun c1 => ?_)
  · rw [if_neg c1] at hf
    refine lv_aload_n hx hb dX0_undo_10 rfl (lv_at hl 0 rfl) ?_
    refine lv_dup hx hb dX0_undo_11 rfl ?_
    refine x_get (v := .int (I 107)) hx hb hts hown hK hW xO199 in_X0 rfl 7 (by decide) q231 rfl rfl dX0_undo_12 ?_
    refine lv_iconst (v := 1) hx hb dX0_undo_15 (by decide) ?_
    refine lv_isub hx hb dX0_undo_16 ?_
    refine x_putI hx hb hts hown hK xwf hAP hW hS xO199 in_X0 tyX0 tyX0_ok nmX0 rfl 7 107 (by decide) rfl q231 rfl rfl (by decide +kernel) dX0_undo_17 (fun H locs hW hS => ?_)
    refine lv_aload_n hx hb dX0_undo_20 rfl (lv_at hl 0 rfl) ?_
    refine x_get (v := .ref (ad 299)) hx hb hts hown hK hW xO199 in_X0 rfl 4 (by decide) q228 rfl rfl dX0_undo_21 ?_
    refine lv_aload_n hx hb dX0_undo_24 rfl (lv_at hl 0 rfl) ?_
    refine x_get (v := .ref (ad 106)) hx hb hts hown hK hW xO199 in_X0 rfl 6 (by decide) q230 rfl rfl dX0_undo_25 ?_
    refine lv_aload_n hx hb dX0_undo_28 rfl (lv_at hl 0 rfl) ?_
    refine x_get (v := .int ((upd I 107 ((I 107) - 1)) 107)) hx hb hts hown hK hW xO199 in_X0 rfl 7 (by decide) q231 rfl rfl dX0_undo_29 ?_
    obtain ⟨j2, hj2, hf⟩ := ob1_e hf
    obtain ⟨B3, hB3, hf⟩ := ob1_e hf
    refine x_aald (v := some (af j2 99)) hx hb hK hW (by decide) xG106 (ald_past hF hj2 hB3) dX0_undo_32 ?_
    refine par_bec (k := j2) hx hb hml hown hts hK hY h0 (Nat.le_trans (Nat.le_of_ble_eq_true rfl) hRf) (Nat.le_trans (Nat.le_of_ble_eq_true rfl) hRl) hcs (Nat.le_trans hB0 hS.1) hF hAP hW hS (by have := slN_lt hj2; omega) hB3 hl.1 (Nat.le_of_ble_eq_true rfl) dX0_undo_33 (fun H locs hF hW hS => ?_)
    refine lv_pop hx hb dX0_undo_36 rfl ?_
    refine lv_aload_n hx hb dX0_undo_37 rfl (lv_at hl 0 rfl) ?_
    refine x_get (v := .int ((mg 200 (upd I 107 ((I 107) - 1)) (becI (sh 200 (upd I 107 ((I 107) - 1))) B3.1)) 107)) hx hb hts hown hK hW xO199 in_X0 rfl 7 (by decide) q231 rfl rfl dX0_undo_38 ?_
    obtain ⟨rfl, rfl, rfl, rfl, rfl⟩ := so5 hf
    exact W.iret hx hb hr (fun t ht _ => ⟨rfl, by rw [ht]; exact ⟨G, X, own, af, ra, ta, hF, hAP, hW⟩, hS.F ht⟩) hS.2.2 dX0_undo_41
  · rw [if_pos c1] at hf
    refine lv_ldc (v := (-1000002)) hx hb hown (hts _ q756) dX0_undo_7 ?_
    obtain ⟨rfl, rfl, rfl, rfl, rfl⟩ := so5 hf
    exact W.iret hx hb hr (fun t ht _ => ⟨rfl, by rw [ht]; exact ⟨G, X, own, af, ra, ta, hF, hAP, hW⟩, hS.F ht⟩) hS.2.2 dX0_undo_9
theorem h_undo_ds : yX0_undo.cls = RX0 ∧ yX0_undo.cls ≠ "java/lang/invoke/MethodHandle" ∧ yX0_undo.cls ≠ "java/lang/invoke/VarHandle" ∧ (parseMethodDescriptor yX0_undo.desc).map (fun d => d.parameters.length) = some 0 := by decide +kernel
def h_restore (I : Nat → Int32) (A : Nat → Nat → Int32) (R : Nat → Option Nat) (P : Nat → Option Par) (N : Nat → Option Rw_) (T : Int32 × (Nat → Int32)) (pl n : Nat) (ks : Nat → Nat) (a0 : Int32) : Option (Int32 × (Nat → Int32) × (Nat → Nat → Int32) × (Nat → Option Nat) × (Nat × Nat × (Nat → Nat))) :=
  ob1 (x_isIn a0.toInt64 0 1) fun (v1 : Int32) =>
  if v1 = 0 then (some ((-1000001), I, A, R, (pl, n, ks))) else (ob1 (slN 24 2 a0) fun (j3 : Nat) =>
    if (P j3).isSome = true then (ob1 (slN 24 2 a0) fun (j6 : Nat) =>
      ob1 (P j6) fun (B7 : Par) =>
      some (1, upd (mg 200 I (becI (sh 200 I) B7.1)) 107 0, mg 200 A (becA (sh 200 A) B7.2.1), mg 200 R (va_up (sh 200 R) 1 (some B7.2.2.1)), B7.2.2)) else (some ((-1000002), I, A, R, (pl, n, ks))))
set_option maxRecDepth 100000 in
set_option maxHeartbeats 4000000 in
theorem h_restore_met (l : Launch) (D : dd_) (s0 : State) (h0 : ∀ w ∈ lw_tbl, va_Nw w s0) (ad : Nat → Nat) (base : Nat) (r1 r2 : Option Nat) (de : Nat) (hz : FZ base s0 r1 r2 de) (I : Nat → Int32) (A : Nat → Nat → Int32) (R : Nat → Option Nat) (P : Nat → Option Par) (N : Nat → Option Rw_) (T : Int32 × (Nat → Int32)) (pl n : Nat) (ks : Nat → Nat) (Y : va_W) (a0 : Int32) (r : Int32) (I1 : (Nat → Int32)) (A1 : (Nat → Nat → Int32)) (R1 : (Nat → Option Nat)) (Q1 : (Nat × Nat × (Nat → Nat))) (hf : h_restore I A R P N T pl n ks a0 = some (r, I1, A1, R1, Q1)) : Met l yX0_restore (ws_ yX0_restore cX0_restore 2 (some .int)) ({ frames := 2, cells := 0, slots := 0, locals := 85 }) (PcH D s0 ad I A R (P, N, T, (pl, n, ks), Y) base [.ref (ad 199), .int a0]) (QcE (HX D ad I1 A1 R1 (P, N, T, Q1, Y) base) base (some (.int r))) 0 0 (upB base) := by
  refine Met.ofW (cc := cX0_restore) (maxL := 2) (ret := (some .int)) (by decide) rfl ?_
  intro p e s m args below meth c s₁ B hml hv
  obtain ⟨rfl, hK, hY, hB0, hH, hq0⟩ := hv
  obtain ⟨G, X, own, af, ra, ta, hF, hAP, hW⟩ := hH
  have hR := hF.reg
  have hx := B.exec
  have hb := B.bytes
  have hr := B.returns
  have hts0 := atoms_spec (ws := (ws_ yX0_restore cX0_restore 2 (some .int))) B.pre
  have hts : ∀ w ∈ lw_all, w.before _ s = true := fun w h => hts0 w (List.mem_cons_of_mem _ h)
  have hown : s.vm.findClass RX0 = some m.cls := findClass_of_methodNamed B.named
  have hlocks := B.notSynchronized
  have hRf : 2 ≤ (headSpec (ws_ yX0_restore cX0_restore 2 (some .int)) ({ frames := 2, cells := 0, slots := 0, locals := 85 })).room.frames := Nat.le_refl _
  have hRl : 85 ≤ (headSpec (ws_ yX0_restore cX0_restore 2 (some .int)) ({ frames := 2, cells := 0, slots := 0, locals := 85 })).room.locals := Nat.le_refl _
  have hcs : 0 ≤ (headSpec (ws_ yX0_restore cX0_restore 2 (some .int)) ({ frames := 2, cells := 0, slots := 0, locals := 85 })).room.cells ∧ 0 ≤ (headSpec (ws_ yX0_restore cX0_restore 2 (some .int)) ({ frames := 2, cells := 0, slots := 0, locals := 85 })).room.slots := ⟨Nat.zero_le _, Nat.zero_le _⟩
  have hS : va_S (upB base) s.heap s.heap [] := va_S.rf
  have hl := lv_entry ([.ref (ad 199), .int a0]) (n := 2) (Nat.le_of_ble_eq_true rfl)
  rw [lg_entry_eq]
  generalize (lg_sl ([.ref (ad 199), .int a0]) ++ List.replicate (2 - (lg_sl ([.ref (ad 199), .int a0])).length) Slot.unset).toArray = ls at hl ⊢
  have hl : lv_has ls 2 [(0, .ref (ad 199)), (1, .int a0)] := hl
  have hf : (ob1 (x_isIn a0.toInt64 0 1) fun (v1 : Int32) =>
    if v1 = 0 then (some ((-1000001), I, A, R, (pl, n, ks))) else (ob1 (slN 24 2 a0) fun (j3 : Nat) =>
      if (P j3).isSome = true then (ob1 (slN 24 2 a0) fun (j6 : Nat) =>
        ob1 (P j6) fun (B7 : Par) =>
        some (1, upd (mg 200 I (becI (sh 200 I) B7.1)) 107 0, mg 200 A (becA (sh 200 A) B7.2.1), mg 200 R (va_up (sh 200 R) 1 (some B7.2.2.1)), B7.2.2)) else (some ((-1000002), I, A, R, (pl, n, ks))))) = some (r, I1, A1, R1, Q1) := hf
  refine lv_iload_n hx hb dX0_restore_0 rfl (lv_at hl 1 rfl) ?_
  refine lv_i2l (v := a0.toInt64) hx hb dX0_restore_1 rfl ?_
  refine lv_lconst (v := 0) hx hb dX0_restore_2 (by decide) ?_
  refine lv_lconst (v := 1) hx hb dX0_restore_3 (by decide) ?_
  obtain ⟨v1, h1, hf⟩ := ob1_e hf
  refine x_sR (ov := some (.int v1)) (D := D) (s0 := s0) (Sc := nS) (adc := ad) (Ic := (fun _ => 0)) (Ac := (fun _ _ => 0)) (Rc := nR) (Gc := nG) (Xc := []) (base := base) (As := [.long a0.toInt64, .long 0, .long 1]) (rest := []) ⟨hx, hb, hml, hown, hts⟩ (x_isIn_met l D s0 h0 ad [] base a0.toInt64 0 1 v1 h1) (va_cwS 3 hts (lw_S q285 q286 q76 q287) rfl rfl rfl x_isIn_ds.2 ⟨Nat.le_trans (Nat.le_of_ble_eq_true rfl) hRf, Nat.le_trans (Nat.le_of_ble_eq_true rfl) hRl⟩) hK hY (Nat.le_trans hB0 hS.1) WX_nil hcs rfl hl.1 rfl (Nat.le_of_ble_eq_true rfl) dX0_restore_4 ?_
  refine lv_if_ne (tgt := 13) hx hb dX0_restore_7 (by decide) (fun c2 => ?_) (fun c2 => ?_)
  · rw [if_neg c2] at hf
    refine lv_aload_n hx hb dX0_restore_13 rfl (lv_at hl 0 rfl) ?_
    refine x_get (v := .ref (ad 108)) hx hb hts hown hK hW xO199 in_X0 rfl 8 (by decide) q232 rfl rfl dX0_restore_14 ?_
    refine lv_iload_n hx hb dX0_restore_17 rfl (lv_at hl 1 rfl) ?_
    obtain ⟨j3, hj3, hf⟩ := ob1_e hf
    by_cases c5 : (P j3).isSome = true
    · rw [if_pos c5] at hf
      obtain ⟨B4, hB4⟩ := Option.isSome_iff_exists.mp c5
      refine x_aald (v := some (af j3 99)) hx hb hK hW (by decide) xG108 (ald_img hF hj3 hB4) dX0_restore_18 ?_
      refine x_ifnn (tgt := 25) hx hb dX0_restore_19 (by decide) (fun _ => ?_) (fun cx => nomatch cx)
      refine lv_aload_n hx hb dX0_restore_25 rfl (lv_at hl 0 rfl) ?_
      refine x_get (v := .ref (ad 299)) hx hb hts hown hK hW xO199 in_X0 rfl 4 (by decide) q228 rfl rfl dX0_restore_26 ?_
      refine lv_aload_n hx hb dX0_restore_29 rfl (lv_at hl 0 rfl) ?_
      refine x_get (v := .ref (ad 108)) hx hb hts hown hK hW xO199 in_X0 rfl 8 (by decide) q232 rfl rfl dX0_restore_30 ?_
      refine lv_iload_n hx hb dX0_restore_33 rfl (lv_at hl 1 rfl) ?_
      obtain ⟨j6, hj6, hf⟩ := ob1_e hf
      obtain ⟨B7, hB7, hf⟩ := ob1_e hf
      refine x_aald (v := some (af j6 99)) hx hb hK hW (by decide) xG108 (ald_img hF hj6 hB7) dX0_restore_34 ?_
      refine par_bec (k := j6) hx hb hml hown hts hK hY h0 (Nat.le_trans (Nat.le_of_ble_eq_true rfl) hRf) (Nat.le_trans (Nat.le_of_ble_eq_true rfl) hRl) hcs (Nat.le_trans hB0 hS.1) hF hAP hW hS (by have := slN_lt hj6; omega) hB7 hl.1 (Nat.le_of_ble_eq_true rfl) dX0_restore_35 (fun H locs hF hW hS => ?_)
      refine lv_pop hx hb dX0_restore_38 rfl ?_
      refine lv_aload_n hx hb dX0_restore_39 rfl (lv_at hl 0 rfl) ?_
      refine lv_iconst (v := 0) hx hb dX0_restore_40 (by decide) ?_
      refine x_putI hx hb hts hown hK xwf hAP hW hS xO199 in_X0 tyX0 tyX0_ok nmX0 rfl 7 107 (by decide) rfl q231 rfl rfl (by decide +kernel) dX0_restore_41 (fun H locs hW hS => ?_)
      refine lv_iconst (v := 1) hx hb dX0_restore_44 (by decide) ?_
      obtain ⟨rfl, rfl, rfl, rfl, rfl⟩ := so5 hf
      exact W.iret hx hb hr (fun t ht _ => ⟨rfl, by rw [ht]; exact ⟨G, X, own, af, ra, ta, hF, hAP, hW⟩, hS.F ht⟩) hS.2.2 dX0_restore_45
    · rw [if_neg c5] at hf
      have hB4 : P j3 = none := Option.not_isSome_iff_eq_none.mp c5
      refine x_aald (v := none) hx hb hK hW (by decide) xG108 (ald_imgN hF hj3 hB4) dX0_restore_18 ?_
      refine x_ifnn (tgt := 25) hx hb dX0_restore_19 (by decide) (fun cx => absurd rfl cx) (fun _ => ?_)
      refine lv_ldc (v := (-1000002)) hx hb hown (hts _ q756) dX0_restore_22 ?_
      obtain ⟨rfl, rfl, rfl, rfl, rfl⟩ := so5 hf
      exact W.iret hx hb hr (fun t ht _ => ⟨rfl, by rw [ht]; exact ⟨G, X, own, af, ra, ta, hF, hAP, hW⟩, hS.F ht⟩) hS.2.2 dX0_restore_24
  · rw [if_pos c2] at hf
    refine lv_ldc (v := (-1000001)) hx hb hown (hts _ q289) dX0_restore_10 ?_
    obtain ⟨rfl, rfl, rfl, rfl, rfl⟩ := so5 hf
    exact W.iret hx hb hr (fun t ht _ => ⟨rfl, by rw [ht]; exact ⟨G, X, own, af, ra, ta, hF, hAP, hW⟩, hS.F ht⟩) hS.2.2 dX0_restore_12
theorem h_restore_ds : yX0_restore.cls = RX0 ∧ yX0_restore.cls ≠ "java/lang/invoke/MethodHandle" ∧ yX0_restore.cls ≠ "java/lang/invoke/VarHandle" ∧ (parseMethodDescriptor yX0_restore.desc).map (fun d => d.parameters.length) = some 1 := by decide +kernel
def h_image (I : Nat → Int32) (A : Nat → Nat → Int32) (R : Nat → Option Nat) (P : Nat → Option Par) (N : Nat → Option Rw_) (T : Int32 × (Nat → Int32)) (pl n : Nat) (ks : Nat → Nat) (a0 : Int32) : Option (Int32 × (Nat → Option Par)) :=
  ob1 (x_isIn a0.toInt64 0 1) fun (v1 : Int32) =>
  if v1 = 0 then (some ((-1000001), P)) else (ob1 (x_isParish I A R nG pl n ks) fun (v3 : Int32) =>
    if v3 = 0 then (some ((-1000002), P)) else (ob1 (slN 24 2 a0) fun (j5 : Nat) =>
      if (P j5).isSome = true then (some (1, kpS P j5 I A (pl, n, ks))) else (some (1, kpS P j5 I A (pl, n, ks)))))
set_option maxRecDepth 100000 in
set_option maxHeartbeats 4000000 in
theorem h_image_met (l : Launch) (D : dd_) (s0 : State) (h0 : ∀ w ∈ lw_tbl, va_Nw w s0) (ad : Nat → Nat) (base : Nat) (r1 r2 : Option Nat) (de : Nat) (hz : FZ base s0 r1 r2 de) (I : Nat → Int32) (A : Nat → Nat → Int32) (R : Nat → Option Nat) (P : Nat → Option Par) (N : Nat → Option Rw_) (T : Int32 × (Nat → Int32)) (pl n : Nat) (ks : Nat → Nat) (Y : va_W) (a0 : Int32) (r : Int32) (P1 : (Nat → Option Par)) (hf : h_image I A R P N T pl n ks a0 = some (r, P1)) : Met l yX0_image (ws_ yX0_image cX0_image 2 (some .int)) ({ frames := 5, cells := 10, slots := 71, locals := 112 }) (PcH D s0 ad I A R (P, N, T, (pl, n, ks), Y) base [.ref (ad 199), .int a0]) (QcE (HX D ad I A R (P1, N, T, (pl, n, ks), Y) base) base (some (.int r))) 10 71 (upB base) := by
  refine Met.ofW (cc := cX0_image) (maxL := 2) (ret := (some .int)) (by decide) rfl ?_
  intro p e s m args below meth c s₁ B hml hv
  obtain ⟨rfl, hK, hY, hB0, hH, hq0⟩ := hv
  obtain ⟨G, X, own, af, ra, ta, hF, hAP, hW⟩ := hH
  have hR := hF.reg
  have hx := B.exec
  have hb := B.bytes
  have hr := B.returns
  have hts0 := atoms_spec (ws := (ws_ yX0_image cX0_image 2 (some .int))) B.pre
  have hts : ∀ w ∈ lw_all, w.before _ s = true := fun w h => hts0 w (List.mem_cons_of_mem _ h)
  have hown : s.vm.findClass RX0 = some m.cls := findClass_of_methodNamed B.named
  have hlocks := B.notSynchronized
  have hRf : 5 ≤ (headSpec (ws_ yX0_image cX0_image 2 (some .int)) ({ frames := 5, cells := 10, slots := 71, locals := 112 })).room.frames := Nat.le_refl _
  have hRl : 112 ≤ (headSpec (ws_ yX0_image cX0_image 2 (some .int)) ({ frames := 5, cells := 10, slots := 71, locals := 112 })).room.locals := Nat.le_refl _
  have hcs : 0 ≤ (headSpec (ws_ yX0_image cX0_image 2 (some .int)) ({ frames := 5, cells := 10, slots := 71, locals := 112 })).room.cells ∧ 0 ≤ (headSpec (ws_ yX0_image cX0_image 2 (some .int)) ({ frames := 5, cells := 10, slots := 71, locals := 112 })).room.slots := ⟨Nat.zero_le _, Nat.zero_le _⟩
  have hS : va_S (upB base) s.heap s.heap [] := va_S.rf
  have hl := lv_entry ([.ref (ad 199), .int a0]) (n := 2) (Nat.le_of_ble_eq_true rfl)
  rw [lg_entry_eq]
  generalize (lg_sl ([.ref (ad 199), .int a0]) ++ List.replicate (2 - (lg_sl ([.ref (ad 199), .int a0])).length) Slot.unset).toArray = ls at hl ⊢
  have hl : lv_has ls 2 [(0, .ref (ad 199)), (1, .int a0)] := hl
  have hf : (ob1 (x_isIn a0.toInt64 0 1) fun (v1 : Int32) =>
    if v1 = 0 then (some ((-1000001), P)) else (ob1 (x_isParish I A R nG pl n ks) fun (v3 : Int32) =>
      if v3 = 0 then (some ((-1000002), P)) else (ob1 (slN 24 2 a0) fun (j5 : Nat) =>
        if (P j5).isSome = true then (some (1, kpS P j5 I A (pl, n, ks))) else (some (1, kpS P j5 I A (pl, n, ks)))))) = some (r, P1) := hf
  refine lv_iload_n hx hb dX0_image_0 rfl (lv_at hl 1 rfl) ?_
  refine lv_i2l (v := a0.toInt64) hx hb dX0_image_1 rfl ?_
  refine lv_lconst (v := 0) hx hb dX0_image_2 (by decide) ?_
  refine lv_lconst (v := 1) hx hb dX0_image_3 (by decide) ?_
  obtain ⟨v1, h1, hf⟩ := ob1_e hf
  refine x_sR (ov := some (.int v1)) (D := D) (s0 := s0) (Sc := nS) (adc := ad) (Ic := (fun _ => 0)) (Ac := (fun _ _ => 0)) (Rc := nR) (Gc := nG) (Xc := []) (base := base) (As := [.long a0.toInt64, .long 0, .long 1]) (rest := []) ⟨hx, hb, hml, hown, hts⟩ (x_isIn_met l D s0 h0 ad [] base a0.toInt64 0 1 v1 h1) (va_cwS 3 hts (lw_S q285 q286 q76 q287) rfl rfl rfl x_isIn_ds.2 ⟨Nat.le_trans (Nat.le_of_ble_eq_true rfl) hRf, Nat.le_trans (Nat.le_of_ble_eq_true rfl) hRl⟩) hK hY (Nat.le_trans hB0 hS.1) WX_nil hcs rfl hl.1 rfl (Nat.le_of_ble_eq_true rfl) dX0_image_4 ?_
  refine lv_if_ne (tgt := 13) hx hb dX0_image_7 (by decide) (fun c2 => ?_) (fun c2 => ?_)
  · rw [if_neg c2] at hf
    refine lv_aload_n hx hb dX0_image_13 rfl (lv_at hl 0 rfl) ?_
    obtain ⟨v3, h3, hf⟩ := ob1_e hf
    refine x_vR (ov := some (.int v3)) (D := D) (s0 := s0) (Sc := xS) (adc := ad) (Ic := I) (Ac := A) (Rc := R) (Gc := G) (Xc := X) (base := base) (As := []) (rest := []) (b := ad 199) (C := RX0) ⟨hx, hb, hml, hown, hts⟩ (x_isParish_met l D s0 h0 ad X base I A R G pl n ks hR  v3 h3) (g_cwV 0 hts (lw_V q863 q865 qs21 q76 q866) rfl rfl x_isParish_ds ⟨Nat.le_trans (Nat.le_of_ble_eq_true rfl) hRf, Nat.le_trans (Nat.le_of_ble_eq_true rfl) hRl⟩) (x_recv hK hW xO199 rfl) hK hY (Nat.le_trans hB0 hS.1) hW hcs rfl hl.1 rfl (Nat.le_of_ble_eq_true rfl) dX0_image_14 ?_
    refine lv_if_ne (tgt := 23) hx hb dX0_image_17 (by decide) (fun c4 => ?_) (fun c4 => ?_)
    · rw [if_neg c4] at hf
      refine lv_aload_n hx hb dX0_image_23 rfl (lv_at hl 0 rfl) ?_
      refine x_get (v := .ref (ad 108)) hx hb hts hown hK hW xO199 in_X0 rfl 8 (by decide) q232 rfl rfl dX0_image_24 ?_
      refine lv_iload_n hx hb dX0_image_27 rfl (lv_at hl 1 rfl) ?_
      obtain ⟨j5, hj5, hf⟩ := ob1_e hf
      by_cases c7 : (P j5).isSome = true
      · rw [if_pos c7] at hf
        obtain ⟨B6, hB6⟩ := Option.isSome_iff_exists.mp c7
        refine x_aald (v := some (af j5 99)) hx hb hK hW (by decide) xG108 (ald_img hF hj5 hB6) dX0_image_28 ?_
        refine x_ifnn (tgt := 45) hx hb dX0_image_29 (by decide) (fun _ => ?_) (fun cx => nomatch cx)
        refine lv_aload_n hx hb dX0_image_45 rfl (lv_at hl 0 rfl) ?_
        refine x_get (v := .ref (ad 108)) hx hb hts hown hK hW xO199 in_X0 rfl 8 (by decide) q232 rfl rfl dX0_image_46 ?_
        refine lv_iload_n hx hb dX0_image_49 rfl (lv_at hl 1 rfl) ?_
        refine x_aald (v := some (af j5 99)) hx hb hK hW (by decide) xG108 (ald_img hF hj5 hB6) dX0_image_50 ?_
        refine lv_aload_n hx hb dX0_image_51 rfl (lv_at hl 0 rfl) ?_
        refine x_get (v := .ref (ad 299)) hx hb hts hown hK hW xO199 in_X0 rfl 4 (by decide) q228 rfl rfl dX0_image_52 ?_
        refine slot_bec (k := j5) hx hb hml hown hts hK hY h0 (Nat.le_trans (Nat.le_of_ble_eq_true rfl) hRf) (Nat.le_trans (Nat.le_of_ble_eq_true rfl) hRl) hcs (Nat.le_trans hB0 hS.1) hF hAP hW hS (by have := slN_lt hj5; omega) hB6 hl.1 (Nat.le_of_ble_eq_true rfl) dX0_image_55 (fun H locs X hF hAP hW hS => ?_)
        have hF : XF D own af ra ta (kpS P j5 I A (pl, n, ks), N, T, (pl, n, ks), Y) R G X := by unfold kpS; rw [hB6]; exact hF
        refine lv_pop hx hb dX0_image_58 rfl ?_
        refine lv_iconst (v := 1) hx hb dX0_image_59 (by decide) ?_
        obtain ⟨rfl, rfl⟩ := so2 hf
        refine w_more (cells' := 0 + 10) (slots' := 0 + 71) (Nat.le_of_ble_eq_true rfl) (Nat.le_of_ble_eq_true rfl) ?_
        exact W.iret hx hb hr (fun t ht _ => ⟨rfl, by rw [ht]; exact ⟨G, X, own, af, ra, ta, hF, hAP, hW⟩, hS.F ht⟩) hS.2.2 dX0_image_60
      · rw [if_neg c7] at hf
        have hB6 : P j5 = none := Option.not_isSome_iff_eq_none.mp c7
        refine x_aald (v := none) hx hb hK hW (by decide) xG108 (ald_imgN hF hj5 hB6) dX0_image_28 ?_
        refine x_ifnn (tgt := 45) hx hb dX0_image_29 (by decide) (fun cx => absurd rfl cx) (fun _ => ?_)
        refine lv_aload_n hx hb dX0_image_32 rfl (lv_at hl 0 rfl) ?_
        refine x_get (v := .ref (ad 108)) hx hb hts hown hK hW xO199 in_X0 rfl 8 (by decide) q232 rfl rfl dX0_image_33 ?_
        refine lv_iload_n hx hb dX0_image_36 rfl (lv_at hl 1 rfl) ?_
        refine mk_par j5 hx hb hml hown hts hK hY h0 hz (Nat.le_trans (Nat.le_of_ble_eq_true rfl) hRf) (Nat.le_trans (Nat.le_of_ble_eq_true rfl) hRl) (Nat.le_of_ble_eq_true rfl) (Nat.le_of_ble_eq_true rfl) hq0 hB0 hF hAP hW hS hl.1 (Nat.le_of_ble_eq_true rfl) dX0_image_37 dX0_image_40 dX0_image_41 (fun H locs X own a1 q1 hF hAP hW hS hin hc hreg => ?_)
        have hcs : 0 + 10 ≤ (headSpec (ws_ yX0_image cX0_image 2 (some .int)) ({ frames := 5, cells := 10, slots := 71, locals := 112 })).room.cells ∧ 0 + 71 ≤ (headSpec (ws_ yX0_image cX0_image 2 (some .int)) ({ frames := 5, cells := 10, slots := 71, locals := 112 })).room.slots := ⟨Nat.le_of_ble_eq_true rfl, Nat.le_of_ble_eq_true rfl⟩
        refine x_aastP hx hb hK xwf hAP hW hS (by decide) xG108 (ci := 2) rfl (Xt_mem.mp (hc _ (List.mem_append_left _ List.mem_cons_self))).1 (slN_e hj5).1 dX0_image_44 (fun H locs hW hS => ?_)
        have hF := put_img (B := dP q1) hF hj5 hin hc hreg
        obtain ⟨G, af, hF, hW⟩ : ∃ (G : Nat → Nat → Option Nat) (af : Nat → Nat → Nat), XF D own af ra ta (va_up P j5 (some (dP q1)), N, T, (pl, n, ks), Y) R G X ∧ WX D xS ad I A R G X H := ⟨_, _, hF, hW⟩
        refine lv_aload_n hx hb dX0_image_45 rfl (lv_at hl 0 rfl) ?_
        refine x_get (v := .ref (ad 108)) hx hb hts hown hK hW xO199 in_X0 rfl 8 (by decide) q232 rfl rfl dX0_image_46 ?_
        refine lv_iload_n hx hb dX0_image_49 rfl (lv_at hl 1 rfl) ?_
        refine x_aald (v := some (af j5 99)) hx hb hK hW (by decide) xG108 (ald_img hF hj5 (va_up_self _ _ _)) dX0_image_50 ?_
        refine lv_aload_n hx hb dX0_image_51 rfl (lv_at hl 0 rfl) ?_
        refine x_get (v := .ref (ad 299)) hx hb hts hown hK hW xO199 in_X0 rfl 4 (by decide) q228 rfl rfl dX0_image_52 ?_
        refine slot_bec (k := j5) hx hb hml hown hts hK hY h0 (Nat.le_trans (Nat.le_of_ble_eq_true rfl) hRf) (Nat.le_trans (Nat.le_of_ble_eq_true rfl) hRl) hcs (Nat.le_trans hB0 hS.1) hF hAP hW hS (by have := slN_lt hj5; omega) (va_up_self _ _ _) hl.1 (Nat.le_of_ble_eq_true rfl) dX0_image_55 (fun H locs X hF hAP hW hS => ?_)
        have hF : XF D own af ra ta (va_up (va_up P j5 (some (dP q1))) j5 (some (becI (dP q1).1 (sh 200 I), becA (dP q1).2.1 (sh 200 A), (pl, n, ks))), N, T, (pl, n, ks), Y) R G X := hF
        rw [bx_uu] at hF
        have hF : XF D own af ra ta (kpS P j5 I A (pl, n, ks), N, T, (pl, n, ks), Y) R G X := by unfold kpS; rw [hB6]; exact hF
        refine lv_pop hx hb dX0_image_58 rfl ?_
        refine lv_iconst (v := 1) hx hb dX0_image_59 (by decide) ?_
        obtain ⟨rfl, rfl⟩ := so2 hf
        exact W.iret hx hb hr (fun t ht _ => ⟨rfl, by rw [ht]; exact ⟨G, X, own, af, ra, ta, hF, hAP, hW⟩, hS.F ht⟩) hS.2.2 dX0_image_60
    · rw [if_pos c4] at hf
      refine lv_ldc (v := (-1000002)) hx hb hown (hts _ q756) dX0_image_20 ?_
      obtain ⟨rfl, rfl⟩ := so2 hf
      refine w_more (cells' := 0 + 10) (slots' := 0 + 71) (Nat.le_of_ble_eq_true rfl) (Nat.le_of_ble_eq_true rfl) ?_
      exact W.iret hx hb hr (fun t ht _ => ⟨rfl, by rw [ht]; exact ⟨G, X, own, af, ra, ta, hF, hAP, hW⟩, hS.F ht⟩) hS.2.2 dX0_image_22
  · rw [if_pos c2] at hf
    refine lv_ldc (v := (-1000001)) hx hb hown (hts _ q289) dX0_image_10 ?_
    obtain ⟨rfl, rfl⟩ := so2 hf
    refine w_more (cells' := 0 + 10) (slots' := 0 + 71) (Nat.le_of_ble_eq_true rfl) (Nat.le_of_ble_eq_true rfl) ?_
    exact W.iret hx hb hr (fun t ht _ => ⟨rfl, by rw [ht]; exact ⟨G, X, own, af, ra, ta, hF, hAP, hW⟩, hS.F ht⟩) hS.2.2 dX0_image_12
theorem h_image_ds : yX0_image.cls = RX0 ∧ yX0_image.cls ≠ "java/lang/invoke/MethodHandle" ∧ yX0_image.cls ≠ "java/lang/invoke/VarHandle" ∧ (parseMethodDescriptor yX0_image.desc).map (fun d => d.parameters.length) = some 1 := by decide +kernel
