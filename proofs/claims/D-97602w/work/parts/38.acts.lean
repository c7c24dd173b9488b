/-! acts: walk, give, redeem, pass -/
theorem keep_ds : yX0_keep.cls = RX0 ∧ yX0_keep.cls ≠ "java/lang/invoke/MethodHandle" ∧ yX0_keep.cls ≠ "java/lang/invoke/VarHandle" ∧ (parseMethodDescriptor yX0_keep.desc).map (fun d => d.parameters.length) = some 0 := by decide +kernel
def h_walk (I : Nat → Int32) (A : Nat → Nat → Int32) (R : Nat → Option Nat) (P : Nat → Option Par) (N : Nat → Option Rw_) (T : Int32 × (Nat → Int32)) (pl n : Nat) (ks : Nat → Nat) (a0 : Int32) (a1 : Int32) : Option (Int32 × (Nat → Int32) × (Nat → Nat → Int32) × (Nat → Option Par)) :=
  ob1 (x_isPerson I A R nG pl n ks a0) fun (v1 : Int32) =>
  if v1 = 0 then (some ((-1000001), I, A, P)) else (if a1 = 1 then (ob1 (p_mayWalk (sh 200 I) (sh 200 A) (sh 200 R) pl n ks a0 a1) fun (v4 : Int32) =>
      if v4 = 0 then (some ((-1000002), I, A, P)) else (ob2 (keepO I A P (pl, n, ks) (I 107).toNatClampNeg) fun (I6 : Nat → Int32) (P7 : Nat → Option Par) =>
        ob1 (ldO (A 203) 5 a0) fun (v8 : Int32) =>
        ob1 (stO (A 203) 5 a0 (v8 + a1)) fun (f9 : Nat → Int32) =>
        ob1 (ldO ((va_up A 203 f9) 203) 5 a0) fun (v10 : Int32) =>
        some (v10, I6, va_up A 203 f9, P7))) else (if a1 = (-1) then (ob1 (p_mayWalk (sh 200 I) (sh 200 A) (sh 200 R) pl n ks a0 a1) fun (v12 : Int32) =>
        if v12 = 0 then (some ((-1000002), I, A, P)) else (ob2 (keepO I A P (pl, n, ks) (I 107).toNatClampNeg) fun (I14 : Nat → Int32) (P15 : Nat → Option Par) =>
          ob1 (ldO (A 203) 5 a0) fun (v16 : Int32) =>
          ob1 (stO (A 203) 5 a0 (v16 + a1)) fun (f17 : Nat → Int32) =>
          ob1 (ldO ((va_up A 203 f17) 203) 5 a0) fun (v18 : Int32) =>
          some (v18, I14, va_up A 203 f17, P15))) else (some ((-1000001), I, A, P))))
set_option maxRecDepth 100000 in
set_option maxHeartbeats 4000000 in
theorem h_walk_met (l : Launch) (D : dd_) (s0 : State) (h0 : ∀ w ∈ lw_tbl, va_Nw w s0) (ad : Nat → Nat) (base : Nat) (r1 r2 : Option Nat) (de : Nat) (hz : FZ base s0 r1 r2 de) (I : Nat → Int32) (A : Nat → Nat → Int32) (R : Nat → Option Nat) (P : Nat → Option Par) (N : Nat → Option Rw_) (T : Int32 × (Nat → Int32)) (pl n : Nat) (ks : Nat → Nat) (Y : va_W) (a0 : Int32) (a1 : Int32) (r : Int32) (I1 : (Nat → Int32)) (A1 : (Nat → Nat → Int32)) (P1 : (Nat → Option Par)) (hf : h_walk I A R P N T pl n ks a0 a1 = some (r, I1, A1, P1)) : Met l yX0_walk (ws_ yX0_walk cX0_walk 3 (some .int)) ({ frames := 8, cells := 10, slots := 71, locals := 185 }) (PcH D s0 ad I A R (P, N, T, (pl, n, ks), Y) base [.ref (ad 199), .int a0, .int a1]) (QcE (HX D ad I1 A1 R (P1, N, T, (pl, n, ks), Y) base) base (some (.int r))) 10 71 (upB base) := by
  refine Met.ofW (cc := cX0_walk) (maxL := 3) (ret := (some .int)) (by decide) rfl ?_
  intro p e s m args below meth c s₁ B hml hv
  obtain ⟨rfl, hK, hY, hB0, hH, hq0⟩ := hv
  obtain ⟨G, X, own, af, ra, ta, hF, hAP, hW⟩ := hH
  have hR := hF.reg
  have hx := B.exec
  have hb := B.bytes
  have hr := B.returns
  have hts0 := atoms_spec (ws := (ws_ yX0_walk cX0_walk 3 (some .int))) B.pre
  have hts : ∀ w ∈ lw_all, w.before _ s = true := fun w h => hts0 w (List.mem_cons_of_mem _ h)
  have hown : s.vm.findClass RX0 = some m.cls := findClass_of_methodNamed B.named
  have hlocks := B.notSynchronized
  have hRf : 8 ≤ (headSpec (ws_ yX0_walk cX0_walk 3 (some .int)) ({ frames := 8, cells := 10, slots := 71, locals := 185 })).room.frames := Nat.le_refl _
  have hRl : 185 ≤ (headSpec (ws_ yX0_walk cX0_walk 3 (some .int)) ({ frames := 8, cells := 10, slots := 71, locals := 185 })).room.locals := Nat.le_refl _
  have hcs : 0 ≤ (headSpec (ws_ yX0_walk cX0_walk 3 (some .int)) ({ frames := 8, cells := 10, slots := 71, locals := 185 })).room.cells ∧ 0 ≤ (headSpec (ws_ yX0_walk cX0_walk 3 (some .int)) ({ frames := 8, cells := 10, slots := 71, locals := 185 })).room.slots := ⟨Nat.zero_le _, Nat.zero_le _⟩
  have hS : va_S (upB base) s.heap s.heap [] := va_S.rf
  have hl := lv_entry ([.ref (ad 199), .int a0, .int a1]) (n := 3) (Nat.le_of_ble_eq_true rfl)
  rw [lg_entry_eq]
  generalize (lg_sl ([.ref (ad 199), .int a0, .int a1]) ++ List.replicate (3 - (lg_sl ([.ref (ad 199), .int a0, .int a1])).length) Slot.unset).toArray = ls at hl ⊢
  have hl : lv_has ls 3 [(0, .ref (ad 199)), (1, .int a0), (2, .int a1)] := hl
  have hf : (ob1 (x_isPerson I A R nG pl n ks a0) fun (v1 : Int32) =>
    if v1 = 0 then (some ((-1000001), I, A, P)) else (if a1 = 1 then (ob1 (p_mayWalk (sh 200 I) (sh 200 A) (sh 200 R) pl n ks a0 a1) fun (v4 : Int32) =>
        if v4 = 0 then (some ((-1000002), I, A, P)) else (ob2 (keepO I A P (pl, n, ks) (I 107).toNatClampNeg) fun (I6 : Nat → Int32) (P7 : Nat → Option Par) =>
          ob1 (ldO (A 203) 5 a0) fun (v8 : Int32) =>
          ob1 (stO (A 203) 5 a0 (v8 + a1)) fun (f9 : Nat → Int32) =>
          ob1 (ldO ((va_up A 203 f9) 203) 5 a0) fun (v10 : Int32) =>
          some (v10, I6, va_up A 203 f9, P7))) else (if a1 = (-1) then (ob1 (p_mayWalk (sh 200 I) (sh 200 A) (sh 200 R) pl n ks a0 a1) fun (v12 : Int32) =>
          if v12 = 0 then (some ((-1000002), I, A, P)) else (ob2 (keepO I A P (pl, n, ks) (I 107).toNatClampNeg) fun (I14 : Nat → Int32) (P15 : Nat → Option Par) =>
            ob1 (ldO (A 203) 5 a0) fun (v16 : Int32) =>
            ob1 (stO (A 203) 5 a0 (v16 + a1)) fun (f17 : Nat → Int32) =>
            ob1 (ldO ((va_up A 203 f17) 203) 5 a0) fun (v18 : Int32) =>
            some (v18, I14, va_up A 203 f17, P15))) else (some ((-1000001), I, A, P))))) = some (r, I1, A1, P1) := hf
  refine lv_aload_n hx hb dX0_walk_0 rfl (lv_at hl 0 rfl) ?_
  refine lv_iload_n hx hb dX0_walk_1 rfl (lv_at hl 1 rfl) ?_
  obtain ⟨v1, h1, hf⟩ := ob1_e hf
  refine x_vR (ov := some (.int v1)) (D := D) (s0 := s0) (Sc := xS) (adc := ad) (Ic := I) (Ac := A) (Rc := R) (Gc := G) (Xc := X) (base := base) (As := [.int a0]) (rest := []) (b := ad 199) (C := RX0) ⟨hx, hb, hml, hown, hts⟩ (x_isPerson_met l D s0 h0 ad X base I A R G pl n ks hR a0 v1 h1) (g_cwV 1 hts (lw_V q761 q763 qs18 q76 q764) rfl rfl x_isPerson_ds ⟨Nat.le_trans (Nat.le_of_ble_eq_true rfl) hRf, Nat.le_trans (Nat.le_of_ble_eq_true rfl) hRl⟩) (x_recv hK hW xO199 rfl) hK hY (Nat.le_trans hB0 hS.1) hW hcs rfl hl.1 rfl (Nat.le_of_ble_eq_true rfl) dX0_walk_2 ?_
  refine lv_if_eq (tgt := 18) hx hb dX0_walk_5 (by decide) (fun c2 => ?_) (fun c2 => ?_)
  · rw [if_pos c2] at hf
    refine lv_ldc (v := (-1000001)) hx hb hown (hts _ q289) dX0_walk_18 ?_
    obtain ⟨rfl, rfl, rfl, rfl⟩ := so4 hf
    refine w_more (cells' := 0 + 10) (slots' := 0 + 71) (Nat.le_of_ble_eq_true rfl) (Nat.le_of_ble_eq_true rfl) ?_
    exact W.iret hx hb hr (fun t ht _ => ⟨rfl, by rw [ht]; exact ⟨G, X, own, af, ra, ta, hF, hAP, hW⟩, hS.F ht⟩) hS.2.2 dX0_walk_20
  · rw [if_neg c2] at hf
    refine lv_iload_n hx hb dX0_walk_8 rfl (lv_at hl 2 rfl) ?_
    refine lv_iconst (v := 1) hx hb dX0_walk_9 (by decide) ?_
    refine lv_icmp_eq (tgt := 21) hx hb dX0_walk_10 (by decide) (fun c3 => ?_) (fun c3 => ?_)
    · rw [if_pos c3] at hf
      refine lv_aload_n hx hb dX0_walk_21 rfl (lv_at hl 0 rfl) ?_
      refine x_get (v := .ref (ad 299)) hx hb hts hown hK hW xO199 in_X0 rfl 4 (by decide) q228 rfl rfl dX0_walk_22 ?_
      refine lv_iload_n hx hb dX0_walk_25 rfl (lv_at hl 1 rfl) ?_
      refine lv_iload_n hx hb dX0_walk_26 rfl (lv_at hl 2 rfl) ?_
      obtain ⟨v4, h4, hf⟩ := ob1_e hf
      refine x_vR (ov := some (.int v4)) (D := D) (s0 := s0) (Sc := pS) (adc := (sh 200 ad)) (Ic := (sh 200 I)) (Ac := (sh 200 A)) (Rc := (sh 200 R)) (Gc := nG) (Xc := (xr200 D ad I A R G X)) (base := base) (As := [.int a0, .int a1]) (rest := []) (b := ad 299) (C := RX1) ⟨hx, hb, hml, hown, hts⟩ (p_mayWalk_met l D s0 h0 (sh 200 ad) (xr200 D ad I A R G X) base (sh 200 I) (sh 200 A) (sh 200 R) pl n ks (xrg200 hR) a0 a1 v4 h4) (g_cwV 2 hts (lw_V q765 q766 q767 q77 q768) rfl rfl p_mayWalk_ds ⟨Nat.le_trans (Nat.le_of_ble_eq_true rfl) hRf, Nat.le_trans (Nat.le_of_ble_eq_true rfl) hRl⟩) (x_recv hK hW xO299 rfl) hK hY (Nat.le_trans hB0 hS.1) (xw200 hW) hcs rfl hl.1 rfl (Nat.le_of_ble_eq_true rfl) dX0_walk_27 ?_
      refine lv_if_ne (tgt := 36) hx hb dX0_walk_30 (by decide) (fun c5 => ?_) (fun c5 => ?_)
      · rw [if_neg c5] at hf
        refine lv_aload_n hx hb dX0_walk_36 rfl (lv_at hl 0 rfl) ?_
        obtain ⟨I6, P7, h7, hf⟩ := ob2_e hf
        refine z_end (Post := HX D ad I6 A R (P7, N, T, (pl, n, ks), Y) base) (ov := none) (va_runV (g := F0 m 37 ls (.ref (ad 199) :: [])) (b := ad 199) (As := []) (rest := []) (C := RX0) ⟨hx, hb, hml, hown, hts⟩ (keep_met l D s0 h0 ad base I A R (P, N, T, (pl, n, ks), Y) r1 r2 de hz _ I6 P7 h7) (cwV 0 hts (lw_V q830 q832 qs19 q76 q833) rfl rfl rfl keep_ds ⟨Nat.le_trans (Nat.le_of_ble_eq_true rfl) hRf, Nat.le_trans (Nat.le_of_ble_eq_true rfl) hRl⟩) ⟨PcH_blind, x_recv hK hW xO199 rfl, pch_at hY hK (Nat.le_trans hB0 hS.1) ⟨G, X, own, af, ra, ta, hF, hAP, hW⟩ (z_low hq0 hB0 hS)⟩ rfl rfl hl.1 rfl (lv_room (m := m) (pc := 37) (ls := ls) (rest := []) (Nat.le_of_ble_eq_true rfl)) dX0_walk_37 ⟨Nat.le_of_ble_eq_true rfl, Nat.le_of_ble_eq_true rfl⟩) hS (fun H locs hH _ hS => ?_)
        obtain ⟨G, X, own, af, ra, ta, hF, hAP, hW⟩ := hH
        have hR := hF.reg
        have hcs : 0 + 10 ≤ (headSpec (ws_ yX0_walk cX0_walk 3 (some .int)) ({ frames := 8, cells := 10, slots := 71, locals := 185 })).room.cells ∧ 0 + 71 ≤ (headSpec (ws_ yX0_walk cX0_walk 3 (some .int)) ({ frames := 8, cells := 10, slots := 71, locals := 185 })).room.slots := ⟨Nat.le_of_ble_eq_true rfl, Nat.le_of_ble_eq_true rfl⟩
        refine lv_aload_n hx hb dX0_walk_40 rfl (lv_at hl 0 rfl) ?_
        refine x_get (v := .ref (ad 299)) hx hb hts hown hK hW xO199 in_X0 rfl 4 (by decide) q228 rfl rfl dX0_walk_41 ?_
        refine x_get (v := .ref (ad 203)) hx hb hts hown hK hW xO299 in_X1 rfl 3 (by decide) q165 rfl rfl dX0_walk_44 ?_
        refine lv_iload_n hx hb dX0_walk_47 rfl (lv_at hl 1 rfl) ?_
        refine lv_dup2_11 hx hb dX0_walk_48 rfl rfl ?_
        obtain ⟨v8, hv8, hf⟩ := ob1_e hf
        refine x_iald hx hb hK hW xA203 hv8 dX0_walk_49 ?_
        refine lv_iload_n hx hb dX0_walk_50 rfl (lv_at hl 2 rfl) ?_
        refine lv_iadd hx hb dX0_walk_51 ?_
        obtain ⟨f9, hf9, hf⟩ := ob1_e hf
        refine x_iast hx hb hK xwf hAP hW hS xA203 hf9 dX0_walk_52 (fun H locs hW hS => ?_)
        refine lv_aload_n hx hb dX0_walk_53 rfl (lv_at hl 0 rfl) ?_
        refine x_get (v := .ref (ad 299)) hx hb hts hown hK hW xO199 in_X0 rfl 4 (by decide) q228 rfl rfl dX0_walk_54 ?_
        refine x_get (v := .ref (ad 203)) hx hb hts hown hK hW xO299 in_X1 rfl 3 (by decide) q165 rfl rfl dX0_walk_57 ?_
        refine lv_iload_n hx hb dX0_walk_60 rfl (lv_at hl 1 rfl) ?_
        obtain ⟨v10, hv10, hf⟩ := ob1_e hf
        refine x_iald hx hb hK hW xA203 hv10 dX0_walk_61 ?_
        obtain ⟨rfl, rfl, rfl, rfl⟩ := so4 hf
        exact W.iret hx hb hr (fun t ht _ => ⟨rfl, by rw [ht]; exact ⟨G, X, own, af, ra, ta, hF, hAP, hW⟩, hS.F ht⟩) hS.2.2 dX0_walk_62
      · rw [if_pos c5] at hf
        refine lv_ldc (v := (-1000002)) hx hb hown (hts _ q756) dX0_walk_33 ?_
        obtain ⟨rfl, rfl, rfl, rfl⟩ := so4 hf
        refine w_more (cells' := 0 + 10) (slots' := 0 + 71) (Nat.le_of_ble_eq_true rfl) (Nat.le_of_ble_eq_true rfl) ?_
        exact W.iret hx hb hr (fun t ht _ => ⟨rfl, by rw [ht]; exact ⟨G, X, own, af, ra, ta, hF, hAP, hW⟩, hS.F ht⟩) hS.2.2 dX0_walk_35
    · rw [if_neg c3] at hf
      refine lv_iload_n hx hb dX0_walk_13 rfl (lv_at hl 2 rfl) ?_
      refine lv_iconst (v := (-1)) hx hb dX0_walk_14 (by decide) ?_
      refine lv_icmp_eq (tgt := 21) hx hb dX0_walk_15 (by decide) (fun c11 => ?_) (fun c11 => ?_)
      · rw [if_pos c11] at hf
        refine lv_aload_n hx hb dX0_walk_21 rfl (lv_at hl 0 rfl) ?_
        refine x_get (v := .ref (ad 299)) hx hb hts hown hK hW xO199 in_X0 rfl 4 (by decide) q228 rfl rfl dX0_walk_22 ?_
        refine lv_iload_n hx hb dX0_walk_25 rfl (lv_at hl 1 rfl) ?_
        refine lv_iload_n hx hb dX0_walk_26 rfl (lv_at hl 2 rfl) ?_
        obtain ⟨v12, h12, hf⟩ := ob1_e hf
        refine x_vR (ov := some (.int v12)) (D := D) (s0 := s0) (Sc := pS) (adc := (sh 200 ad)) (Ic := (sh 200 I)) (Ac := (sh 200 A)) (Rc := (sh 200 R)) (Gc := nG) (Xc := (xr200 D ad I A R G X)) (base := base) (As := [.int a0, .int a1]) (rest := []) (b := ad 299) (C := RX1) ⟨hx, hb, hml, hown, hts⟩ (p_mayWalk_met l D s0 h0 (sh 200 ad) (xr200 D ad I A R G X) base (sh 200 I) (sh 200 A) (sh 200 R) pl n ks (xrg200 hR) a0 a1 v12 h12) (g_cwV 2 hts (lw_V q765 q766 q767 q77 q768) rfl rfl p_mayWalk_ds ⟨Nat.le_trans (Nat.le_of_ble_eq_true rfl) hRf, Nat.le_trans (Nat.le_of_ble_eq_true rfl) hRl⟩) (x_recv hK hW xO299 rfl) hK hY (Nat.le_trans hB0 hS.1) (xw200 hW) hcs rfl hl.1 rfl (Nat.le_of_ble_eq_true rfl) dX0_walk_27 ?_
        refine lv_if_ne (tgt := 36) hx hb dX0_walk_30 (by decide) (fun c13 => ?_) (fun c13 => ?_)
        · rw [if_neg c13] at hf
          refine lv_aload_n hx hb dX0_walk_36 rfl (lv_at hl 0 rfl) ?_
          obtain ⟨I14, P15, h15, hf⟩ := ob2_e hf
          refine z_end (Post := HX D ad I14 A R (P15, N, T, (pl, n, ks), Y) base) (ov := none) (va_runV (g := F0 m 37 ls (.ref (ad 199) :: [])) (b := ad 199) (As := []) (rest := []) (C := RX0) ⟨hx, hb, hml, hown, hts⟩ (keep_met l D s0 h0 ad base I A R (P, N, T, (pl, n, ks), Y) r1 r2 de hz _ I14 P15 h15) (cwV 0 hts (lw_V q830 q832 qs19 q76 q833) rfl rfl rfl keep_ds ⟨Nat.le_trans (Nat.le_of_ble_eq_true rfl) hRf, Nat.le_trans (Nat.le_of_ble_eq_true rfl) hRl⟩) ⟨PcH_blind, x_recv hK hW xO199 rfl, pch_at hY hK (Nat.le_trans hB0 hS.1) ⟨G, X, own, af, ra, ta, hF, hAP, hW⟩ (z_low hq0 hB0 hS)⟩ rfl rfl hl.1 rfl (lv_room (m := m) (pc := 37) (ls := ls) (rest := []) (Nat.le_of_ble_eq_true rfl)) dX0_walk_37 ⟨Nat.le_of_ble_eq_true rfl, Nat.le_of_ble_eq_true rfl⟩) hS (fun H locs hH _ hS => ?_)
          obtain ⟨G, X, own, af, ra, ta, hF, hAP, hW⟩ := hH
          have hR := hF.reg
          have hcs : 0 + 10 ≤ (headSpec (ws_ yX0_walk cX0_walk 3 (some .int)) ({ frames := 8, cells := 10, slots := 71, locals := 185 })).room.cells ∧ 0 + 71 ≤ (headSpec (ws_ yX0_walk cX0_walk 3 (some .int)) ({ frames := 8, cells := 10, slots := 71, locals := 185 })).room.slots := ⟨Nat.le_of_ble_eq_true rfl, Nat.le_of_ble_eq_true rfl⟩
          refine lv_aload_n hx hb dX0_walk_40 rfl (lv_at hl 0 rfl) ?_
          refine x_get (v := .ref (ad 299)) hx hb hts hown hK hW xO199 in_X0 rfl 4 (by decide) q228 rfl rfl dX0_walk_41 ?_
          refine x_get (v := .ref (ad 203)) hx hb hts hown hK hW xO299 in_X1 rfl 3 (by decide) q165 rfl rfl dX0_walk_44 ?_
          refine lv_iload_n hx hb dX0_walk_47 rfl (lv_at hl 1 rfl) ?_
          refine lv_dup2_11 hx hb dX0_walk_48 rfl rfl ?_
          obtain ⟨v16, hv16, hf⟩ := ob1_e hf
          refine x_iald hx hb hK hW xA203 hv16 dX0_walk_49 ?_
          refine lv_iload_n hx hb dX0_walk_50 rfl (lv_at hl 2 rfl) ?_
          refine lv_iadd hx hb dX0_walk_51 ?_
          obtain ⟨f17, hf17, hf⟩ := ob1_e hf
          refine x_iast hx hb hK xwf hAP hW hS xA203 hf17 dX0_walk_52 (fun H locs hW hS => ?_)
          refine lv_aload_n hx hb dX0_walk_53 rfl (lv_at hl 0 rfl) ?_
          refine x_get (v := .ref (ad 299)) hx hb hts hown hK hW xO199 in_X0 rfl 4 (by decide) q228 rfl rfl dX0_walk_54 ?_
          refine x_get (v := .ref (ad 203)) hx hb hts hown hK hW xO299 in_X1 rfl 3 (by decide) q165 rfl rfl dX0_walk_57 ?_
          refine lv_iload_n hx hb dX0_walk_60 rfl (lv_at hl 1 rfl) ?_
          obtain ⟨v18, hv18, hf⟩ := ob1_e hf
          refine x_iald hx hb hK hW xA203 hv18 dX0_walk_61 ?_
          obtain ⟨rfl, rfl, rfl, rfl⟩ := so4 hf
          exact W.iret hx hb hr (fun t ht _ => ⟨rfl, by rw [ht]; exact ⟨G, X, own, af, ra, ta, hF, hAP, hW⟩, hS.F ht⟩) hS.2.2 dX0_walk_62
        · rw [if_pos c13] at hf
          refine lv_ldc (v := (-1000002)) hx hb hown (hts _ q756) dX0_walk_33 ?_
          obtain ⟨rfl, rfl, rfl, rfl⟩ := so4 hf
          refine w_more (cells' := 0 + 10) (slots' := 0 + 71) (Nat.le_of_ble_eq_true rfl) (Nat.le_of_ble_eq_true rfl) ?_
          exact W.iret hx hb hr (fun t ht _ => ⟨rfl, by rw [ht]; exact ⟨G, X, own, af, ra, ta, hF, hAP, hW⟩, hS.F ht⟩) hS.2.2 dX0_walk_35
      · rw [if_neg c11] at hf
        refine lv_ldc (v := (-1000001)) hx hb hown (hts _ q289) dX0_walk_18 ?_
        obtain ⟨rfl, rfl, rfl, rfl⟩ := so4 hf
        refine w_more (cells' := 0 + 10) (slots' := 0 + 71) (Nat.le_of_ble_eq_true rfl) (Nat.le_of_ble_eq_true rfl) ?_
        exact W.iret hx hb hr (fun t ht _ => ⟨rfl, by rw [ht]; exact ⟨G, X, own, af, ra, ta, hF, hAP, hW⟩, hS.F ht⟩) hS.2.2 dX0_walk_20
theorem h_walk_ds : yX0_walk.cls = RX0 ∧ yX0_walk.cls ≠ "java/lang/invoke/MethodHandle" ∧ yX0_walk.cls ≠ "java/lang/invoke/VarHandle" ∧ (parseMethodDescriptor yX0_walk.desc).map (fun d => d.parameters.length) = some 2 := by decide +kernel
def h_give (I : Nat → Int32) (A : Nat → Nat → Int32) (R : Nat → Option Nat) (P : Nat → Option Par) (N : Nat → Option Rw_) (T : Int32 × (Nat → Int32)) (pl n : Nat) (ks : Nat → Nat) (a0 : Int32) (a1 : Int32) (a2 : Int32) (a3 : Int32) (a4 : Int32) : Option (Int32 × (Nat → Int32) × (Nat → Nat → Int32) × (Nat → Option Par)) :=
  ob1 (x_isPerson I A R nG pl n ks a0) fun (v1 : Int32) =>
  if v1 = 0 then (some ((-1000001), I, A, P)) else (ob1 (x_isPerson I A R nG pl n ks a1) fun (v3 : Int32) =>
    if v3 = 0 then (some ((-1000001), I, A, P)) else (if a0 = a1 then (some ((-1000001), I, A, P)) else (ob1 (x_isIn a2.toInt64 1 20) fun (v6 : Int32) =>
        if v6 = 0 then (some ((-1000001), I, A, P)) else (ob1 (x_isIn a3.toInt64 0 99) fun (v8 : Int32) =>
          if v8 = 0 then (some ((-1000001), I, A, P)) else (ob1 (x_isPlace a4) fun (v10 : Int32) =>
            if v10 = 0 then (some ((-1000001), I, A, P)) else (if (I 204) = 8 then (some ((-1000003), I, A, P)) else (ob2 (keepO I A P (pl, n, ks) (I 107).toNatClampNeg) fun (I13 : Nat → Int32) (P14 : Nat → Option Par) =>
                ob2 (p_give (sh 200 I13) (sh 200 A) (sh 200 R) pl n ks a0 a1 a2 a3 a4) fun (I15 : Nat → Int32) (A16 : Nat → Nat → Int32) =>
                some (((mg 200 I13 I15) 204) - 1, mg 200 I13 I15, mg 200 A A16, P14))))))))
set_option maxRecDepth 100000 in
set_option maxHeartbeats 4000000 in
theorem h_give_met (l : Launch) (D : dd_) (s0 : State) (h0 : ∀ w ∈ lw_tbl, va_Nw w s0) (ad : Nat → Nat) (base : Nat) (r1 r2 : Option Nat) (de : Nat) (hz : FZ base s0 r1 r2 de) (I : Nat → Int32) (A : Nat → Nat → Int32) (R : Nat → Option Nat) (P : Nat → Option Par) (N : Nat → Option Rw_) (T : Int32 × (Nat → Int32)) (pl n : Nat) (ks : Nat → Nat) (Y : va_W) (a0 : Int32) (a1 : Int32) (a2 : Int32) (a3 : Int32) (a4 : Int32) (r : Int32) (I1 : (Nat → Int32)) (A1 : (Nat → Nat → Int32)) (P1 : (Nat → Option Par)) (hf : h_give I A R P N T pl n ks a0 a1 a2 a3 a4 = some (r, I1, A1, P1)) : Met l yX0_give (ws_ yX0_give cX0_give 6 (some .int)) ({ frames := 6, cells := 10, slots := 71, locals := 134 }) (PcH D s0 ad I A R (P, N, T, (pl, n, ks), Y) base [.ref (ad 199), .int a0, .int a1, .int a2, .int a3, .int a4]) (QcE (HX D ad I1 A1 R (P1, N, T, (pl, n, ks), Y) base) base (some (.int r))) 10 71 (upB base) := by
  refine Met.ofW (cc := cX0_give) (maxL := 6) (ret := (some .int)) (by decide) rfl ?_
  intro p e s m args below meth c s₁ B hml hv
  obtain ⟨rfl, hK, hY, hB0, hH, hq0⟩ := hv
  obtain ⟨G, X, own, af, ra, ta, hF, hAP, hW⟩ := hH
  have hR := hF.reg
  have hx := B.exec
  have hb := B.bytes
  have hr := B.returns
  have hts0 := atoms_spec (ws := (ws_ yX0_give cX0_give 6 (some .int))) B.pre
  have hts : ∀ w ∈ lw_all, w.before _ s = true := fun w h => hts0 w (List.mem_cons_of_mem _ h)
  have hown : s.vm.findClass RX0 = some m.cls := findClass_of_methodNamed B.named
  have hlocks := B.notSynchronized
  have hRf : 6 ≤ (headSpec (ws_ yX0_give cX0_give 6 (some .int)) ({ frames := 6, cells := 10, slots := 71, locals := 134 })).room.frames := Nat.le_refl _
  have hRl : 134 ≤ (headSpec (ws_ yX0_give cX0_give 6 (some .int)) ({ frames := 6, cells := 10, slots := 71, locals := 134 })).room.locals := Nat.le_refl _
  have hcs : 0 ≤ (headSpec (ws_ yX0_give cX0_give 6 (some .int)) ({ frames := 6, cells := 10, slots := 71, locals := 134 })).room.cells ∧ 0 ≤ (headSpec (ws_ yX0_give cX0_give 6 (some .int)) ({ frames := 6, cells := 10, slots := 71, locals := 134 })).room.slots := ⟨Nat.zero_le _, Nat.zero_le _⟩
  have hS : va_S (upB base) s.heap s.heap [] := va_S.rf
  have hl := lv_entry ([.ref (ad 199), .int a0, .int a1, .int a2, .int a3, .int a4]) (n := 6) (Nat.le_of_ble_eq_true rfl)
  rw [lg_entry_eq]
  generalize (lg_sl ([.ref (ad 199), .int a0, .int a1, .int a2, .int a3, .int a4]) ++ List.replicate (6 - (lg_sl ([.ref (ad 199), .int a0, .int a1, .int a2, .int a3, .int a4])).length) Slot.unset).toArray = ls at hl ⊢
  have hl : lv_has ls 6 [(0, .ref (ad 199)), (1, .int a0), (2, .int a1), (3, .int a2), (4, .int a3), (5, .int a4)] := hl
  have hf : (ob1 (x_isPerson I A R nG pl n ks a0) fun (v1 : Int32) =>
    if v1 = 0 then (some ((-1000001), I, A, P)) else (ob1 (x_isPerson I A R nG pl n ks a1) fun (v3 : Int32) =>
      if v3 = 0 then (some ((-1000001), I, A, P)) else (if a0 = a1 then (some ((-1000001), I, A, P)) else (ob1 (x_isIn a2.toInt64 1 20) fun (v6 : Int32) =>
          if v6 = 0 then (some ((-1000001), I, A, P)) else (ob1 (x_isIn a3.toInt64 0 99) fun (v8 : Int32) =>
            if v8 = 0 then (some ((-1000001), I, A, P)) else (ob1 (x_isPlace a4) fun (v10 : Int32) =>
              if v10 = 0 then (some ((-1000001), I, A, P)) else (if (I 204) = 8 then (some ((-1000003), I, A, P)) else (ob2 (keepO I A P (pl, n, ks) (I 107).toNatClampNeg) fun (I13 : Nat → Int32) (P14 : Nat → Option Par) =>
                  ob2 (p_give (sh 200 I13) (sh 200 A) (sh 200 R) pl n ks a0 a1 a2 a3 a4) fun (I15 : Nat → Int32) (A16 : Nat → Nat → Int32) =>
                  some (((mg 200 I13 I15) 204) - 1, mg 200 I13 I15, mg 200 A A16, P14))))))))) = some (r, I1, A1, P1) := hf
  refine lv_aload_n hx hb dX0_give_0 rfl (lv_at hl 0 rfl) ?_
  refine lv_iload_n hx hb dX0_give_1 rfl (lv_at hl 1 rfl) ?_
  obtain ⟨v1, h1, hf⟩ := ob1_e hf
  refine x_vR (ov := some (.int v1)) (D := D) (s0 := s0) (Sc := xS) (adc := ad) (Ic := I) (Ac := A) (Rc := R) (Gc := G) (Xc := X) (base := base) (As := [.int a0]) (rest := []) (b := ad 199) (C := RX0) ⟨hx, hb, hml, hown, hts⟩ (x_isPerson_met l D s0 h0 ad X base I A R G pl n ks hR a0 v1 h1) (g_cwV 1 hts (lw_V q761 q763 qs18 q76 q764) rfl rfl x_isPerson_ds ⟨Nat.le_trans (Nat.le_of_ble_eq_true rfl) hRf, Nat.le_trans (Nat.le_of_ble_eq_true rfl) hRl⟩) (x_recv hK hW xO199 rfl) hK hY (Nat.le_trans hB0 hS.1) hW hcs rfl hl.1 rfl (Nat.le_of_ble_eq_true rfl) dX0_give_2 ?_
  refine lv_if_eq (tgt := 54) hx hb dX0_give_5 (by decide) (fun c2 => ?_) (fun c2 => ?_)
  · rw [if_pos c2] at hf
    refine lv_ldc (v := (-1000001)) hx hb hown (hts _ q289) dX0_give_54 ?_
    obtain ⟨rfl, rfl, rfl, rfl⟩ := so4 hf
    refine w_more (cells' := 0 + 10) (slots' := 0 + 71) (Nat.le_of_ble_eq_true rfl) (Nat.le_of_ble_eq_true rfl) ?_
    exact W.iret hx hb hr (fun t ht _ => ⟨rfl, by rw [ht]; exact ⟨G, X, own, af, ra, ta, hF, hAP, hW⟩, hS.F ht⟩) hS.2.2 dX0_give_56
  · rw [if_neg c2] at hf
    refine lv_aload_n hx hb dX0_give_8 rfl (lv_at hl 0 rfl) ?_
    refine lv_iload_n hx hb dX0_give_9 rfl (lv_at hl 2 rfl) ?_
    obtain ⟨v3, h3, hf⟩ := ob1_e hf
    refine x_vR (ov := some (.int v3)) (D := D) (s0 := s0) (Sc := xS) (adc := ad) (Ic := I) (Ac := A) (Rc := R) (Gc := G) (Xc := X) (base := base) (As := [.int a1]) (rest := []) (b := ad 199) (C := RX0) ⟨hx, hb, hml, hown, hts⟩ (x_isPerson_met l D s0 h0 ad X base I A R G pl n ks hR a1 v3 h3) (g_cwV 1 hts (lw_V q761 q763 qs18 q76 q764) rfl rfl x_isPerson_ds ⟨Nat.le_trans (Nat.le_of_ble_eq_true rfl) hRf, Nat.le_trans (Nat.le_of_ble_eq_true rfl) hRl⟩) (x_recv hK hW xO199 rfl) hK hY (Nat.le_trans hB0 hS.1) hW hcs rfl hl.1 rfl (Nat.le_of_ble_eq_true rfl) dX0_give_10 ?_
    refine lv_if_eq (tgt := 54) hx hb dX0_give_13 (by decide) (fun c4 => ?_) (fun c4 => ?_)
    · rw [if_pos c4] at hf
      refine lv_ldc (v := (-1000001)) hx hb hown (hts _ q289) dX0_give_54 ?_
      obtain ⟨rfl, rfl, rfl, rfl⟩ := so4 hf
      refine w_more (cells' := 0 + 10) (slots' := 0 + 71) (Nat.le_of_ble_eq_true rfl) (Nat.le_of_ble_eq_true rfl) ?_
      exact W.iret hx hb hr (fun t ht _ => ⟨rfl, by rw [ht]; exact ⟨G, X, own, af, ra, ta, hF, hAP, hW⟩, hS.F ht⟩) hS.2.2 dX0_give_56
    · rw [if_neg c4] at hf
      refine lv_iload_n hx hb dX0_give_16 rfl (lv_at hl 1 rfl) ?_
      refine lv_iload_n hx hb dX0_give_17 rfl (lv_at hl 2 rfl) ?_
      refine lv_icmp_eq (tgt := 54) hx hb dX0_give_18 (by decide) (fun c5 => ?_) (fun c5 => ?_)
      · rw [if_pos c5] at hf
        refine lv_ldc (v := (-1000001)) hx hb hown (hts _ q289) dX0_give_54 ?_
        obtain ⟨rfl, rfl, rfl, rfl⟩ := so4 hf
        refine w_more (cells' := 0 + 10) (slots' := 0 + 71) (Nat.le_of_ble_eq_true rfl) (Nat.le_of_ble_eq_true rfl) ?_
        exact W.iret hx hb hr (fun t ht _ => ⟨rfl, by rw [ht]; exact ⟨G, X, own, af, ra, ta, hF, hAP, hW⟩, hS.F ht⟩) hS.2.2 dX0_give_56
      · rw [if_neg c5] at hf
        refine lv_iload_n hx hb dX0_give_21 rfl (lv_at hl 3 rfl) ?_
        refine lv_i2l (v := a2.toInt64) hx hb dX0_give_22 rfl ?_
        refine lv_lconst (v := 1) hx hb dX0_give_23 (by decide) ?_
        refine lv_ldc2 (v := 20) hx hb hown (hts _ q838) dX0_give_24 ?_
        obtain ⟨v6, h6, hf⟩ := ob1_e hf
        refine x_sR (ov := some (.int v6)) (D := D) (s0 := s0) (Sc := nS) (adc := ad) (Ic := (fun _ => 0)) (Ac := (fun _ _ => 0)) (Rc := nR) (Gc := nG) (Xc := []) (base := base) (As := [.long a2.toInt64, .long 1, .long 20]) (rest := []) ⟨hx, hb, hml, hown, hts⟩ (x_isIn_met l D s0 h0 ad [] base a2.toInt64 1 20 v6 h6) (va_cwS 3 hts (lw_S q285 q286 q76 q287) rfl rfl rfl x_isIn_ds.2 ⟨Nat.le_trans (Nat.le_of_ble_eq_true rfl) hRf, Nat.le_trans (Nat.le_of_ble_eq_true rfl) hRl⟩) hK hY (Nat.le_trans hB0 hS.1) WX_nil hcs rfl hl.1 rfl (Nat.le_of_ble_eq_true rfl) dX0_give_27 ?_
        refine lv_if_eq (tgt := 54) hx hb dX0_give_30 (by decide) (fun c7 => ?_) (fun c7 => ?_)
        · rw [if_pos c7] at hf
          refine lv_ldc (v := (-1000001)) hx hb hown (hts _ q289) dX0_give_54 ?_
          obtain ⟨rfl, rfl, rfl, rfl⟩ := so4 hf
          refine w_more (cells' := 0 + 10) (slots' := 0 + 71) (Nat.le_of_ble_eq_true rfl) (Nat.le_of_ble_eq_true rfl) ?_
          exact W.iret hx hb hr (fun t ht _ => ⟨rfl, by rw [ht]; exact ⟨G, X, own, af, ra, ta, hF, hAP, hW⟩, hS.F ht⟩) hS.2.2 dX0_give_56
        · rw [if_neg c7] at hf
          refine lv_iload hx hb dX0_give_33 (lv_at hl 4 rfl) ?_
          refine lv_i2l (v := a3.toInt64) hx hb dX0_give_35 rfl ?_
          refine lv_lconst (v := 0) hx hb dX0_give_36 (by decide) ?_
          refine lv_ldc2 (v := 99) hx hb hown (hts _ q839) dX0_give_37 ?_
          obtain ⟨v8, h8, hf⟩ := ob1_e hf
          refine x_sR (ov := some (.int v8)) (D := D) (s0 := s0) (Sc := nS) (adc := ad) (Ic := (fun _ => 0)) (Ac := (fun _ _ => 0)) (Rc := nR) (Gc := nG) (Xc := []) (base := base) (As := [.long a3.toInt64, .long 0, .long 99]) (rest := []) ⟨hx, hb, hml, hown, hts⟩ (x_isIn_met l D s0 h0 ad [] base a3.toInt64 0 99 v8 h8) (va_cwS 3 hts (lw_S q285 q286 q76 q287) rfl rfl rfl x_isIn_ds.2 ⟨Nat.le_trans (Nat.le_of_ble_eq_true rfl) hRf, Nat.le_trans (Nat.le_of_ble_eq_true rfl) hRl⟩) hK hY (Nat.le_trans hB0 hS.1) WX_nil hcs rfl hl.1 rfl (Nat.le_of_ble_eq_true rfl) dX0_give_40 ?_
          refine lv_if_eq (tgt := 54) hx hb dX0_give_43 (by decide) (fun c9 => ?_) (fun c9 => ?_)
          · rw [if_pos c9] at hf
            refine lv_ldc (v := (-1000001)) hx hb hown (hts _ q289) dX0_give_54 ?_
            obtain ⟨rfl, rfl, rfl, rfl⟩ := so4 hf
            refine w_more (cells' := 0 + 10) (slots' := 0 + 71) (Nat.le_of_ble_eq_true rfl) (Nat.le_of_ble_eq_true rfl) ?_
            exact W.iret hx hb hr (fun t ht _ => ⟨rfl, by rw [ht]; exact ⟨G, X, own, af, ra, ta, hF, hAP, hW⟩, hS.F ht⟩) hS.2.2 dX0_give_56
          · rw [if_neg c9] at hf
            refine lv_iload hx hb dX0_give_46 (lv_at hl 5 rfl) ?_
            obtain ⟨v10, h10, hf⟩ := ob1_e hf
            refine x_sR (ov := some (.int v10)) (D := D) (s0 := s0) (Sc := nS) (adc := ad) (Ic := (fun _ => 0)) (Ac := (fun _ _ => 0)) (Rc := nR) (Gc := nG) (Xc := []) (base := base) (As := [.int a4]) (rest := []) ⟨hx, hb, hml, hown, hts⟩ (x_isPlace_met l D s0 h0 ad [] base a4 v10 h10) (va_cwS 1 hts (lw_S q840 q841 q76 q842) rfl rfl rfl x_isPlace_ds.2 ⟨Nat.le_trans (Nat.le_of_ble_eq_true rfl) hRf, Nat.le_trans (Nat.le_of_ble_eq_true rfl) hRl⟩) hK hY (Nat.le_trans hB0 hS.1) WX_nil hcs rfl hl.1 rfl (Nat.le_of_ble_eq_true rfl) dX0_give_48 ?_
            refine lv_if_ne (tgt := 57) hx hb dX0_give_51 (by decide) (fun c11 => ?_) (fun c11 => ?_)
            · rw [if_neg c11] at hf
              refine lv_aload_n hx hb dX0_give_57 rfl (lv_at hl 0 rfl) ?_
              refine x_get (v := .ref (ad 299)) hx hb hts hown hK hW xO199 in_X0 rfl 4 (by decide) q228 rfl rfl dX0_give_58 ?_
              refine x_get (v := .int (I 204)) hx hb hts hown hK hW xO299 in_X1 rfl 4 (by decide) q168 rfl rfl dX0_give_61 ?_
              refine lv_bipush (v := 8) hx hb dX0_give_64 (by decide) ?_
              refine lv_icmp_ne (tgt := 72) hx hb dX0_give_66 (by decide) (fun c12 => ?_) (fun c12 => ?_)
              · rw [if_neg c12] at hf
                refine lv_aload_n hx hb dX0_give_72 rfl (lv_at hl 0 rfl) ?_
                obtain ⟨I13, P14, h14, hf⟩ := ob2_e hf
                refine z_end (Post := HX D ad I13 A R (P14, N, T, (pl, n, ks), Y) base) (ov := none) (va_runV (g := F0 m 73 ls (.ref (ad 199) :: [])) (b := ad 199) (As := []) (rest := []) (C := RX0) ⟨hx, hb, hml, hown, hts⟩ (keep_met l D s0 h0 ad base I A R (P, N, T, (pl, n, ks), Y) r1 r2 de hz _ I13 P14 h14) (cwV 0 hts (lw_V q830 q832 qs19 q76 q833) rfl rfl rfl keep_ds ⟨Nat.le_trans (Nat.le_of_ble_eq_true rfl) hRf, Nat.le_trans (Nat.le_of_ble_eq_true rfl) hRl⟩) ⟨PcH_blind, x_recv hK hW xO199 rfl, pch_at hY hK (Nat.le_trans hB0 hS.1) ⟨G, X, own, af, ra, ta, hF, hAP, hW⟩ (z_low hq0 hB0 hS)⟩ rfl rfl hl.1 rfl (lv_room (m := m) (pc := 73) (ls := ls) (rest := []) (Nat.le_of_ble_eq_true rfl)) dX0_give_73 ⟨Nat.le_of_ble_eq_true rfl, Nat.le_of_ble_eq_true rfl⟩) hS (fun H locs hH _ hS => ?_)
                obtain ⟨G, X, own, af, ra, ta, hF, hAP, hW⟩ := hH
                have hR := hF.reg
                have hcs : 0 + 10 ≤ (headSpec (ws_ yX0_give cX0_give 6 (some .int)) ({ frames := 6, cells := 10, slots := 71, locals := 134 })).room.cells ∧ 0 + 71 ≤ (headSpec (ws_ yX0_give cX0_give 6 (some .int)) ({ frames := 6, cells := 10, slots := 71, locals := 134 })).room.slots := ⟨Nat.le_of_ble_eq_true rfl, Nat.le_of_ble_eq_true rfl⟩
                refine lv_aload_n hx hb dX0_give_76 rfl (lv_at hl 0 rfl) ?_
                refine x_get (v := .ref (ad 299)) hx hb hts hown hK hW xO199 in_X0 rfl 4 (by decide) q228 rfl rfl dX0_give_77 ?_
                refine lv_iload_n hx hb dX0_give_80 rfl (lv_at hl 1 rfl) ?_
                refine lv_iload_n hx hb dX0_give_81 rfl (lv_at hl 2 rfl) ?_
                refine lv_iload_n hx hb dX0_give_82 rfl (lv_at hl 3 rfl) ?_
                refine lv_iload hx hb dX0_give_83 (lv_at hl 4 rfl) ?_
                refine lv_iload hx hb dX0_give_85 (lv_at hl 5 rfl) ?_
                obtain ⟨I15, A16, h16, hf⟩ := ob2_e hf
                refine x_vW (ov := none) (D := D) (s0 := s0) (Sc := pS) (adc := (sh 200 ad)) (Ic := (sh 200 I13)) (Ac := (sh 200 A)) (Rc := (sh 200 R)) (Gc := nG) (Xc := (xr200 D ad I13 A R G X)) (base := base) (As := [.int a0, .int a1, .int a2, .int a3, .int a4]) (rest := []) (Ic1 := I15) (Ac1 := A16) (Rc1 := (sh 200 R)) (Gc1 := nG) (Xc1 := (xr200 D ad I13 A R G X)) (b := ad 299) (C := RX1) ⟨hx, hb, hml, hown, hts⟩ (p_give_met l D s0 h0 (sh 200 ad) (xr200 D ad I13 A R G X) base (xap200 hAP) (sh 200 I13) (sh 200 A) (sh 200 R) pl n ks (xrg200 hR) a0 a1 a2 a3 a4 I15 A16 h16) (g_cwV 5 hts (lw_V q844 q738 q739 q77 q740) rfl rfl p_give_ds ⟨Nat.le_trans (Nat.le_of_ble_eq_true rfl) hRf, Nat.le_trans (Nat.le_of_ble_eq_true rfl) hRl⟩) (x_recv hK hW xO299 rfl) hK hY (Nat.le_trans hB0 hS.1) (xw200 hW) hS hcs rfl hl.1 rfl (Nat.le_of_ble_eq_true rfl) dX0_give_87 (fun H locs hW hS => ?_)
                have hW : WX D xS ad (mg 200 I13 I15) (mg 200 A A16) R G X H := xu200 rfl rfl (mg_sh 200 _).symm hW
                refine lv_aload_n hx hb dX0_give_90 rfl (lv_at hl 0 rfl) ?_
                refine x_get (v := .ref (ad 299)) hx hb hts hown hK hW xO199 in_X0 rfl 4 (by decide) q228 rfl rfl dX0_give_91 ?_
                refine x_get (v := .int ((mg 200 I13 I15) 204)) hx hb hts hown hK hW xO299 in_X1 rfl 4 (by decide) q168 rfl rfl dX0_give_94 ?_
                refine lv_iconst (v := 1) hx hb dX0_give_97 (by decide) ?_
                refine lv_isub hx hb dX0_give_98 ?_
                obtain ⟨rfl, rfl, rfl, rfl⟩ := so4 hf
                exact W.iret hx hb hr (fun t ht _ => ⟨rfl, by rw [ht]; exact ⟨G, X, own, af, ra, ta, hF, hAP, hW⟩, hS.F ht⟩) hS.2.2 dX0_give_99
              · rw [if_pos c12] at hf
                refine lv_ldc (v := (-1000003)) hx hb hown (hts _ q443) dX0_give_69 ?_
                obtain ⟨rfl, rfl, rfl, rfl⟩ := so4 hf
                refine w_more (cells' := 0 + 10) (slots' := 0 + 71) (Nat.le_of_ble_eq_true rfl) (Nat.le_of_ble_eq_true rfl) ?_
                exact W.iret hx hb hr (fun t ht _ => ⟨rfl, by rw [ht]; exact ⟨G, X, own, af, ra, ta, hF, hAP, hW⟩, hS.F ht⟩) hS.2.2 dX0_give_71
            · rw [if_pos c11] at hf
              refine lv_ldc (v := (-1000001)) hx hb hown (hts _ q289) dX0_give_54 ?_
              obtain ⟨rfl, rfl, rfl, rfl⟩ := so4 hf
              refine w_more (cells' := 0 + 10) (slots' := 0 + 71) (Nat.le_of_ble_eq_true rfl) (Nat.le_of_ble_eq_true rfl) ?_
              exact W.iret hx hb hr (fun t ht _ => ⟨rfl, by rw [ht]; exact ⟨G, X, own, af, ra, ta, hF, hAP, hW⟩, hS.F ht⟩) hS.2.2 dX0_give_56
theorem h_give_ds : yX0_give.cls = RX0 ∧ yX0_give.cls ≠ "java/lang/invoke/MethodHandle" ∧ yX0_give.cls ≠ "java/lang/invoke/VarHandle" ∧ (parseMethodDescriptor yX0_give.desc).map (fun d => d.parameters.length) = some 5 := by decide +kernel
def h_redeem (I : Nat → Int32) (A : Nat → Nat → Int32) (R : Nat → Option Nat) (P : Nat → Option Par) (N : Nat → Option Rw_) (T : Int32 × (Nat → Int32)) (pl n : Nat) (ks : Nat → Nat) (a0 : Int32) : Option (Int32 × (Nat → Int32) × (Nat → Option Par)) :=
  ob1 (x_isPromise I A R nG pl n ks a0) fun (v1 : Int32) =>
  if v1 = 0 then (some ((-1000001), I, P)) else (ob1 (x_has (I 210) a0) fun (v3 : Int32) =>
    if v3 = 0 then (ob1 (ldO (A 205) 8 a0) fun (v5 : Int32) =>
      ob1 (ldO (A 203) 5 v5) fun (v6 : Int32) =>
      ob1 (ldO (A 209) 8 a0) fun (v7 : Int32) =>
      if v6 = v7 then (ob2 (keepO I A P (pl, n, ks) (I 107).toNatClampNeg) fun (I9 : Nat → Int32) (P10 : Nat → Option Par) =>
        ob1 (ldO (A 208) 8 a0) fun (v11 : Int32) =>
        ob1 (if v11 < ((upd I9 210 ((I9 210) ||| ((1 : Int32) <<< (a0 &&& 31)))) 211) then ((some 0 : Option (Int32))) else ((some 1 : Option (Int32)))) fun (v12 : Int32) =>
        some (v12, upd I9 210 ((I9 210) ||| ((1 : Int32) <<< (a0 &&& 31))), P10)) else (some ((-1000002), I, P))) else (some ((-1000002), I, P)))
set_option maxRecDepth 100000 in
set_option maxHeartbeats 4000000 in
theorem h_redeem_met (l : Launch) (D : dd_) (s0 : State) (h0 : ∀ w ∈ lw_tbl, va_Nw w s0) (ad : Nat → Nat) (base : Nat) (r1 r2 : Option Nat) (de : Nat) (hz : FZ base s0 r1 r2 de) (I : Nat → Int32) (A : Nat → Nat → Int32) (R : Nat → Option Nat) (P : Nat → Option Par) (N : Nat → Option Rw_) (T : Int32 × (Nat → Int32)) (pl n : Nat) (ks : Nat → Nat) (Y : va_W) (a0 : Int32) (r : Int32) (I1 : (Nat → Int32)) (P1 : (Nat → Option Par)) (hf : h_redeem I A R P N T pl n ks a0 = some (r, I1, P1)) : Met l yX0_redeem (ws_ yX0_redeem cX0_redeem 2 (some .int)) ({ frames := 6, cells := 10, slots := 71, locals := 134 }) (PcH D s0 ad I A R (P, N, T, (pl, n, ks), Y) base [.ref (ad 199), .int a0]) (QcE (HX D ad I1 A R (P1, N, T, (pl, n, ks), Y) base) base (some (.int r))) 10 71 (upB base) := by
  refine Met.ofW (cc := cX0_redeem) (maxL := 2) (ret := (some .int)) (by decide) rfl ?_
  intro p e s m args below meth c s₁ B hml hv
  obtain ⟨rfl, hK, hY, hB0, hH, hq0⟩ := hv
  obtain ⟨G, X, own, af, ra, ta, hF, hAP, hW⟩ := hH
  have hR := hF.reg
  have hx := B.exec
  have hb := B.bytes
  have hr := B.returns
  have hts0 := atoms_spec (ws := (ws_ yX0_redeem cX0_redeem 2 (some .int))) B.pre
  have hts : ∀ w ∈ lw_all, w.before _ s = true := fun w h => hts0 w (List.mem_cons_of_mem _ h)
  have hown : s.vm.findClass RX0 = some m.cls := findClass_of_methodNamed B.named
  have hlocks := B.notSynchronized
  have hRf : 6 ≤ (headSpec (ws_ yX0_redeem cX0_redeem 2 (some .int)) ({ frames := 6, cells := 10, slots := 71, locals := 134 })).room.frames := Nat.le_refl _
  have hRl : 134 ≤ (headSpec (ws_ yX0_redeem cX0_redeem 2 (some .int)) ({ frames := 6, cells := 10, slots := 71, locals := 134 })).room.locals := Nat.le_refl _
  have hcs : 0 ≤ (headSpec (ws_ yX0_redeem cX0_redeem 2 (some .int)) ({ frames := 6, cells := 10, slots := 71, locals := 134 })).room.cells ∧ 0 ≤ (headSpec (ws_ yX0_redeem cX0_redeem 2 (some .int)) ({ frames := 6, cells := 10, slots := 71, locals := 134 })).room.slots := ⟨Nat.zero_le _, Nat.zero_le _⟩
  have hS : va_S (upB base) s.heap s.heap [] := va_S.rf
  have hl := lv_entry ([.ref (ad 199), .int a0]) (n := 2) (Nat.le_of_ble_eq_true rfl)
  rw [lg_entry_eq]
  generalize (lg_sl ([.ref (ad 199), .int a0]) ++ List.replicate (2 - (lg_sl ([.ref (ad 199), .int a0])).length) Slot.unset).toArray = ls at hl ⊢
  have hl : lv_has ls 2 [(0, .ref (ad 199)), (1, .int a0)] := hl
  have hf : (ob1 (x_isPromise I A R nG pl n ks a0) fun (v1 : Int32) =>
    if v1 = 0 then (some ((-1000001), I, P)) else (ob1 (x_has (I 210) a0) fun (v3 : Int32) =>
      if v3 = 0 then (ob1 (ldO (A 205) 8 a0) fun (v5 : Int32) =>
        ob1 (ldO (A 203) 5 v5) fun (v6 : Int32) =>
        ob1 (ldO (A 209) 8 a0) fun (v7 : Int32) =>
        if v6 = v7 then (ob2 (keepO I A P (pl, n, ks) (I 107).toNatClampNeg) fun (I9 : Nat → Int32) (P10 : Nat → Option Par) =>
          ob1 (ldO (A 208) 8 a0) fun (v11 : Int32) =>
          ob1 (if v11 < ((upd I9 210 ((I9 210) ||| ((1 : Int32) <<< (a0 &&& 31)))) 211) then ((some 0 : Option (Int32))) else ((some 1 : Option (Int32)))) fun (v12 : Int32) =>
          some (v12, upd I9 210 ((I9 210) ||| ((1 : Int32) <<< (a0 &&& 31))), P10)) else (some ((-1000002), I, P))) else (some ((-1000002), I, P)))) = some (r, I1, P1) := hf
  refine lv_aload_n hx hb dX0_redeem_0 rfl (lv_at hl 0 rfl) ?_
  refine lv_iload_n hx hb dX0_redeem_1 rfl (lv_at hl 1 rfl) ?_
  obtain ⟨v1, h1, hf⟩ := ob1_e hf
  refine x_vR (ov := some (.int v1)) (D := D) (s0 := s0) (Sc := xS) (adc := ad) (Ic := I) (Ac := A) (Rc := R) (Gc := G) (Xc := X) (base := base) (As := [.int a0]) (rest := []) (b := ad 199) (C := RX0) ⟨hx, hb, hml, hown, hts⟩ (x_isPromise_met l D s0 h0 ad X base I A R G pl n ks hR a0 v1 h1) (g_cwV 1 hts (lw_V q849 q851 qs20 q76 q852) rfl rfl x_isPromise_ds ⟨Nat.le_trans (Nat.le_of_ble_eq_true rfl) hRf, Nat.le_trans (Nat.le_of_ble_eq_true rfl) hRl⟩) (x_recv hK hW xO199 rfl) hK hY (Nat.le_trans hB0 hS.1) hW hcs rfl hl.1 rfl (Nat.le_of_ble_eq_true rfl) dX0_redeem_2 ?_
  refine lv_if_ne (tgt := 11) hx hb dX0_redeem_5 (by decide) (fun c2 => ?_) (fun c2 => ?_)
  · rw [if_neg c2] at hf
    refine lv_aload_n hx hb dX0_redeem_11 rfl (lv_at hl 0 rfl) ?_
    refine x_get (v := .ref (ad 299)) hx hb hts hown hK hW xO199 in_X0 rfl 4 (by decide) q228 rfl rfl dX0_redeem_12 ?_
    refine x_get (v := .int (I 210)) hx hb hts hown hK hW xO299 in_X1 rfl 10 (by decide) q180 rfl rfl dX0_redeem_15 ?_
    refine lv_iload_n hx hb dX0_redeem_18 rfl (lv_at hl 1 rfl) ?_
    obtain ⟨v3, h3, hf⟩ := ob1_e hf
    refine x_sR (ov := some (.int v3)) (D := D) (s0 := s0) (Sc := nS) (adc := ad) (Ic := (fun _ => 0)) (Ac := (fun _ _ => 0)) (Rc := nR) (Gc := nG) (Xc := []) (base := base) (As := [.int (I 210), .int a0]) (rest := []) ⟨hx, hb, hml, hown, hts⟩ (x_has_met l D s0 h0 ad [] base (I 210) a0 v3 h3) (va_cwS 2 hts (lw_S q853 q784 q76 q785) rfl rfl rfl x_has_ds.2 ⟨Nat.le_trans (Nat.le_of_ble_eq_true rfl) hRf, Nat.le_trans (Nat.le_of_ble_eq_true rfl) hRl⟩) hK hY (Nat.le_trans hB0 hS.1) WX_nil hcs rfl hl.1 rfl (Nat.le_of_ble_eq_true rfl) dX0_redeem_19 ?_
    refine lv_if_ne (tgt := 54) hx hb dX0_redeem_22 (by decide) (fun c4 => ?_) (fun c4 => ?_)
    · rw [if_neg c4] at hf
      refine lv_ldc (v := (-1000002)) hx hb hown (hts _ q756) dX0_redeem_54 ?_
      obtain ⟨rfl, rfl, rfl⟩ := so3 hf
      refine w_more (cells' := 0 + 10) (slots' := 0 + 71) (Nat.le_of_ble_eq_true rfl) (Nat.le_of_ble_eq_true rfl) ?_
      exact W.iret hx hb hr (fun t ht _ => ⟨rfl, by rw [ht]; exact ⟨G, X, own, af, ra, ta, hF, hAP, hW⟩, hS.F ht⟩) hS.2.2 dX0_redeem_56
    · rw [if_pos c4] at hf
      refine lv_aload_n hx hb dX0_redeem_25 rfl (lv_at hl 0 rfl) ?_
      refine x_get (v := .ref (ad 299)) hx hb hts hown hK hW xO199 in_X0 rfl 4 (by decide) q228 rfl rfl dX0_redeem_26 ?_
      refine x_get (v := .ref (ad 203)) hx hb hts hown hK hW xO299 in_X1 rfl 3 (by decide) q165 rfl rfl dX0_redeem_29 ?_
      refine lv_aload_n hx hb dX0_redeem_32 rfl (lv_at hl 0 rfl) ?_
      refine x_get (v := .ref (ad 299)) hx hb hts hown hK hW xO199 in_X0 rfl 4 (by decide) q228 rfl rfl dX0_redeem_33 ?_
      refine x_get (v := .ref (ad 205)) hx hb hts hown hK hW xO299 in_X1 rfl 5 (by decide) q170 rfl rfl dX0_redeem_36 ?_
      refine lv_iload_n hx hb dX0_redeem_39 rfl (lv_at hl 1 rfl) ?_
      obtain ⟨v5, hv5, hf⟩ := ob1_e hf
      refine x_iald hx hb hK hW xA205 hv5 dX0_redeem_40 ?_
      obtain ⟨v6, hv6, hf⟩ := ob1_e hf
      refine x_iald hx hb hK hW xA203 hv6 dX0_redeem_41 ?_
      refine lv_aload_n hx hb dX0_redeem_42 rfl (lv_at hl 0 rfl) ?_
      refine x_get (v := .ref (ad 299)) hx hb hts hown hK hW xO199 in_X0 rfl 4 (by decide) q228 rfl rfl dX0_redeem_43 ?_
      refine x_get (v := .ref (ad 209)) hx hb hts hown hK hW xO299 in_X1 rfl 9 (by decide) q178 rfl rfl dX0_redeem_46 ?_
      refine lv_iload_n hx hb dX0_redeem_49 rfl (lv_at hl 1 rfl) ?_
      obtain ⟨v7, hv7, hf⟩ := ob1_e hf
      refine x_iald hx hb hK hW xA209 hv7 dX0_redeem_50 ?_
      refine lv_icmp_eq (tgt := 57) hx hb dX0_redeem_51 (by decide) (fun c8 => ?_) (fun c8 => ?_)
      · rw [if_pos c8] at hf
        refine lv_aload_n hx hb dX0_redeem_57 rfl (lv_at hl 0 rfl) ?_
        obtain ⟨I9, P10, h10, hf⟩ := ob2_e hf
        refine z_end (Post := HX D ad I9 A R (P10, N, T, (pl, n, ks), Y) base) (ov := none) (va_runV (g := F0 m 58 ls (.ref (ad 199) :: [])) (b := ad 199) (As := []) (rest := []) (C := RX0) ⟨hx, hb, hml, hown, hts⟩ (keep_met l D s0 h0 ad base I A R (P, N, T, (pl, n, ks), Y) r1 r2 de hz _ I9 P10 h10) (cwV 0 hts (lw_V q830 q832 qs19 q76 q833) rfl rfl rfl keep_ds ⟨Nat.le_trans (Nat.le_of_ble_eq_true rfl) hRf, Nat.le_trans (Nat.le_of_ble_eq_true rfl) hRl⟩) ⟨PcH_blind, x_recv hK hW xO199 rfl, pch_at hY hK (Nat.le_trans hB0 hS.1) ⟨G, X, own, af, ra, ta, hF, hAP, hW⟩ (z_low hq0 hB0 hS)⟩ rfl rfl hl.1 rfl (lv_room (m := m) (pc := 58) (ls := ls) (rest := []) (Nat.le_of_ble_eq_true rfl)) dX0_redeem_58 ⟨Nat.le_of_ble_eq_true rfl, Nat.le_of_ble_eq_true rfl⟩) hS (fun H locs hH _ hS => ?_)
        obtain ⟨G, X, own, af, ra, ta, hF, hAP, hW⟩ := hH
        have hR := hF.reg
        have hcs : 0 + 10 ≤ (headSpec (ws_ yX0_redeem cX0_redeem 2 (some .int)) ({ frames := 6, cells := 10, slots := 71, locals := 134 })).room.cells ∧ 0 + 71 ≤ (headSpec (ws_ yX0_redeem cX0_redeem 2 (some .int)) ({ frames := 6, cells := 10, slots := 71, locals := 134 })).room.slots := ⟨Nat.le_of_ble_eq_true rfl, Nat.le_of_ble_eq_true rfl⟩
        refine lv_aload_n hx hb dX0_redeem_61 rfl (lv_at hl 0 rfl) ?_
        refine x_get (v := .ref (ad 299)) hx hb hts hown hK hW xO199 in_X0 rfl 4 (by decide) q228 rfl rfl dX0_redeem_62 ?_
        refine lv_dup hx hb dX0_redeem_65 rfl ?_
        refine x_get (v := .int (I9 210)) hx hb hts hown hK hW xO299 in_X1 rfl 10 (by decide) q180 rfl rfl dX0_redeem_66 ?_
        refine lv_iconst (v := 1) hx hb dX0_redeem_69 (by decide) ?_
        refine lv_iload_n hx hb dX0_redeem_70 rfl (lv_at hl 1 rfl) ?_
        refine lv_ishl hx hb dX0_redeem_71 ?_
        refine lv_ior hx hb dX0_redeem_72 ?_
        refine x_putI hx hb hts hown hK xwf hAP hW hS xO299 in_X1 tyX1 tyX1_ok nmX1 rfl 10 210 (by decide) rfl q180 rfl rfl (by decide +kernel) dX0_redeem_73 (fun H locs hW hS => ?_)
        refine lv_aload_n hx hb dX0_redeem_76 rfl (lv_at hl 0 rfl) ?_
        refine x_get (v := .ref (ad 299)) hx hb hts hown hK hW xO199 in_X0 rfl 4 (by decide) q228 rfl rfl dX0_redeem_77 ?_
        refine x_get (v := .int ((upd I9 210 ((I9 210) ||| ((1 : Int32) <<< (a0 &&& 31)))) 211)) hx hb hts hown hK hW xO299 in_X1 rfl 11 (by decide) q182 rfl rfl dX0_redeem_80 ?_
        refine lv_aload_n hx hb dX0_redeem_83 rfl (lv_at hl 0 rfl) ?_
        refine x_get (v := .ref (ad 299)) hx hb hts hown hK hW xO199 in_X0 rfl 4 (by decide) q228 rfl rfl dX0_redeem_84 ?_
        refine x_get (v := .ref (ad 208)) hx hb hts hown hK hW xO299 in_X1 rfl 8 (by decide) q176 rfl rfl dX0_redeem_87 ?_
        refine lv_iload_n hx hb dX0_redeem_90 rfl (lv_at hl 1 rfl) ?_
        obtain ⟨v11, hv11, hf⟩ := ob1_e hf
        refine x_iald hx hb hK hW xA208 hv11 dX0_redeem_91 ?_
        obtain ⟨v12, hm12, hf⟩ := ob1_e hf
        refine w_cutL (nL := 2) (L := []) (pcj := 100) (st := [.int v12]) (fun ls hl => ?_) (fun K12 => ?_)
        · obtain ⟨rfl, rfl, rfl⟩ := so3 hf
          exact W.iret hx hb hr (fun t ht _ => ⟨rfl, by rw [ht]; exact ⟨G, X, own, af, ra, ta, hF, hAP, hW⟩, hS.F ht⟩) hS.2.2 dX0_redeem_100
        · refine lv_icmp_gt (tgt := 99) hx hb dX0_redeem_92 (by decide) (fun c13 => ?_) (fun c13 => ?_)
          · rw [if_pos c13] at hm12
            refine lv_iconst (v := 0) hx hb dX0_redeem_99 (by decide) ?_
            obtain rfl := so1 hm12
            exact K12 ls (lv_sub hl [] rfl)
          · rw [if_neg c13] at hm12
            refine lv_iconst (v := 1) hx hb dX0_redeem_95 (by decide) ?_
            refine lv_goto (tgt := 100) hx hb dX0_redeem_96 (by decide) ?_
            obtain rfl := so1 hm12
            exact K12 ls (lv_sub hl [] rfl)
      · rw [if_neg c8] at hf
        refine lv_ldc (v := (-1000002)) hx hb hown (hts _ q756) dX0_redeem_54 ?_
        obtain ⟨rfl, rfl, rfl⟩ := so3 hf
        refine w_more (cells' := 0 + 10) (slots' := 0 + 71) (Nat.le_of_ble_eq_true rfl) (Nat.le_of_ble_eq_true rfl) ?_
        exact W.iret hx hb hr (fun t ht _ => ⟨rfl, by rw [ht]; exact ⟨G, X, own, af, ra, ta, hF, hAP, hW⟩, hS.F ht⟩) hS.2.2 dX0_redeem_56
  · rw [if_pos c2] at hf
    refine lv_ldc (v := (-1000001)) hx hb hown (hts _ q289) dX0_redeem_8 ?_
    obtain ⟨rfl, rfl, rfl⟩ := so3 hf
    refine w_more (cells' := 0 + 10) (slots' := 0 + 71) (Nat.le_of_ble_eq_true rfl) (Nat.le_of_ble_eq_true rfl) ?_
    exact W.iret hx hb hr (fun t ht _ => ⟨rfl, by rw [ht]; exact ⟨G, X, own, af, ra, ta, hF, hAP, hW⟩, hS.F ht⟩) hS.2.2 dX0_redeem_10
theorem h_redeem_ds : yX0_redeem.cls = RX0 ∧ yX0_redeem.cls ≠ "java/lang/invoke/MethodHandle" ∧ yX0_redeem.cls ≠ "java/lang/invoke/VarHandle" ∧ (parseMethodDescriptor yX0_redeem.desc).map (fun d => d.parameters.length) = some 1 := by decide +kernel
def h_pass (I : Nat → Int32) (A : Nat → Nat → Int32) (R : Nat → Option Nat) (P : Nat → Option Par) (N : Nat → Option Rw_) (T : Int32 × (Nat → Int32)) (pl n : Nat) (ks : Nat → Nat) (a0 : Int32) (a1 : Int32) : Option (Int32 × (Nat → Int32) × (Nat → Nat → Int32) × (Nat → Option Par)) :=
  ob1 (x_isPromise I A R nG pl n ks a0) fun (v1 : Int32) =>
  if v1 = 0 then (some ((-1000001), I, A, P)) else (ob1 (x_isPerson I A R nG pl n ks a1) fun (v3 : Int32) =>
    if v3 = 0 then (some ((-1000001), I, A, P)) else (ob1 (x_has (I 210) a0) fun (v5 : Int32) =>
      if v5 = 0 then (ob1 (ldO (A 206) 8 a0) fun (v7 : Int32) =>
        if v7 = a1 then (some ((-1000002), I, A, P)) else (ob1 (ldO (A 205) 8 a0) fun (v9 : Int32) =>
          if v9 = a1 then (some ((-1000002), I, A, P)) else (ob2 (keepO I A P (pl, n, ks) (I 107).toNatClampNeg) fun (I11 : Nat → Int32) (P12 : Nat → Option Par) =>
            ob1 (stO (A 205) 8 a0 a1) fun (f13 : Nat → Int32) =>
            ob1 (p_load (sh 200 I11) (sh 200 (va_up A 205 f13)) (sh 200 R) pl n ks a1) fun (v14 : Int32) =>
            some (v14, I11, va_up A 205 f13, P12)))) else (some ((-1000002), I, A, P))))
set_option maxRecDepth 100000 in
set_option maxHeartbeats 4000000 in
theorem h_pass_met (l : Launch) (D : dd_) (s0 : State) (h0 : ∀ w ∈ lw_tbl, va_Nw w s0) (ad : Nat → Nat) (base : Nat) (r1 r2 : Option Nat) (de : Nat) (hz : FZ base s0 r1 r2 de) (I : Nat → Int32) (A : Nat → Nat → Int32) (R : Nat → Option Nat) (P : Nat → Option Par) (N : Nat → Option Rw_) (T : Int32 × (Nat → Int32)) (pl n : Nat) (ks : Nat → Nat) (Y : va_W) (a0 : Int32) (a1 : Int32) (r : Int32) (I1 : (Nat → Int32)) (A1 : (Nat → Nat → Int32)) (P1 : (Nat → Option Par)) (hf : h_pass I A R P N T pl n ks a0 a1 = some (r, I1, A1, P1)) : Met l yX0_pass (ws_ yX0_pass cX0_pass 3 (some .int)) ({ frames := 7, cells := 10, slots := 71, locals := 162 }) (PcH D s0 ad I A R (P, N, T, (pl, n, ks), Y) base [.ref (ad 199), .int a0, .int a1]) (QcE (HX D ad I1 A1 R (P1, N, T, (pl, n, ks), Y) base) base (some (.int r))) 10 71 (upB base) := by
  refine Met.ofW (cc := cX0_pass) (maxL := 3) (ret := (some .int)) (by decide) rfl ?_
  intro p e s m args below meth c s₁ B hml hv
  obtain ⟨rfl, hK, hY, hB0, hH, hq0⟩ := hv
  obtain ⟨G, X, own, af, ra, ta, hF, hAP, hW⟩ := hH
  have hR := hF.reg
  have hx := B.exec
  have hb := B.bytes
  have hr := B.returns
  have hts0 := atoms_spec (ws := (ws_ yX0_pass cX0_pass 3 (some .int))) B.pre
  have hts : ∀ w ∈ lw_all, w.before _ s = true := fun w h => hts0 w (List.mem_cons_of_mem _ h)
  have hown : s.vm.findClass RX0 = some m.cls := findClass_of_methodNamed B.named
  have hlocks := B.notSynchronized
  have hRf : 7 ≤ (headSpec (ws_ yX0_pass cX0_pass 3 (some .int)) ({ frames := 7, cells := 10, slots := 71, locals := 162 })).room.frames := Nat.le_refl _
  have hRl : 162 ≤ (headSpec (ws_ yX0_pass cX0_pass 3 (some .int)) ({ frames := 7, cells := 10, slots := 71, locals := 162 })).room.locals := Nat.le_refl _
  have hcs : 0 ≤ (headSpec (ws_ yX0_pass cX0_pass 3 (some .int)) ({ frames := 7, cells := 10, slots := 71, locals := 162 })).room.cells ∧ 0 ≤ (headSpec (ws_ yX0_pass cX0_pass 3 (some .int)) ({ frames := 7, cells := 10, slots := 71, locals := 162 })).room.slots := ⟨Nat.zero_le _, Nat.zero_le _⟩
  have hS : va_S (upB base) s.heap s.heap [] := va_S.rf
  have hl := lv_entry ([.ref (ad 199), .int a0, .int a1]) (n := 3) (Nat.le_of_ble_eq_true rfl)
  rw [lg_entry_eq]
  generalize (lg_sl ([.ref (ad 199), .int a0, .int a1]) ++ List.replicate (3 - (lg_sl ([.ref (ad 199), .int a0, .int a1])).length) Slot.unset).toArray = ls at hl ⊢
  have hl : lv_has ls 3 [(0, .ref (ad 199)), (1, .int a0), (2, .int a1)] := hl
  have hf : (ob1 (x_isPromise I A R nG pl n ks a0) fun (v1 : Int32) =>
    if v1 = 0 then (some ((-1000001), I, A, P)) else (ob1 (x_isPerson I A R nG pl n ks a1) fun (v3 : Int32) =>
      if v3 = 0 then (some ((-1000001), I, A, P)) else (ob1 (x_has (I 210) a0) fun (v5 : Int32) =>
        if v5 = 0 then (ob1 (ldO (A 206) 8 a0) fun (v7 : Int32) =>
          if v7 = a1 then (some ((-1000002), I, A, P)) else (ob1 (ldO (A 205) 8 a0) fun (v9 : Int32) =>
            if v9 = a1 then (some ((-1000002), I, A, P)) else (ob2 (keepO I A P (pl, n, ks) (I 107).toNatClampNeg) fun (I11 : Nat → Int32) (P12 : Nat → Option Par) =>
              ob1 (stO (A 205) 8 a0 a1) fun (f13 : Nat → Int32) =>
              ob1 (p_load (sh 200 I11) (sh 200 (va_up A 205 f13)) (sh 200 R) pl n ks a1) fun (v14 : Int32) =>
              some (v14, I11, va_up A 205 f13, P12)))) else (some ((-1000002), I, A, P))))) = some (r, I1, A1, P1) := hf
  refine lv_aload_n hx hb dX0_pass_0 rfl (lv_at hl 0 rfl) ?_
  refine lv_iload_n hx hb dX0_pass_1 rfl (lv_at hl 1 rfl) ?_
  obtain ⟨v1, h1, hf⟩ := ob1_e hf
  refine x_vR (ov := some (.int v1)) (D := D) (s0 := s0) (Sc := xS) (adc := ad) (Ic := I) (Ac := A) (Rc := R) (Gc := G) (Xc := X) (base := base) (As := [.int a0]) (rest := []) (b := ad 199) (C := RX0) ⟨hx, hb, hml, hown, hts⟩ (x_isPromise_met l D s0 h0 ad X base I A R G pl n ks hR a0 v1 h1) (g_cwV 1 hts (lw_V q849 q851 qs20 q76 q852) rfl rfl x_isPromise_ds ⟨Nat.le_trans (Nat.le_of_ble_eq_true rfl) hRf, Nat.le_trans (Nat.le_of_ble_eq_true rfl) hRl⟩) (x_recv hK hW xO199 rfl) hK hY (Nat.le_trans hB0 hS.1) hW hcs rfl hl.1 rfl (Nat.le_of_ble_eq_true rfl) dX0_pass_2 ?_
  refine lv_if_eq (tgt := 16) hx hb dX0_pass_5 (by decide) (fun c2 => ?_) (fun c2 => ?_)
  · rw [if_pos c2] at hf
    refine lv_ldc (v := (-1000001)) hx hb hown (hts _ q289) dX0_pass_16 ?_
    obtain ⟨rfl, rfl, rfl, rfl⟩ := so4 hf
    refine w_more (cells' := 0 + 10) (slots' := 0 + 71) (Nat.le_of_ble_eq_true rfl) (Nat.le_of_ble_eq_true rfl) ?_
    exact W.iret hx hb hr (fun t ht _ => ⟨rfl, by rw [ht]; exact ⟨G, X, own, af, ra, ta, hF, hAP, hW⟩, hS.F ht⟩) hS.2.2 dX0_pass_18
  · rw [if_neg c2] at hf
    refine lv_aload_n hx hb dX0_pass_8 rfl (lv_at hl 0 rfl) ?_
    refine lv_iload_n hx hb dX0_pass_9 rfl (lv_at hl 2 rfl) ?_
    obtain ⟨v3, h3, hf⟩ := ob1_e hf
    refine x_vR (ov := some (.int v3)) (D := D) (s0 := s0) (Sc := xS) (adc := ad) (Ic := I) (Ac := A) (Rc := R) (Gc := G) (Xc := X) (base := base) (As := [.int a1]) (rest := []) (b := ad 199) (C := RX0) ⟨hx, hb, hml, hown, hts⟩ (x_isPerson_met l D s0 h0 ad X base I A R G pl n ks hR a1 v3 h3) (g_cwV 1 hts (lw_V q761 q763 qs18 q76 q764) rfl rfl x_isPerson_ds ⟨Nat.le_trans (Nat.le_of_ble_eq_true rfl) hRf, Nat.le_trans (Nat.le_of_ble_eq_true rfl) hRl⟩) (x_recv hK hW xO199 rfl) hK hY (Nat.le_trans hB0 hS.1) hW hcs rfl hl.1 rfl (Nat.le_of_ble_eq_true rfl) dX0_pass_10 ?_
    refine lv_if_ne (tgt := 19) hx hb dX0_pass_13 (by decide) (fun c4 => ?_) (fun c4 => ?_)
    · rw [if_neg c4] at hf
      refine lv_aload_n hx hb dX0_pass_19 rfl (lv_at hl 0 rfl) ?_
      refine x_get (v := .ref (ad 299)) hx hb hts hown hK hW xO199 in_X0 rfl 4 (by decide) q228 rfl rfl dX0_pass_20 ?_
      refine x_get (v := .int (I 210)) hx hb hts hown hK hW xO299 in_X1 rfl 10 (by decide) q180 rfl rfl dX0_pass_23 ?_
      refine lv_iload_n hx hb dX0_pass_26 rfl (lv_at hl 1 rfl) ?_
      obtain ⟨v5, h5, hf⟩ := ob1_e hf
      refine x_sR (ov := some (.int v5)) (D := D) (s0 := s0) (Sc := nS) (adc := ad) (Ic := (fun _ => 0)) (Ac := (fun _ _ => 0)) (Rc := nR) (Gc := nG) (Xc := []) (base := base) (As := [.int (I 210), .int a0]) (rest := []) ⟨hx, hb, hml, hown, hts⟩ (x_has_met l D s0 h0 ad [] base (I 210) a0 v5 h5) (va_cwS 2 hts (lw_S q853 q784 q76 q785) rfl rfl rfl x_has_ds.2 ⟨Nat.le_trans (Nat.le_of_ble_eq_true rfl) hRf, Nat.le_trans (Nat.le_of_ble_eq_true rfl) hRl⟩) hK hY (Nat.le_trans hB0 hS.1) WX_nil hcs rfl hl.1 rfl (Nat.le_of_ble_eq_true rfl) dX0_pass_27 ?_
      refine lv_if_ne (tgt := 59) hx hb dX0_pass_30 (by decide) (fun c6 => ?_) (fun c6 => ?_)
      · rw [if_neg c6] at hf
        refine lv_ldc (v := (-1000002)) hx hb hown (hts _ q756) dX0_pass_59 ?_
        obtain ⟨rfl, rfl, rfl, rfl⟩ := so4 hf
        refine w_more (cells' := 0 + 10) (slots' := 0 + 71) (Nat.le_of_ble_eq_true rfl) (Nat.le_of_ble_eq_true rfl) ?_
        exact W.iret hx hb hr (fun t ht _ => ⟨rfl, by rw [ht]; exact ⟨G, X, own, af, ra, ta, hF, hAP, hW⟩, hS.F ht⟩) hS.2.2 dX0_pass_61
      · rw [if_pos c6] at hf
        refine lv_aload_n hx hb dX0_pass_33 rfl (lv_at hl 0 rfl) ?_
        refine x_get (v := .ref (ad 299)) hx hb hts hown hK hW xO199 in_X0 rfl 4 (by decide) q228 rfl rfl dX0_pass_34 ?_
        refine x_get (v := .ref (ad 206)) hx hb hts hown hK hW xO299 in_X1 rfl 6 (by decide) q172 rfl rfl dX0_pass_37 ?_
        refine lv_iload_n hx hb dX0_pass_40 rfl (lv_at hl 1 rfl) ?_
        obtain ⟨v7, hv7, hf⟩ := ob1_e hf
        refine x_iald hx hb hK hW xA206 hv7 dX0_pass_41 ?_
        refine lv_iload_n hx hb dX0_pass_42 rfl (lv_at hl 2 rfl) ?_
        refine lv_icmp_eq (tgt := 59) hx hb dX0_pass_43 (by decide) (fun c8 => ?_) (fun c8 => ?_)
        · rw [if_pos c8] at hf
          refine lv_ldc (v := (-1000002)) hx hb hown (hts _ q756) dX0_pass_59 ?_
          obtain ⟨rfl, rfl, rfl, rfl⟩ := so4 hf
          refine w_more (cells' := 0 + 10) (slots' := 0 + 71) (Nat.le_of_ble_eq_true rfl) (Nat.le_of_ble_eq_true rfl) ?_
          exact W.iret hx hb hr (fun t ht _ => ⟨rfl, by rw [ht]; exact ⟨G, X, own, af, ra, ta, hF, hAP, hW⟩, hS.F ht⟩) hS.2.2 dX0_pass_61
        · rw [if_neg c8] at hf
          refine lv_aload_n hx hb dX0_pass_46 rfl (lv_at hl 0 rfl) ?_
          refine x_get (v := .ref (ad 299)) hx hb hts hown hK hW xO199 in_X0 rfl 4 (by decide) q228 rfl rfl dX0_pass_47 ?_
          refine x_get (v := .ref (ad 205)) hx hb hts hown hK hW xO299 in_X1 rfl 5 (by decide) q170 rfl rfl dX0_pass_50 ?_
          refine lv_iload_n hx hb dX0_pass_53 rfl (lv_at hl 1 rfl) ?_
          obtain ⟨v9, hv9, hf⟩ := ob1_e hf
          refine x_iald hx hb hK hW xA205 hv9 dX0_pass_54 ?_
          refine lv_iload_n hx hb dX0_pass_55 rfl (lv_at hl 2 rfl) ?_
          refine lv_icmp_ne (tgt := 62) hx hb dX0_pass_56 (by decide) (fun c10 => ?_) (fun c10 => ?_)
          · rw [if_neg c10] at hf
            refine lv_aload_n hx hb dX0_pass_62 rfl (lv_at hl 0 rfl) ?_
            obtain ⟨I11, P12, h12, hf⟩ := ob2_e hf
            refine z_end (Post := HX D ad I11 A R (P12, N, T, (pl, n, ks), Y) base) (ov := none) (va_runV (g := F0 m 63 ls (.ref (ad 199) :: [])) (b := ad 199) (As := []) (rest := []) (C := RX0) ⟨hx, hb, hml, hown, hts⟩ (keep_met l D s0 h0 ad base I A R (P, N, T, (pl, n, ks), Y) r1 r2 de hz _ I11 P12 h12) (cwV 0 hts (lw_V q830 q832 qs19 q76 q833) rfl rfl rfl keep_ds ⟨Nat.le_trans (Nat.le_of_ble_eq_true rfl) hRf, Nat.le_trans (Nat.le_of_ble_eq_true rfl) hRl⟩) ⟨PcH_blind, x_recv hK hW xO199 rfl, pch_at hY hK (Nat.le_trans hB0 hS.1) ⟨G, X, own, af, ra, ta, hF, hAP, hW⟩ (z_low hq0 hB0 hS)⟩ rfl rfl hl.1 rfl (lv_room (m := m) (pc := 63) (ls := ls) (rest := []) (Nat.le_of_ble_eq_true rfl)) dX0_pass_63 ⟨Nat.le_of_ble_eq_true rfl, Nat.le_of_ble_eq_true rfl⟩) hS (fun H locs hH _ hS => ?_)
            obtain ⟨G, X, own, af, ra, ta, hF, hAP, hW⟩ := hH
            have hR := hF.reg
            have hcs : 0 + 10 ≤ (headSpec (ws_ yX0_pass cX0_pass 3 (some .int)) ({ frames := 7, cells := 10, slots := 71, locals := 162 })).room.cells ∧ 0 + 71 ≤ (headSpec (ws_ yX0_pass cX0_pass 3 (some .int)) ({ frames := 7, cells := 10, slots := 71, locals := 162 })).room.slots := ⟨Nat.le_of_ble_eq_true rfl, Nat.le_of_ble_eq_true rfl⟩
            refine lv_aload_n hx hb dX0_pass_66 rfl (lv_at hl 0 rfl) ?_
            refine x_get (v := .ref (ad 299)) hx hb hts hown hK hW xO199 in_X0 rfl 4 (by decide) q228 rfl rfl dX0_pass_67 ?_
            refine x_get (v := .ref (ad 205)) hx hb hts hown hK hW xO299 in_X1 rfl 5 (by decide) q170 rfl rfl dX0_pass_70 ?_
            refine lv_iload_n hx hb dX0_pass_73 rfl (lv_at hl 1 rfl) ?_
            refine lv_iload_n hx hb dX0_pass_74 rfl (lv_at hl 2 rfl) ?_
            obtain ⟨f13, hf13, hf⟩ := ob1_e hf
            refine x_iast hx hb hK xwf hAP hW hS xA205 hf13 dX0_pass_75 (fun H locs hW hS => ?_)
            refine lv_aload_n hx hb dX0_pass_76 rfl (lv_at hl 0 rfl) ?_
            refine x_get (v := .ref (ad 299)) hx hb hts hown hK hW xO199 in_X0 rfl 4 (by decide) q228 rfl rfl dX0_pass_77 ?_
            refine lv_iload_n hx hb dX0_pass_80 rfl (lv_at hl 2 rfl) ?_
            obtain ⟨v14, h14, hf⟩ := ob1_e hf
            refine x_vR (ov := some (.int v14)) (D := D) (s0 := s0) (Sc := pS) (adc := (sh 200 ad)) (Ic := (sh 200 I11)) (Ac := (sh 200 (va_up A 205 f13))) (Rc := (sh 200 R)) (Gc := nG) (Xc := (xr200 D ad I11 (va_up A 205 f13) R G X)) (base := base) (As := [.int a1]) (rest := []) (b := ad 299) (C := RX1) ⟨hx, hb, hml, hown, hts⟩ (p_load_met l D s0 h0 (sh 200 ad) (xr200 D ad I11 (va_up A 205 f13) R G X) base (sh 200 I11) (sh 200 (va_up A 205 f13)) (sh 200 R) pl n ks (xrg200 hR) a1 v14 h14) (g_cwV 1 hts (lw_V q858 q772 q773 q77 q774) rfl rfl p_load_ds ⟨Nat.le_trans (Nat.le_of_ble_eq_true rfl) hRf, Nat.le_trans (Nat.le_of_ble_eq_true rfl) hRl⟩) (x_recv hK hW xO299 rfl) hK hY (Nat.le_trans hB0 hS.1) (xw200 hW) hcs rfl hl.1 rfl (Nat.le_of_ble_eq_true rfl) dX0_pass_81 ?_
            obtain ⟨rfl, rfl, rfl, rfl⟩ := so4 hf
            exact W.iret hx hb hr (fun t ht _ => ⟨rfl, by rw [ht]; exact ⟨G, X, own, af, ra, ta, hF, hAP, hW⟩, hS.F ht⟩) hS.2.2 dX0_pass_84
          · rw [if_pos c10] at hf
            refine lv_ldc (v := (-1000002)) hx hb hown (hts _ q756) dX0_pass_59 ?_
            obtain ⟨rfl, rfl, rfl, rfl⟩ := so4 hf
            refine w_more (cells' := 0 + 10) (slots' := 0 + 71) (Nat.le_of_ble_eq_true rfl) (Nat.le_of_ble_eq_true rfl) ?_
            exact W.iret hx hb hr (fun t ht _ => ⟨rfl, by rw [ht]; exact ⟨G, X, own, af, ra, ta, hF, hAP, hW⟩, hS.F ht⟩) hS.2.2 dX0_pass_61
    · rw [if_pos c4] at hf
      refine lv_ldc (v := (-1000001)) hx hb hown (hts _ q289) dX0_pass_16 ?_
      obtain ⟨rfl, rfl, rfl, rfl⟩ := so4 hf
      refine w_more (cells' := 0 + 10) (slots' := 0 + 71) (Nat.le_of_ble_eq_true rfl) (Nat.le_of_ble_eq_true rfl) ?_
      exact W.iret hx hb hr (fun t ht _ => ⟨rfl, by rw [ht]; exact ⟨G, X, own, af, ra, ta, hF, hAP, hW⟩, hS.F ht⟩) hS.2.2 dX0_pass_18
theorem h_pass_ds : yX0_pass.cls = RX0 ∧ yX0_pass.cls ≠ "java/lang/invoke/MethodHandle" ∧ yX0_pass.cls ≠ "java/lang/invoke/VarHandle" ∧ (parseMethodDescriptor yX0_pass.desc).map (fun d => d.parameters.length) = some 2 := by decide +kernel
def h_days_L45 (R : Nat → Option Nat) (pl n : Nat) (ks : Nat → Nat) (u1 : Int32) : Nat → (Nat → Int32) → (Nat → Nat → Int32) → (Nat → Option Par) → Int32 → Option ((Nat → Int32) × (Nat → Nat → Int32) × (Nat → Option Par) × Int32)
  | 0, _, _, _, _ => none
  | k + 1, I, A, P, x2 =>
    if u1 ≤ x2 then (some (I, A, P, x2)) else (ob2 (keepO I A P (pl, n, ks) (I 107).toNatClampNeg) fun (I2 : Nat → Int32) (P3 : Nat → Option Par) =>
      ob2 (p_pass (sh 200 I2) (sh 200 A) (sh 200 R) pl n ks) fun (I4 : Nat → Int32) (A5 : Nat → Nat → Int32) =>
      h_days_L45 R pl n ks u1 k (mg 200 I2 I4) (mg 200 A A5) P3 (x2 + 1))
set_option maxRecDepth 100000 in
set_option maxHeartbeats 4000000 in
theorem h_days_L45_w {p : Program} {l : Launch} {e : Env} {R0 : Room} {s : State} {m : MethodId} {args : Array Value} {below : List Frame} {meth : Method} {c : Code} {Q : State → Prop} {D : dd_} {s0 : State} {ad : Nat → Nat} {base : Nat} {r1 r2 : Option Nat} {de : Nat} (hx : p.tables.exec = Jvm.exec) (hb : c.code = cX0_days) (hml : c.maxLocals = 3) (hown : s.vm.findClass RX0 = some m.cls) (hts : ∀ w ∈ lw_all, w.before args s = true) (hK : Kx D s) (hY : s0.WarmedH s.vm) (h0 : ∀ w ∈ lw_tbl, va_Nw w s0) (hz : FZ base s0 r1 r2 de) (hRf : 6 ≤ R0.frames) (hRl : 134 ≤ R0.locals) (hCC : 240 ≤ R0.cells) (hSS : 1704 ≤ R0.slots) (hB0 : base ≤ s.heap.size) (hq0 : ∀ q : Nat, q < base → s.heap[q]? = s0.heap[q]?) (R : Nat → Option Nat) (N : Nat → Option Rw_) (T : Int32 × (Nat → Int32)) (pl n : Nat) (ks : Nat → Nat) (Y : va_W) (u1 : Int32) (d : Nat) (hd : d ≤ 24) (hu : u1 = nI d) (I9 : Nat → Int32) (A9 : Nat → Nat → Int32) (P9 : Nat → Option Par) (y2 : Int32) (KX : ∀ (H : Heap) (locs : List Loc) (ls : Array Slot), HX D ad I9 A9 R (P9, N, T, (pl, n, ks), Y) base H → va_S (upB base) s.heap H locs → lv_has ls 3 [(0, .ref (ad 199))] → W p l e R0 s m args below meth c H locs 240 1704 Q (F0 m 67 ls [])) : ∀ (k : Nat) (I : Nat → Int32) (A : Nat → Nat → Int32) (P : Nat → Option Par) (x2 : Int32) (H : Heap) (locs : List Loc) (ls : Array Slot) (i : Nat), h_days_L45 R pl n ks u1 k I A P x2 = some (I9, A9, P9, y2) → x2 = nI i → i ≤ d → HX D ad I A R (P, N, T, (pl, n, ks), Y) base H → va_S (upB base) s.heap H locs → lv_has ls 3 [(0, .ref (ad 199)), (1, .int u1), (2, .int x2)] → W p l e R0 s m args below meth c H locs (10 * i) (71 * i) Q (F0 m 45 ls []) := by
  intro k
  induction k with
  | zero =>
    intro I A P x2 H locs ls i hf
    cases hf
  | succ k ih =>
    intro I A P x2 H locs ls i hf hi hid hH hS hl
    obtain ⟨G, X, own, af, ra, ta, hF, hAP, hW⟩ := hH
    have hR := hF.reg
    have hcs : 10 * i ≤ R0.cells ∧ 71 * i ≤ R0.slots := ⟨by omega, by omega⟩
    have hf : (if u1 ≤ x2 then (some (I, A, P, x2)) else (ob2 (keepO I A P (pl, n, ks) (I 107).toNatClampNeg) fun (I2 : Nat → Int32) (P3 : Nat → Option Par) =>
          ob2 (p_pass (sh 200 I2) (sh 200 A) (sh 200 R) pl n ks) fun (I4 : Nat → Int32) (A5 : Nat → Nat → Int32) =>
          h_days_L45 R pl n ks u1 k (mg 200 I2 I4) (mg 200 A A5) P3 (x2 + 1))) = some (I9, A9, P9, y2) := hf
    refine lv_iload_n hx hb dX0_days_45 rfl (lv_at hl 2 rfl) ?_
    refine lv_iload_n hx hb dX0_days_46 rfl (lv_at hl 1 rfl) ?_
    refine lv_icmp_ge (tgt := 67) hx hb dX0_days_47 (by decide) (fun c1 => ?_) (fun c1 => ?_)
    · rw [if_pos c1] at hf
      obtain ⟨rfl, rfl, rfl, rfl⟩ := so4 hf
      refine w_more (cells' := 240) (slots' := 1704) (by omega) (by omega) ?_
      exact KX _ _ ls ⟨G, X, own, af, ra, ta, hF, hAP, hW⟩ hS (lv_sub hl [0] rfl)
    · rw [if_neg c1] at hf
      have hlt : i < d := Nat.not_le.mp fun z => absurd (show u1 ≤ x2 by rw [hu, hi]; exact nI_le z (by omega)) (by assumption)
      refine lv_aload_n hx hb dX0_days_50 rfl (lv_at hl 0 rfl) ?_
      obtain ⟨I2, P3, h3, hf⟩ := ob2_e hf
      refine z_end (Post := HX D ad I2 A R (P3, N, T, (pl, n, ks), Y) base) (ov := none) (va_runV (g := F0 m 51 ls (.ref (ad 199) :: [])) (b := ad 199) (As := []) (rest := []) (C := RX0) ⟨hx, hb, hml, hown, hts⟩ (keep_met l D s0 h0 ad base I A R (P, N, T, (pl, n, ks), Y) r1 r2 de hz _ I2 P3 h3) (cwV 0 hts (lw_V q830 q832 qs19 q76 q833) rfl rfl rfl keep_ds ⟨Nat.le_trans (Nat.le_of_ble_eq_true rfl) hRf, Nat.le_trans (Nat.le_of_ble_eq_true rfl) hRl⟩) ⟨PcH_blind, x_recv hK hW xO199 rfl, pch_at hY hK (Nat.le_trans hB0 hS.1) ⟨G, X, own, af, ra, ta, hF, hAP, hW⟩ (z_low hq0 hB0 hS)⟩ rfl rfl hl.1 rfl (lv_room (m := m) (pc := 51) (ls := ls) (rest := []) (Nat.le_of_ble_eq_true rfl)) dX0_days_51 ⟨by omega, by omega⟩) hS (fun H locs hH _ hS => ?_)
      obtain ⟨G, X, own, af, ra, ta, hF, hAP, hW⟩ := hH
      have hR := hF.reg
      have hcs : 10 * i + 10 ≤ R0.cells ∧ 71 * i + 71 ≤ R0.slots := ⟨by omega, by omega⟩
      refine lv_aload_n hx hb dX0_days_54 rfl (lv_at hl 0 rfl) ?_
      refine x_get (v := .ref (ad 299)) hx hb hts hown hK hW xO199 in_X0 rfl 4 (by decide) q228 rfl rfl dX0_days_55 ?_
      obtain ⟨I4, A5, h5, hf⟩ := ob2_e hf
      refine x_vW (ov := none) (D := D) (s0 := s0) (Sc := pS) (adc := (sh 200 ad)) (Ic := (sh 200 I2)) (Ac := (sh 200 A)) (Rc := (sh 200 R)) (Gc := nG) (Xc := (xr200 D ad I2 A R G X)) (base := base) (As := []) (rest := []) (Ic1 := I4) (Ac1 := A5) (Rc1 := (sh 200 R)) (Gc1 := nG) (Xc1 := (xr200 D ad I2 A R G X)) (b := ad 299) (C := RX1) ⟨hx, hb, hml, hown, hts⟩ (p_pass_met l D s0 h0 (sh 200 ad) (xr200 D ad I2 A R G X) base (xap200 hAP) (sh 200 I2) (sh 200 A) (sh 200 R) pl n ks (xrg200 hR)  I4 A5 h5) (g_cwV 0 hts (lw_V q868 q869 q870 q77 q871) rfl rfl p_pass_ds ⟨Nat.le_trans (Nat.le_of_ble_eq_true rfl) hRf, Nat.le_trans (Nat.le_of_ble_eq_true rfl) hRl⟩) (x_recv hK hW xO299 rfl) hK hY (Nat.le_trans hB0 hS.1) (xw200 hW) hS hcs rfl hl.1 rfl (Nat.le_of_ble_eq_true rfl) dX0_days_58 (fun H locs hW hS => ?_)
      have hW : WX D xS ad (mg 200 I2 I4) (mg 200 A A5) R G X H := xu200 rfl rfl (mg_sh 200 _).symm hW
      refine lv_iinc (v := x2 + 1) (lv' := [(2, .int (x2 + 1)), (0, .ref (ad 199)), (1, .int u1)]) hx hb dX0_days_61 hl (k := 2) rfl (by rfl) (by decide) rfl (fun ls hl => ?_)
      refine lv_goto (tgt := 45) hx hb dX0_days_64 (by decide) ?_
      exact ih _ _ _ _ _ _ ls (i + 1) hf (by rw [hi]; exact nI_1 i) (by omega) ⟨G, X, own, af, ra, ta, hF, hAP, hW⟩ hS (lv_sub hl [1, 2, 0] rfl)
def h_days (I : Nat → Int32) (A : Nat → Nat → Int32) (R : Nat → Option Nat) (P : Nat → Option Par) (N : Nat → Option Rw_) (T : Int32 × (Nat → Int32)) (pl n : Nat) (ks : Nat → Nat) (a0 : Int32) : Option (Int32 × (Nat → Int32) × (Nat → Nat → Int32) × (Nat → Option Par)) :=
  ob1 (x_isParish I A R nG pl n ks) fun (v1 : Int32) =>
  if v1 = 0 then (some ((-1000002), I, A, P)) else (ob1 (x_isIn a0.toInt64 1 24) fun (v3 : Int32) =>
    if v3 = 0 then (some ((-1000001), I, A, P)) else (if ((I 211) + a0) ≤ 999 then (ob4 (h_days_L45 R pl n ks a0 NF I A P 0) fun (I6 : Nat → Int32) (A7 : Nat → Nat → Int32) (P8 : Nat → Option Par) (v9 : Int32) =>
        some (I6 211, I6, A7, P8)) else (some ((-1000003), I, A, P))))
set_option maxRecDepth 100000 in
set_option maxHeartbeats 4000000 in
theorem h_days_met (l : Launch) (D : dd_) (s0 : State) (h0 : ∀ w ∈ lw_tbl, va_Nw w s0) (ad : Nat → Nat) (base : Nat) (r1 r2 : Option Nat) (de : Nat) (hz : FZ base s0 r1 r2 de) (I : Nat → Int32) (A : Nat → Nat → Int32) (R : Nat → Option Nat) (P : Nat → Option Par) (N : Nat → Option Rw_) (T : Int32 × (Nat → Int32)) (pl n : Nat) (ks : Nat → Nat) (Y : va_W) (a0 : Int32) (r : Int32) (I1 : (Nat → Int32)) (A1 : (Nat → Nat → Int32)) (P1 : (Nat → Option Par)) (hf : h_days I A R P N T pl n ks a0 = some (r, I1, A1, P1)) : Met l yX0_days (ws_ yX0_days cX0_days 3 (some .int)) ({ frames := 6, cells := 240, slots := 1704, locals := 134 }) (PcH D s0 ad I A R (P, N, T, (pl, n, ks), Y) base [.ref (ad 199), .int a0]) (QcE (HX D ad I1 A1 R (P1, N, T, (pl, n, ks), Y) base) base (some (.int r))) 240 1704 (upB base) := by
  refine Met.ofW (cc := cX0_days) (maxL := 3) (ret := (some .int)) (by decide) rfl ?_
  intro p e s m args below meth c s₁ B hml hv
  obtain ⟨rfl, hK, hY, hB0, hH, hq0⟩ := hv
  obtain ⟨G, X, own, af, ra, ta, hF, hAP, hW⟩ := hH
  have hR := hF.reg
  have hx := B.exec
  have hb := B.bytes
  have hr := B.returns
  have hts0 := atoms_spec (ws := (ws_ yX0_days cX0_days 3 (some .int))) B.pre
  have hts : ∀ w ∈ lw_all, w.before _ s = true := fun w h => hts0 w (List.mem_cons_of_mem _ h)
  have hown : s.vm.findClass RX0 = some m.cls := findClass_of_methodNamed B.named
  have hlocks := B.notSynchronized
  have hRf : 6 ≤ (headSpec (ws_ yX0_days cX0_days 3 (some .int)) ({ frames := 6, cells := 240, slots := 1704, locals := 134 })).room.frames := Nat.le_refl _
  have hRl : 134 ≤ (headSpec (ws_ yX0_days cX0_days 3 (some .int)) ({ frames := 6, cells := 240, slots := 1704, locals := 134 })).room.locals := Nat.le_refl _
  have hcs : 0 ≤ (headSpec (ws_ yX0_days cX0_days 3 (some .int)) ({ frames := 6, cells := 240, slots := 1704, locals := 134 })).room.cells ∧ 0 ≤ (headSpec (ws_ yX0_days cX0_days 3 (some .int)) ({ frames := 6, cells := 240, slots := 1704, locals := 134 })).room.slots := ⟨Nat.zero_le _, Nat.zero_le _⟩
  have hS : va_S (upB base) s.heap s.heap [] := va_S.rf
  have hl := lv_entry ([.ref (ad 199), .int a0]) (n := 3) (Nat.le_of_ble_eq_true rfl)
  rw [lg_entry_eq]
  generalize (lg_sl ([.ref (ad 199), .int a0]) ++ List.replicate (3 - (lg_sl ([.ref (ad 199), .int a0])).length) Slot.unset).toArray = ls at hl ⊢
  have hl : lv_has ls 3 [(0, .ref (ad 199)), (1, .int a0)] := hl
  have hf : (ob1 (x_isParish I A R nG pl n ks) fun (v1 : Int32) =>
    if v1 = 0 then (some ((-1000002), I, A, P)) else (ob1 (x_isIn a0.toInt64 1 24) fun (v3 : Int32) =>
      if v3 = 0 then (some ((-1000001), I, A, P)) else (if ((I 211) + a0) ≤ 999 then (ob4 (h_days_L45 R pl n ks a0 NF I A P 0) fun (I6 : Nat → Int32) (A7 : Nat → Nat → Int32) (P8 : Nat → Option Par) (v9 : Int32) =>
          some (I6 211, I6, A7, P8)) else (some ((-1000003), I, A, P))))) = some (r, I1, A1, P1) := hf
  refine lv_aload_n hx hb dX0_days_0 rfl (lv_at hl 0 rfl) ?_
  obtain ⟨v1, h1, hf⟩ := ob1_e hf
  refine x_vR (ov := some (.int v1)) (D := D) (s0 := s0) (Sc := xS) (adc := ad) (Ic := I) (Ac := A) (Rc := R) (Gc := G) (Xc := X) (base := base) (As := []) (rest := []) (b := ad 199) (C := RX0) ⟨hx, hb, hml, hown, hts⟩ (x_isParish_met l D s0 h0 ad X base I A R G pl n ks hR  v1 h1) (g_cwV 0 hts (lw_V q863 q865 qs21 q76 q866) rfl rfl x_isParish_ds ⟨Nat.le_trans (Nat.le_of_ble_eq_true rfl) hRf, Nat.le_trans (Nat.le_of_ble_eq_true rfl) hRl⟩) (x_recv hK hW xO199 rfl) hK hY (Nat.le_trans hB0 hS.1) hW hcs rfl hl.1 rfl (Nat.le_of_ble_eq_true rfl) dX0_days_1 ?_
  refine lv_if_ne (tgt := 10) hx hb dX0_days_4 (by decide) (fun c2 => ?_) (fun c2 => ?_)
  · rw [if_neg c2] at hf
    refine lv_iload_n hx hb dX0_days_10 rfl (lv_at hl 1 rfl) ?_
    refine lv_i2l (v := a0.toInt64) hx hb dX0_days_11 rfl ?_
    refine lv_lconst (v := 1) hx hb dX0_days_12 (by decide) ?_
    refine lv_ldc2 (v := 24) hx hb hown (hts _ q867) dX0_days_13 ?_
    obtain ⟨v3, h3, hf⟩ := ob1_e hf
    refine x_sR (ov := some (.int v3)) (D := D) (s0 := s0) (Sc := nS) (adc := ad) (Ic := (fun _ => 0)) (Ac := (fun _ _ => 0)) (Rc := nR) (Gc := nG) (Xc := []) (base := base) (As := [.long a0.toInt64, .long 1, .long 24]) (rest := []) ⟨hx, hb, hml, hown, hts⟩ (x_isIn_met l D s0 h0 ad [] base a0.toInt64 1 24 v3 h3) (va_cwS 3 hts (lw_S q285 q286 q76 q287) rfl rfl rfl x_isIn_ds.2 ⟨Nat.le_trans (Nat.le_of_ble_eq_true rfl) hRf, Nat.le_trans (Nat.le_of_ble_eq_true rfl) hRl⟩) hK hY (Nat.le_trans hB0 hS.1) WX_nil hcs rfl hl.1 rfl (Nat.le_of_ble_eq_true rfl) dX0_days_16 ?_
    refine lv_if_ne (tgt := 25) hx hb dX0_days_19 (by decide) (fun c4 => ?_) (fun c4 => ?_)
    · rw [if_neg c4] at hf
      refine lv_aload_n hx hb dX0_days_25 rfl (lv_at hl 0 rfl) ?_
      refine x_get (v := .ref (ad 299)) hx hb hts hown hK hW xO199 in_X0 rfl 4 (by decide) q228 rfl rfl dX0_days_26 ?_
      refine x_get (v := .int (I 211)) hx hb hts hown hK hW xO299 in_X1 rfl 11 (by decide) q182 rfl rfl dX0_days_29 ?_
      refine lv_iload_n hx hb dX0_days_32 rfl (lv_at hl 1 rfl) ?_
      refine lv_iadd hx hb dX0_days_33 ?_
      refine lv_sipush (v := 999) hx hb dX0_days_34 (by decide) ?_
      refine lv_icmp_le (tgt := 43) hx hb dX0_days_37 (by decide) (fun c5 => ?_) (fun c5 => ?_)
      · rw [if_pos c5] at hf
        refine lv_iconst (v := 0) hx hb dX0_days_43 (by decide) ?_
        refine lv_istore_n (lv' := [(2, .int 0), (0, .ref (ad 199)), (1, .int a0)]) hx hb dX0_days_44 rfl hl (by decide) rfl (fun ls hl => ?_)
        obtain ⟨I6, A7, P8, v9, hq9, hf⟩ := ob4_e hf
        obtain ⟨d, hd, hu⟩ : ∃ d : Nat, d ≤ 24 ∧ a0 = nI d := in_d (by assumption) (by assumption)
        refine h_days_L45_w hx hb hml hown hts hK hY h0 hz hRf hRl (Nat.le_of_ble_eq_true rfl) (Nat.le_of_ble_eq_true rfl) hB0 hq0 R N T pl n ks Y a0 d hd hu I6 A7 P8 v9 (fun H locs ls hH hS hl => ?_) NF I A P 0 _ _ ls 0 hq9 rfl (Nat.zero_le _) ⟨G, X, own, af, ra, ta, hF, hAP, hW⟩ hS (lv_sub hl [1, 2, 0] rfl)
        obtain ⟨G, X, own, af, ra, ta, hF, hAP, hW⟩ := hH
        have hR := hF.reg
        have hcs : 240 ≤ (headSpec (ws_ yX0_days cX0_days 3 (some .int)) ({ frames := 6, cells := 240, slots := 1704, locals := 134 })).room.cells ∧ 1704 ≤ (headSpec (ws_ yX0_days cX0_days 3 (some .int)) ({ frames := 6, cells := 240, slots := 1704, locals := 134 })).room.slots := ⟨Nat.le_of_ble_eq_true rfl, Nat.le_of_ble_eq_true rfl⟩
        refine lv_aload_n hx hb dX0_days_67 rfl (lv_at hl 0 rfl) ?_
        refine x_get (v := .ref (ad 299)) hx hb hts hown hK hW xO199 in_X0 rfl 4 (by decide) q228 rfl rfl dX0_days_68 ?_
        refine x_get (v := .int (I6 211)) hx hb hts hown hK hW xO299 in_X1 rfl 11 (by decide) q182 rfl rfl dX0_days_71 ?_
        obtain ⟨rfl, rfl, rfl, rfl⟩ := so4 hf
        exact W.iret hx hb hr (fun t ht _ => ⟨rfl, by rw [ht]; exact ⟨G, X, own, af, ra, ta, hF, hAP, hW⟩, hS.F ht⟩) hS.2.2 dX0_days_74
      · rw [if_neg c5] at hf
        refine lv_ldc (v := (-1000003)) hx hb hown (hts _ q443) dX0_days_40 ?_
        obtain ⟨rfl, rfl, rfl, rfl⟩ := so4 hf
        refine w_more (cells' := 240) (slots' := 1704) (Nat.le_of_ble_eq_true rfl) (Nat.le_of_ble_eq_true rfl) ?_
        exact W.iret hx hb hr (fun t ht _ => ⟨rfl, by rw [ht]; exact ⟨G, X, own, af, ra, ta, hF, hAP, hW⟩, hS.F ht⟩) hS.2.2 dX0_days_42
    · rw [if_pos c4] at hf
      refine lv_ldc (v := (-1000001)) hx hb hown (hts _ q289) dX0_days_22 ?_
      obtain ⟨rfl, rfl, rfl, rfl⟩ := so4 hf
      refine w_more (cells' := 240) (slots' := 1704) (Nat.le_of_ble_eq_true rfl) (Nat.le_of_ble_eq_true rfl) ?_
      exact W.iret hx hb hr (fun t ht _ => ⟨rfl, by rw [ht]; exact ⟨G, X, own, af, ra, ta, hF, hAP, hW⟩, hS.F ht⟩) hS.2.2 dX0_days_24
  · rw [if_pos c2] at hf
    refine lv_ldc (v := (-1000002)) hx hb hown (hts _ q756) dX0_days_7 ?_
    obtain ⟨rfl, rfl, rfl, rfl⟩ := so4 hf
    refine w_more (cells' := 240) (slots' := 1704) (Nat.le_of_ble_eq_true rfl) (Nat.le_of_ble_eq_true rfl) ?_
    exact W.iret hx hb hr (fun t ht _ => ⟨rfl, by rw [ht]; exact ⟨G, X, own, af, ra, ta, hF, hAP, hW⟩, hS.F ht⟩) hS.2.2 dX0_days_9
theorem h_days_ds : yX0_days.cls = RX0 ∧ yX0_days.cls ≠ "java/lang/invoke/MethodHandle" ∧ yX0_days.cls ≠ "java/lang/invoke/VarHandle" ∧ (parseMethodDescriptor yX0_days.desc).map (fun d => d.parameters.length) = some 1 := by decide +kernel
