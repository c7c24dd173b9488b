/-! what is thrown -/
abbrev fiS : sp_ := ([(99, 4, [.inr (.inr 0), .inr (.inr 1), .inr (.inr 2), .inr (.inr 3), .inr (.inr 4), .inl 5, .inl 6])], [], [])
theorem fiSwf : wfS fiS := ⟨by decide +kernel, by decide +kernel, by decide +kernel, by decide +kernel, by decide +kernel, by decide +kernel⟩
theorem fiSO : ((99, 4, [.inr (.inr 0), .inr (.inr 1), .inr (.inr 2), .inr (.inr 3), .inr (.inr 4), .inl 5, .inl 6]) : Nat × Nat × List fc_) ∈ fiS.1 := List.mem_of_getElem? (i := 0) rfl
def fi_J3_init_2 (I : Nat → Int32) (R : Nat → Option Nat) (r1 r2 : Option Nat) (de : Nat) (ad : Nat → Nat) (a0 : Int32) (a1 : Int32) : Option ((Nat → Option Nat)) :=
  ob1 (if a1 = 0 then ((some (va_up (va_up (va_up (va_up R 0 (some (ad 99))) 1 r1) 2 r2) 1 none) : Option ((Nat → Option Nat)))) else (none)) fun (R1 : Nat → Option Nat) =>
  ob1 (if a0 = 0 then ((some (va_up (va_up (va_up R1 3 none) 0 none) 2 none) : Option ((Nat → Option Nat)))) else ((some (va_up (va_up R1 3 none) 0 none) : Option ((Nat → Option Nat))))) fun (R3 : Nat → Option Nat) =>
  some R3
set_option maxRecDepth 100000 in
set_option maxHeartbeats 4000000 in
theorem fi_J3_init_2_met (l : Launch) (D : dd_) (s0 : State) (h0 : ∀ w ∈ lw_tbl, va_Nw w s0) (ad : Nat → Nat) (X : va_W) (base : Nat) (hAP : AP fiS ad X base) (I : Nat → Int32) (R : Nat → Option Nat) (r1 r2 : Option Nat) (de : Nat) (hz : FZ base s0 r1 r2 de) (a0 : Int32) (a1 : Int32) (R1 : (Nat → Option Nat)) (hf : fi_J3_init_2 I R r1 r2 de ad a0 a1 = some R1) : Met l yJ3_init_2 (ws_ yJ3_init_2 cJ3_init_2 5 none) ({ frames := 1, cells := 0, slots := 0, locals := 32 }) (PcZ D s0 fiS ad I (fun _ _ => 0) R nG X base [.ref (ad 99), .null, .null, .int a0, .int a1]) (QcE (fun H => WX D fiS ad I (fun _ _ => 0) R1 nG X H) base (none)) 0 0 (upB base) := by
  refine Met.ofW (cc := cJ3_init_2) (maxL := 5) (ret := none) (by decide) rfl ?_
  intro p e s m args below meth c s₁ B hml hv
  obtain ⟨⟨rfl, hK, hY, hB0, hW⟩, hq0⟩ := hv
  have hx := B.exec
  have hb := B.bytes
  have hr := B.returns
  have hts := atoms_spec (ws := (ws_ yJ3_init_2 cJ3_init_2 5 none)) B.pre
  have hts : ∀ w ∈ lw_all, w.before _ s = true := fun w h => hts w (List.mem_cons_of_mem _ h)
  have hown : s.vm.findClass RJ3 = some m.cls := findClass_of_methodNamed B.named
  have hlocks := B.notSynchronized
  have hin2 : meth.name = "<init>" := (name_of_methodNamed B.named B.method).1
  have hRf : 1 ≤ (headSpec (ws_ yJ3_init_2 cJ3_init_2 5 none) ({ frames := 1, cells := 0, slots := 0, locals := 32 })).room.frames := Nat.le_refl _
  have hRl : 32 ≤ (headSpec (ws_ yJ3_init_2 cJ3_init_2 5 none) ({ frames := 1, cells := 0, slots := 0, locals := 32 })).room.locals := Nat.le_refl _
  have hcs : 0 ≤ (headSpec (ws_ yJ3_init_2 cJ3_init_2 5 none) ({ frames := 1, cells := 0, slots := 0, locals := 32 })).room.cells ∧ 0 ≤ (headSpec (ws_ yJ3_init_2 cJ3_init_2 5 none) ({ frames := 1, cells := 0, slots := 0, locals := 32 })).room.slots := ⟨Nat.zero_le _, Nat.zero_le _⟩
  have hS : va_S (upB base) s.heap s.heap [] := va_S.rf
  have hl := lv_entry ([.ref (ad 99), .null, .null, .int a0, .int a1]) (n := 5) (Nat.le_of_ble_eq_true rfl)
  rw [lg_entry_eq]
  generalize (lg_sl ([.ref (ad 99), .null, .null, .int a0, .int a1]) ++ List.replicate (5 - (lg_sl ([.ref (ad 99), .null, .null, .int a0, .int a1])).length) Slot.unset).toArray = ls at hl ⊢
  have hl : lv_has ls 5 [(0, .ref (ad 99)), (1, .null), (2, .null), (3, .int a0), (4, .int a1)] := hl
  have hf : (ob1 (if a1 = 0 then ((some (va_up (va_up (va_up (va_up R 0 (some (ad 99))) 1 r1) 2 r2) 1 none) : Option ((Nat → Option Nat)))) else (none)) fun (R1 : Nat → Option Nat) =>
    ob1 (if a0 = 0 then ((some (va_up (va_up (va_up R1 3 none) 0 none) 2 none) : Option ((Nat → Option Nat)))) else ((some (va_up (va_up R1 3 none) 0 none) : Option ((Nat → Option Nat))))) fun (R3 : Nat → Option Nat) =>
    some R3) = some R1 := hf
  refine lv_aload_n hx hb dJ3_init_2_0 rfl (lv_at hl 0 rfl) ?_
  refine W.objInit hx hb hown (hts _ q315) (hts _ q115) (hts _ q116) rfl (by rw [hml]; exact hl.1) rfl dJ3_init_2_1 (Nat.le_trans (Nat.le_of_ble_eq_true rfl) hRf) (Nat.le_trans (Nat.le_of_ble_eq_true rfl) hRl) ?_
  refine W.eq (g2 := F0 m 4 ls []) rfl ?_
  refine lv_aload_n hx hb dJ3_init_2_4 rfl (lv_at hl 0 rfl) ?_
  refine lv_aload_n hx hb dJ3_init_2_5 rfl (lv_at hl 0 rfl) ?_
  refine x_putRg (x := some (ad 99)) hx hb hts hown hK fiSwf hAP hW hS fiSO in_X4 tyX4 tyX4_ok nmX4 rfl 0 0 (by decide) rfl q345 rfl rfl (Or.inl ⟨_, rfl⟩) dJ3_init_2_6 (fun H locs hW hS => ?_)
  refine lv_aload_n hx hb dJ3_init_2_9 rfl (lv_at hl 0 rfl) ?_
  refine xs_get hx hb hts hz.2.1 hY hq0 hS hown q316 rfl dJ3_init_2_10 ?_
  refine x_putRg (x := r1) hx hb hts hown hK fiSwf hAP hW hS fiSO in_X4 tyX4 tyX4_ok nmX4 rfl 1 1 (by decide) rfl q346 rfl rfl (Or.inr ⟨_, rfl⟩) dJ3_init_2_13 (fun H locs hW hS => ?_)
  refine lv_aload_n hx hb dJ3_init_2_16 rfl (lv_at hl 0 rfl) ?_
  refine xs_get hx hb hts hz.2.2.1 hY hq0 hS hown q318 rfl dJ3_init_2_17 ?_
  refine x_putRg (x := r2) hx hb hts hown hK fiSwf hAP hW hS fiSO in_X4 tyX4 tyX4_ok nmX4 rfl 2 2 (by decide) rfl q347 rfl rfl (Or.inl ⟨_, rfl⟩) dJ3_init_2_20 (fun H locs hW hS => ?_)
  refine lv_iload hx hb dJ3_init_2_23 (lv_at hl 4 rfl) ?_
  obtain ⟨R1, hm1, hf⟩ := ob1_e hf
  refine w_cutH (A0 := upB base) (H0 := s.heap) (X := WX D fiS ad I (fun _ _ => 0) R1 nG X) (nL := 5) (L := [(0, .ref (ad 99)), (1, .null), (2, .null), (3, .int a0)]) (pcj := 41) (st := []) (fun H locs ls hW hS hl => ?_) (fun K1 => ?_)
  · refine lv_aload_n hx hb dJ3_init_2_41 rfl (lv_at hl 0 rfl) ?_
    refine lv_aload_nN hx hb dJ3_init_2_42 rfl (lv_at hl 1 rfl) ?_
    refine x_putRg (x := none) hx hb hts hown hK fiSwf hAP hW hS fiSO in_X4 tyX4 tyX4_ok nmX4 rfl 3 3 (by decide) rfl q344 rfl rfl (Or.inl ⟨_, rfl⟩) dJ3_init_2_43 (fun H locs hW hS => ?_)
    refine lv_aload_n hx hb dJ3_init_2_46 rfl (lv_at hl 0 rfl) ?_
    refine lv_aload_nN hx hb dJ3_init_2_47 rfl (lv_at hl 2 rfl) ?_
    refine x_putRg (x := none) hx hb hts hown hK fiSwf hAP hW hS fiSO in_X4 tyX4 tyX4_ok nmX4 rfl 0 0 (by decide) rfl q345 rfl rfl (Or.inl ⟨_, rfl⟩) dJ3_init_2_48 (fun H locs hW hS => ?_)
    refine lv_iload_n hx hb dJ3_init_2_51 rfl (lv_at hl 3 rfl) ?_
    obtain ⟨R3, hm3, hf⟩ := ob1_e hf
    refine w_cutH (A0 := upB base) (H0 := s.heap) (X := WX D fiS ad I (fun _ _ => 0) R3 nG X) (nL := 5) (L := []) (pcj := 60) (st := []) (fun H locs ls hW hS hl => ?_) (fun K3 => ?_)
    · obtain rfl := so1 hf
      exact W.vret hx hb hr (fun t ht _ => ⟨rfl, by rw [ht]; exact hW, hS.F ht⟩) hS.2.2 dJ3_init_2_60
    · refine lv_if_ne (tgt := 60) hx hb dJ3_init_2_52 (by decide) (fun c4 => ?_) (fun c4 => ?_)
      · rw [if_neg c4] at hm3
        obtain rfl := so1 hm3
        exact K3 _ _ ls hW hS (lv_sub hl [] rfl)
      · rw [if_pos c4] at hm3
        refine lv_aload_n hx hb dJ3_init_2_55 rfl (lv_at hl 0 rfl) ?_
        refine lv_null hx hb dJ3_init_2_56 ?_
        refine x_putRg (x := none) hx hb hts hown hK fiSwf hAP hW hS fiSO in_X4 tyX4 tyX4_ok nmX4 rfl 2 2 (by decide) rfl q347 rfl rfl (Or.inl ⟨_, rfl⟩) dJ3_init_2_57 (fun H locs hW hS => ?_)
        obtain rfl := so1 hm3
        exact K3 _ _ ls hW hS (lv_sub hl [] rfl)
  · refine lv_if_eq (tgt := 36) hx hb dJ3_init_2_25 (by decide) (fun c2 => ?_) (fun c2 => ?_)
    · rw [if_pos c2] at hm1
      refine lv_aload_n hx hb dJ3_init_2_36 rfl (lv_at hl 0 rfl) ?_
      refine lv_null hx hb dJ3_init_2_37 ?_
      refine x_putRg (x := none) hx hb hts hown hK fiSwf hAP hW hS fiSO in_X4 tyX4 tyX4_ok nmX4 rfl 1 1 (by decide) rfl q346 rfl rfl (Or.inr ⟨_, rfl⟩) dJ3_init_2_38 (fun H locs hW hS => ?_)
      obtain rfl := so1 hm1
      exact K1 _ _ ls hW hS (lv_sub hl [0, 1, 2, 3] rfl)
    · rw [if_neg c2] at hm1
      exact nomatch hm1
theorem fi_J3_init_2_ds : yJ3_init_2.cls = RJ3 ∧ yJ3_init_2.cls ≠ "java/lang/invoke/MethodHandle" ∧ yJ3_init_2.cls ≠ "java/lang/invoke/VarHandle" ∧ (parseMethodDescriptor yJ3_init_2.desc).map (fun d => d.parameters.length) = some 4 := by decide +kernel
def fi_J4_init (I : Nat → Int32) (R : Nat → Option Nat) (r1 r2 : Option Nat) (de : Nat) (ad : Nat → Nat) (a0 : Int32) (a1 : Int32) : Option ((Nat → Option Nat)) :=
  ob1 (fi_J3_init_2 I R r1 r2 de ad a0 a1) fun (R1 : Nat → Option Nat) =>
  some R1
set_option maxRecDepth 100000 in
set_option maxHeartbeats 4000000 in
theorem fi_J4_init_met (l : Launch) (D : dd_) (s0 : State) (h0 : ∀ w ∈ lw_tbl, va_Nw w s0) (ad : Nat → Nat) (X : va_W) (base : Nat) (hAP : AP fiS ad X base) (I : Nat → Int32) (R : Nat → Option Nat) (r1 r2 : Option Nat) (de : Nat) (hz : FZ base s0 r1 r2 de) (a0 : Int32) (a1 : Int32) (R1 : (Nat → Option Nat)) (hf : fi_J4_init I R r1 r2 de ad a0 a1 = some R1) : Met l yJ4_init (ws_ yJ4_init cJ4_init 5 none) ({ frames := 2, cells := 0, slots := 0, locals := 56 }) (PcZ D s0 fiS ad I (fun _ _ => 0) R nG X base [.ref (ad 99), .null, .null, .int a0, .int a1]) (QcE (fun H => WX D fiS ad I (fun _ _ => 0) R1 nG X H) base (none)) 0 0 (upB base) := by
  refine Met.ofW (cc := cJ4_init) (maxL := 5) (ret := none) (by decide) rfl ?_
  intro p e s m args below meth c s₁ B hml hv
  obtain ⟨⟨rfl, hK, hY, hB0, hW⟩, hq0⟩ := hv
  have hx := B.exec
  have hb := B.bytes
  have hr := B.returns
  have hts := atoms_spec (ws := (ws_ yJ4_init cJ4_init 5 none)) B.pre
  have hts : ∀ w ∈ lw_all, w.before _ s = true := fun w h => hts w (List.mem_cons_of_mem _ h)
  have hown : s.vm.findClass RJ4 = some m.cls := findClass_of_methodNamed B.named
  have hlocks := B.notSynchronized
  have hin2 : meth.name = "<init>" := (name_of_methodNamed B.named B.method).1
  have hRf : 2 ≤ (headSpec (ws_ yJ4_init cJ4_init 5 none) ({ frames := 2, cells := 0, slots := 0, locals := 56 })).room.frames := Nat.le_refl _
  have hRl : 56 ≤ (headSpec (ws_ yJ4_init cJ4_init 5 none) ({ frames := 2, cells := 0, slots := 0, locals := 56 })).room.locals := Nat.le_refl _
  have hcs : 0 ≤ (headSpec (ws_ yJ4_init cJ4_init 5 none) ({ frames := 2, cells := 0, slots := 0, locals := 56 })).room.cells ∧ 0 ≤ (headSpec (ws_ yJ4_init cJ4_init 5 none) ({ frames := 2, cells := 0, slots := 0, locals := 56 })).room.slots := ⟨Nat.zero_le _, Nat.zero_le _⟩
  have hS : va_S (upB base) s.heap s.heap [] := va_S.rf
  have hl := lv_entry ([.ref (ad 99), .null, .null, .int a0, .int a1]) (n := 5) (Nat.le_of_ble_eq_true rfl)
  rw [lg_entry_eq]
  generalize (lg_sl ([.ref (ad 99), .null, .null, .int a0, .int a1]) ++ List.replicate (5 - (lg_sl ([.ref (ad 99), .null, .null, .int a0, .int a1])).length) Slot.unset).toArray = ls at hl ⊢
  have hl : lv_has ls 5 [(0, .ref (ad 99)), (1, .null), (2, .null), (3, .int a0), (4, .int a1)] := hl
  have hf : (ob1 (fi_J3_init_2 I R r1 r2 de ad a0 a1) fun (R1 : Nat → Option Nat) =>
    some R1) = some R1 := hf
  refine lv_aload_n hx hb dJ4_init_0 rfl (lv_at hl 0 rfl) ?_
  refine lv_aload_nN hx hb dJ4_init_1 rfl (lv_at hl 1 rfl) ?_
  refine lv_aload_nN hx hb dJ4_init_2 rfl (lv_at hl 2 rfl) ?_
  refine lv_iload_n hx hb dJ4_init_3 rfl (lv_at hl 3 rfl) ?_
  refine lv_iload hx hb dJ4_init_4 (lv_at hl 4 rfl) ?_
  obtain ⟨R1, h1, hf⟩ := ob1_e hf
  refine z_end (Post := fun H => WX D fiS ad I (fun _ _ => 0) R1 nG X H) (ov := none) (va_runI (g := F0 m 6 ls _) (b := ad 99) (As := [.null, .null, .int a0, .int a1]) (rest := []) ⟨hx, hb, hml, hown, hts⟩ (fi_J3_init_2_met l D s0 h0 ad X base hAP I R r1 r2 de hz a0 a1 R1 h1) (cwI 4 hts (lw_meth q340) rfl rfl rfl (hts _ q83) (hts _ q338) (hts _ q339) rfl (by decide +kernel) ⟨Nat.le_trans (Nat.le_of_ble_eq_true rfl) hRf, Nat.le_trans (Nat.le_of_ble_eq_true rfl) hRl⟩) ⟨PcZ_blind, pcz_at hY hK (Nat.le_trans hB0 hS.1) hW (z_low hq0 hB0 hS)⟩ rfl rfl hl.1 rfl (lv_room (m := m) (pc := 6) (ls := ls) (rest := []) (Nat.le_of_ble_eq_true rfl)) dJ4_init_6 hcs) hS (fun H locs hW _ hS => ?_)
  obtain rfl := so1 hf
  exact W.vret hx hb hr (fun t ht _ => ⟨rfl, by rw [ht]; exact hW, hS.F ht⟩) hS.2.2 dJ4_init_9
theorem fi_J4_init_ds : yJ4_init.cls = RJ4 ∧ yJ4_init.cls ≠ "java/lang/invoke/MethodHandle" ∧ yJ4_init.cls ≠ "java/lang/invoke/VarHandle" ∧ (parseMethodDescriptor yJ4_init.desc).map (fun d => d.parameters.length) = some 4 := by decide +kernel
def fi_X4_init (I : Nat → Int32) (R : Nat → Option Nat) (r1 r2 : Option Nat) (de : Nat) (ad : Nat → Nat) (a0 : Int32) : Option ((Nat → Int32) × (Nat → Option Nat)) :=
  ob1 (fi_J4_init I R r1 r2 de ad 0 0) fun (R1 : Nat → Option Nat) =>
  some (upd I 6 a0, R1)
set_option maxRecDepth 100000 in
set_option maxHeartbeats 4000000 in
theorem fi_X4_init_met (l : Launch) (D : dd_) (s0 : State) (h0 : ∀ w ∈ lw_tbl, va_Nw w s0) (ad : Nat → Nat) (X : va_W) (base : Nat) (hAP : AP fiS ad X base) (I : Nat → Int32) (R : Nat → Option Nat) (r1 r2 : Option Nat) (de : Nat) (hz : FZ base s0 r1 r2 de) (a0 : Int32) (I1 : (Nat → Int32)) (R1 : (Nat → Option Nat)) (hf : fi_X4_init I R r1 r2 de ad a0 = some (I1, R1)) : Met l yX4_init (ws_ yX4_init cX4_init 2 none) ({ frames := 3, cells := 0, slots := 0, locals := 80 }) (PcZ D s0 fiS ad I (fun _ _ => 0) R nG X base [.ref (ad 99), .int a0]) (QcE (fun H => WX D fiS ad I1 (fun _ _ => 0) R1 nG X H) base (none)) 0 0 (upB base) := by
  refine Met.ofW (cc := cX4_init) (maxL := 2) (ret := none) (by decide) rfl ?_
  intro p e s m args below meth c s₁ B hml hv
  obtain ⟨⟨rfl, hK, hY, hB0, hW⟩, hq0⟩ := hv
  have hx := B.exec
  have hb := B.bytes
  have hr := B.returns
  have hts := atoms_spec (ws := (ws_ yX4_init cX4_init 2 none)) B.pre
  have hts : ∀ w ∈ lw_all, w.before _ s = true := fun w h => hts w (List.mem_cons_of_mem _ h)
  have hown : s.vm.findClass RX4 = some m.cls := findClass_of_methodNamed B.named
  have hlocks := B.notSynchronized
  have hin2 : meth.name = "<init>" := (name_of_methodNamed B.named B.method).1
  have hRf : 3 ≤ (headSpec (ws_ yX4_init cX4_init 2 none) ({ frames := 3, cells := 0, slots := 0, locals := 80 })).room.frames := Nat.le_refl _
  have hRl : 80 ≤ (headSpec (ws_ yX4_init cX4_init 2 none) ({ frames := 3, cells := 0, slots := 0, locals := 80 })).room.locals := Nat.le_refl _
  have hcs : 0 ≤ (headSpec (ws_ yX4_init cX4_init 2 none) ({ frames := 3, cells := 0, slots := 0, locals := 80 })).room.cells ∧ 0 ≤ (headSpec (ws_ yX4_init cX4_init 2 none) ({ frames := 3, cells := 0, slots := 0, locals := 80 })).room.slots := ⟨Nat.zero_le _, Nat.zero_le _⟩
  have hS : va_S (upB base) s.heap s.heap [] := va_S.rf
  have hl := lv_entry ([.ref (ad 99), .int a0]) (n := 2) (Nat.le_of_ble_eq_true rfl)
  rw [lg_entry_eq]
  generalize (lg_sl ([.ref (ad 99), .int a0]) ++ List.replicate (2 - (lg_sl ([.ref (ad 99), .int a0])).length) Slot.unset).toArray = ls at hl ⊢
  have hl : lv_has ls 2 [(0, .ref (ad 99)), (1, .int a0)] := hl
  have hf : (ob1 (fi_J4_init I R r1 r2 de ad 0 0) fun (R1 : Nat → Option Nat) =>
    some (upd I 6 a0, R1)) = some (I1, R1) := hf
  refine lv_aload_n hx hb dX4_init_0 rfl (lv_at hl 0 rfl) ?_
  refine lv_null hx hb dX4_init_1 ?_
  refine lv_null hx hb dX4_init_2 ?_
  refine lv_iconst (v := 0) hx hb dX4_init_3 (by decide) ?_
  refine lv_iconst (v := 0) hx hb dX4_init_4 (by decide) ?_
  obtain ⟨R1, h1, hf⟩ := ob1_e hf
  refine z_end (Post := fun H => WX D fiS ad I (fun _ _ => 0) R1 nG X H) (ov := none) (va_runI (g := F0 m 5 ls _) (b := ad 99) (As := [.null, .null, .int 0, .int 0]) (rest := []) ⟨hx, hb, hml, hown, hts⟩ (fi_J4_init_met l D s0 h0 ad X base hAP I R r1 r2 de hz 0 0 R1 h1) (cwI 4 hts (lw_meth q337) rfl rfl rfl (hts _ q84) (hts _ q335) (hts _ q336) rfl (by decide +kernel) ⟨Nat.le_trans (Nat.le_of_ble_eq_true rfl) hRf, Nat.le_trans (Nat.le_of_ble_eq_true rfl) hRl⟩) ⟨PcZ_blind, pcz_at hY hK (Nat.le_trans hB0 hS.1) hW (z_low hq0 hB0 hS)⟩ rfl rfl hl.1 rfl (lv_room (m := m) (pc := 5) (ls := ls) (rest := []) (Nat.le_of_ble_eq_true rfl)) dX4_init_5 hcs) hS (fun H locs hW _ hS => ?_)
  refine lv_aload_n hx hb dX4_init_8 rfl (lv_at hl 0 rfl) ?_
  refine lv_iload_n hx hb dX4_init_9 rfl (lv_at hl 1 rfl) ?_
  refine x_putIF hx hb hts hown hK hin2 fiSwf hAP hW hS fiSO in_X4 tyX4 tyX4_ok nmX4 rfl 6 6 (by decide) rfl q341 rfl rfl rfl (by decide +kernel) dX4_init_10 (fun H locs hW hS => ?_)
  obtain ⟨rfl, rfl⟩ := so2 hf
  exact W.vret hx hb hr (fun t ht _ => ⟨rfl, by rw [ht]; exact hW, hS.F ht⟩) hS.2.2 dX4_init_13
theorem fi_X4_init_ds : yX4_init.cls = RX4 ∧ yX4_init.cls ≠ "java/lang/invoke/MethodHandle" ∧ yX4_init.cls ≠ "java/lang/invoke/VarHandle" ∧ (parseMethodDescriptor yX4_init.desc).map (fun d => d.parameters.length) = some 1 := by decide +kernel
abbrev faS : sp_ := ([(99, 7, [.inr (.inr 0), .inr (.inr 1), .inr (.inr 2), .inr (.inr 3), .inr (.inr 4), .inl 5, .inl 6, .inl 7])], [], [])
theorem faSwf : wfS faS := ⟨by decide +kernel, by decide +kernel, by decide +kernel, by decide +kernel, by decide +kernel, by decide +kernel⟩
theorem faSO : ((99, 7, [.inr (.inr 0), .inr (.inr 1), .inr (.inr 2), .inr (.inr 3), .inr (.inr 4), .inl 5, .inl 6, .inl 7]) : Nat × Nat × List fc_) ∈ faS.1 := List.mem_of_getElem? (i := 0) rfl
def fa_J3_init_2 (I : Nat → Int32) (R : Nat → Option Nat) (r1 r2 : Option Nat) (de : Nat) (ad : Nat → Nat) (a0 : Int32) (a1 : Int32) : Option ((Nat → Option Nat)) :=
  ob1 (if a1 = 0 then ((some (va_up (va_up (va_up (va_up R 0 (some (ad 99))) 1 r1) 2 r2) 1 none) : Option ((Nat → Option Nat)))) else (none)) fun (R1 : Nat → Option Nat) =>
  ob1 (if a0 = 0 then ((some (va_up (va_up (va_up R1 3 none) 0 none) 2 none) : Option ((Nat → Option Nat)))) else ((some (va_up (va_up R1 3 none) 0 none) : Option ((Nat → Option Nat))))) fun (R3 : Nat → Option Nat) =>
  some R3
set_option maxRecDepth 100000 in
set_option maxHeartbeats 4000000 in
theorem fa_J3_init_2_met (l : Launch) (D : dd_) (s0 : State) (h0 : ∀ w ∈ lw_tbl, va_Nw w s0) (ad : Nat → Nat) (X : va_W) (base : Nat) (hAP : AP faS ad X base) (I : Nat → Int32) (R : Nat → Option Nat) (r1 r2 : Option Nat) (de : Nat) (hz : FZ base s0 r1 r2 de) (a0 : Int32) (a1 : Int32) (R1 : (Nat → Option Nat)) (hf : fa_J3_init_2 I R r1 r2 de ad a0 a1 = some R1) : Met l yJ3_init_2 (ws_ yJ3_init_2 cJ3_init_2 5 none) ({ frames := 1, cells := 0, slots := 0, locals := 32 }) (PcZ D s0 faS ad I (fun _ _ => 0) R nG X base [.ref (ad 99), .null, .null, .int a0, .int a1]) (QcE (fun H => WX D faS ad I (fun _ _ => 0) R1 nG X H) base (none)) 0 0 (upB base) := by
  refine Met.ofW (cc := cJ3_init_2) (maxL := 5) (ret := none) (by decide) rfl ?_
  intro p e s m args below meth c s₁ B hml hv
  obtain ⟨⟨rfl, hK, hY, hB0, hW⟩, hq0⟩ := hv
  have hx := B.exec
  have hb := B.bytes
  have hr := B.returns
  have hts := atoms_spec (ws := (ws_ yJ3_init_2 cJ3_init_2 5 none)) B.pre
  have hts : ∀ w ∈ lw_all, w.before _ s = true := fun w h => hts w (List.mem_cons_of_mem _ h)
  have hown : s.vm.findClass RJ3 = some m.cls := findClass_of_methodNamed B.named
  have hlocks := B.notSynchronized
  have hin2 : meth.name = "<init>" := (name_of_methodNamed B.named B.method).1
  have hRf : 1 ≤ (headSpec (ws_ yJ3_init_2 cJ3_init_2 5 none) ({ frames := 1, cells := 0, slots := 0, locals := 32 })).room.frames := Nat.le_refl _
  have hRl : 32 ≤ (headSpec (ws_ yJ3_init_2 cJ3_init_2 5 none) ({ frames := 1, cells := 0, slots := 0, locals := 32 })).room.locals := Nat.le_refl _
  have hcs : 0 ≤ (headSpec (ws_ yJ3_init_2 cJ3_init_2 5 none) ({ frames := 1, cells := 0, slots := 0, locals := 32 })).room.cells ∧ 0 ≤ (headSpec (ws_ yJ3_init_2 cJ3_init_2 5 none) ({ frames := 1, cells := 0, slots := 0, locals := 32 })).room.slots := ⟨Nat.zero_le _, Nat.zero_le _⟩
  have hS : va_S (upB base) s.heap s.heap [] := va_S.rf
  have hl := lv_entry ([.ref (ad 99), .null, .null, .int a0, .int a1]) (n := 5) (Nat.le_of_ble_eq_true rfl)
  rw [lg_entry_eq]
  generalize (lg_sl ([.ref (ad 99), .null, .null, .int a0, .int a1]) ++ List.replicate (5 - (lg_sl ([.ref (ad 99), .null, .null, .int a0, .int a1])).length) Slot.unset).toArray = ls at hl ⊢
  have hl : lv_has ls 5 [(0, .ref (ad 99)), (1, .null), (2, .null), (3, .int a0), (4, .int a1)] := hl
  have hf : (ob1 (if a1 = 0 then ((some (va_up (va_up (va_up (va_up R 0 (some (ad 99))) 1 r1) 2 r2) 1 none) : Option ((Nat → Option Nat)))) else (none)) fun (R1 : Nat → Option Nat) =>
    ob1 (if a0 = 0 then ((some (va_up (va_up (va_up R1 3 none) 0 none) 2 none) : Option ((Nat → Option Nat)))) else ((some (va_up (va_up R1 3 none) 0 none) : Option ((Nat → Option Nat))))) fun (R3 : Nat → Option Nat) =>
    some R3) = some R1 := hf
  refine lv_aload_n hx hb dJ3_init_2_0 rfl (lv_at hl 0 rfl) ?_
  refine W.objInit hx hb hown (hts _ q315) (hts _ q115) (hts _ q116) rfl (by rw [hml]; exact hl.1) rfl dJ3_init_2_1 (Nat.le_trans (Nat.le_of_ble_eq_true rfl) hRf) (Nat.le_trans (Nat.le_of_ble_eq_true rfl) hRl) ?_
  refine W.eq (g2 := F0 m 4 ls []) rfl ?_
  refine lv_aload_n hx hb dJ3_init_2_4 rfl (lv_at hl 0 rfl) ?_
  refine lv_aload_n hx hb dJ3_init_2_5 rfl (lv_at hl 0 rfl) ?_
  refine x_putRg (x := some (ad 99)) hx hb hts hown hK faSwf hAP hW hS faSO in_X7 tyX7 tyX7_ok nmX7 rfl 0 0 (by decide) rfl q345 rfl rfl (Or.inl ⟨_, rfl⟩) dJ3_init_2_6 (fun H locs hW hS => ?_)
  refine lv_aload_n hx hb dJ3_init_2_9 rfl (lv_at hl 0 rfl) ?_
  refine xs_get hx hb hts hz.2.1 hY hq0 hS hown q316 rfl dJ3_init_2_10 ?_
  refine x_putRg (x := r1) hx hb hts hown hK faSwf hAP hW hS faSO in_X7 tyX7 tyX7_ok nmX7 rfl 1 1 (by decide) rfl q346 rfl rfl (Or.inr ⟨_, rfl⟩) dJ3_init_2_13 (fun H locs hW hS => ?_)
  refine lv_aload_n hx hb dJ3_init_2_16 rfl (lv_at hl 0 rfl) ?_
  refine xs_get hx hb hts hz.2.2.1 hY hq0 hS hown q318 rfl dJ3_init_2_17 ?_
  refine x_putRg (x := r2) hx hb hts hown hK faSwf hAP hW hS faSO in_X7 tyX7 tyX7_ok nmX7 rfl 2 2 (by decide) rfl q347 rfl rfl (Or.inl ⟨_, rfl⟩) dJ3_init_2_20 (fun H locs hW hS => ?_)
  refine lv_iload hx hb dJ3_init_2_23 (lv_at hl 4 rfl) ?_
  obtain ⟨R1, hm1, hf⟩ := ob1_e hf
  refine w_cutH (A0 := upB base) (H0 := s.heap) (X := WX D faS ad I (fun _ _ => 0) R1 nG X) (nL := 5) (L := [(0, .ref (ad 99)), (1, .null), (2, .null), (3, .int a0)]) (pcj := 41) (st := []) (fun H locs ls hW hS hl => ?_) (fun K1 => ?_)
  · refine lv_aload_n hx hb dJ3_init_2_41 rfl (lv_at hl 0 rfl) ?_
    refine lv_aload_nN hx hb dJ3_init_2_42 rfl (lv_at hl 1 rfl) ?_
    refine x_putRg (x := none) hx hb hts hown hK faSwf hAP hW hS faSO in_X7 tyX7 tyX7_ok nmX7 rfl 3 3 (by decide) rfl q344 rfl rfl (Or.inl ⟨_, rfl⟩) dJ3_init_2_43 (fun H locs hW hS => ?_)
    refine lv_aload_n hx hb dJ3_init_2_46 rfl (lv_at hl 0 rfl) ?_
    refine lv_aload_nN hx hb dJ3_init_2_47 rfl (lv_at hl 2 rfl) ?_
    refine x_putRg (x := none) hx hb hts hown hK faSwf hAP hW hS faSO in_X7 tyX7 tyX7_ok nmX7 rfl 0 0 (by decide) rfl q345 rfl rfl (Or.inl ⟨_, rfl⟩) dJ3_init_2_48 (fun H locs hW hS => ?_)
    refine lv_iload_n hx hb dJ3_init_2_51 rfl (lv_at hl 3 rfl) ?_
    obtain ⟨R3, hm3, hf⟩ := ob1_e hf
    refine w_cutH (A0 := upB base) (H0 := s.heap) (X := WX D faS ad I (fun _ _ => 0) R3 nG X) (nL := 5) (L := []) (pcj := 60) (st := []) (fun H locs ls hW hS hl => ?_) (fun K3 => ?_)
    · obtain rfl := so1 hf
      exact W.vret hx hb hr (fun t ht _ => ⟨rfl, by rw [ht]; exact hW, hS.F ht⟩) hS.2.2 dJ3_init_2_60
    · refine lv_if_ne (tgt := 60) hx hb dJ3_init_2_52 (by decide) (fun c4 => ?_) (fun c4 => ?_)
      · rw [if_neg c4] at hm3
        obtain rfl := so1 hm3
        exact K3 _ _ ls hW hS (lv_sub hl [] rfl)
      · rw [if_pos c4] at hm3
        refine lv_aload_n hx hb dJ3_init_2_55 rfl (lv_at hl 0 rfl) ?_
        refine lv_null hx hb dJ3_init_2_56 ?_
        refine x_putRg (x := none) hx hb hts hown hK faSwf hAP hW hS faSO in_X7 tyX7 tyX7_ok nmX7 rfl 2 2 (by decide) rfl q347 rfl rfl (Or.inl ⟨_, rfl⟩) dJ3_init_2_57 (fun H locs hW hS => ?_)
        obtain rfl := so1 hm3
        exact K3 _ _ ls hW hS (lv_sub hl [] rfl)
  · refine lv_if_eq (tgt := 36) hx hb dJ3_init_2_25 (by decide) (fun c2 => ?_) (fun c2 => ?_)
    · rw [if_pos c2] at hm1
      refine lv_aload_n hx hb dJ3_init_2_36 rfl (lv_at hl 0 rfl) ?_
      refine lv_null hx hb dJ3_init_2_37 ?_
      refine x_putRg (x := none) hx hb hts hown hK faSwf hAP hW hS faSO in_X7 tyX7 tyX7_ok nmX7 rfl 1 1 (by decide) rfl q346 rfl rfl (Or.inr ⟨_, rfl⟩) dJ3_init_2_38 (fun H locs hW hS => ?_)
      obtain rfl := so1 hm1
      exact K1 _ _ ls hW hS (lv_sub hl [0, 1, 2, 3] rfl)
    · rw [if_neg c2] at hm1
      exact nomatch hm1
theorem fa_J3_init_2_ds : yJ3_init_2.cls = RJ3 ∧ yJ3_init_2.cls ≠ "java/lang/invoke/MethodHandle" ∧ yJ3_init_2.cls ≠ "java/lang/invoke/VarHandle" ∧ (parseMethodDescriptor yJ3_init_2.desc).map (fun d => d.parameters.length) = some 4 := by decide +kernel
def fa_J4_init (I : Nat → Int32) (R : Nat → Option Nat) (r1 r2 : Option Nat) (de : Nat) (ad : Nat → Nat) (a0 : Int32) (a1 : Int32) : Option ((Nat → Option Nat)) :=
  ob1 (fa_J3_init_2 I R r1 r2 de ad a0 a1) fun (R1 : Nat → Option Nat) =>
  some R1
set_option maxRecDepth 100000 in
set_option maxHeartbeats 4000000 in
theorem fa_J4_init_met (l : Launch) (D : dd_) (s0 : State) (h0 : ∀ w ∈ lw_tbl, va_Nw w s0) (ad : Nat → Nat) (X : va_W) (base : Nat) (hAP : AP faS ad X base) (I : Nat → Int32) (R : Nat → Option Nat) (r1 r2 : Option Nat) (de : Nat) (hz : FZ base s0 r1 r2 de) (a0 : Int32) (a1 : Int32) (R1 : (Nat → Option Nat)) (hf : fa_J4_init I R r1 r2 de ad a0 a1 = some R1) : Met l yJ4_init (ws_ yJ4_init cJ4_init 5 none) ({ frames := 2, cells := 0, slots := 0, locals := 56 }) (PcZ D s0 faS ad I (fun _ _ => 0) R nG X base [.ref (ad 99), .null, .null, .int a0, .int a1]) (QcE (fun H => WX D faS ad I (fun _ _ => 0) R1 nG X H) base (none)) 0 0 (upB base) := by
  refine Met.ofW (cc := cJ4_init) (maxL := 5) (ret := none) (by decide) rfl ?_
  intro p e s m args below meth c s₁ B hml hv
  obtain ⟨⟨rfl, hK, hY, hB0, hW⟩, hq0⟩ := hv
  have hx := B.exec
  have hb := B.bytes
  have hr := B.returns
  have hts := atoms_spec (ws := (ws_ yJ4_init cJ4_init 5 none)) B.pre
  have hts : ∀ w ∈ lw_all, w.before _ s = true := fun w h => hts w (List.mem_cons_of_mem _ h)
  have hown : s.vm.findClass RJ4 = some m.cls := findClass_of_methodNamed B.named
  have hlocks := B.notSynchronized
  have hin2 : meth.name = "<init>" := (name_of_methodNamed B.named B.method).1
  have hRf : 2 ≤ (headSpec (ws_ yJ4_init cJ4_init 5 none) ({ frames := 2, cells := 0, slots := 0, locals := 56 })).room.frames := Nat.le_refl _
  have hRl : 56 ≤ (headSpec (ws_ yJ4_init cJ4_init 5 none) ({ frames := 2, cells := 0, slots := 0, locals := 56 })).room.locals := Nat.le_refl _
  have hcs : 0 ≤ (headSpec (ws_ yJ4_init cJ4_init 5 none) ({ frames := 2, cells := 0, slots := 0, locals := 56 })).room.cells ∧ 0 ≤ (headSpec (ws_ yJ4_init cJ4_init 5 none) ({ frames := 2, cells := 0, slots := 0, locals := 56 })).room.slots := ⟨Nat.zero_le _, Nat.zero_le _⟩
  have hS : va_S (upB base) s.heap s.heap [] := va_S.rf
  have hl := lv_entry ([.ref (ad 99), .null, .null, .int a0, .int a1]) (n := 5) (Nat.le_of_ble_eq_true rfl)
  rw [lg_entry_eq]
  generalize (lg_sl ([.ref (ad 99), .null, .null, .int a0, .int a1]) ++ List.replicate (5 - (lg_sl ([.ref (ad 99), .null, .null, .int a0, .int a1])).length) Slot.unset).toArray = ls at hl ⊢
  have hl : lv_has ls 5 [(0, .ref (ad 99)), (1, .null), (2, .null), (3, .int a0), (4, .int a1)] := hl
  have hf : (ob1 (fa_J3_init_2 I R r1 r2 de ad a0 a1) fun (R1 : Nat → Option Nat) =>
    some R1) = some R1 := hf
  refine lv_aload_n hx hb dJ4_init_0 rfl (lv_at hl 0 rfl) ?_
  refine lv_aload_nN hx hb dJ4_init_1 rfl (lv_at hl 1 rfl) ?_
  refine lv_aload_nN hx hb dJ4_init_2 rfl (lv_at hl 2 rfl) ?_
  refine lv_iload_n hx hb dJ4_init_3 rfl (lv_at hl 3 rfl) ?_
  refine lv_iload hx hb dJ4_init_4 (lv_at hl 4 rfl) ?_
  obtain ⟨R1, h1, hf⟩ := ob1_e hf
  refine z_end (Post := fun H => WX D faS ad I (fun _ _ => 0) R1 nG X H) (ov := none) (va_runI (g := F0 m 6 ls _) (b := ad 99) (As := [.null, .null, .int a0, .int a1]) (rest := []) ⟨hx, hb, hml, hown, hts⟩ (fa_J3_init_2_met l D s0 h0 ad X base hAP I R r1 r2 de hz a0 a1 R1 h1) (cwI 4 hts (lw_meth q340) rfl rfl rfl (hts _ q83) (hts _ q338) (hts _ q339) rfl (by decide +kernel) ⟨Nat.le_trans (Nat.le_of_ble_eq_true rfl) hRf, Nat.le_trans (Nat.le_of_ble_eq_true rfl) hRl⟩) ⟨PcZ_blind, pcz_at hY hK (Nat.le_trans hB0 hS.1) hW (z_low hq0 hB0 hS)⟩ rfl rfl hl.1 rfl (lv_room (m := m) (pc := 6) (ls := ls) (rest := []) (Nat.le_of_ble_eq_true rfl)) dJ4_init_6 hcs) hS (fun H locs hW _ hS => ?_)
  obtain rfl := so1 hf
  exact W.vret hx hb hr (fun t ht _ => ⟨rfl, by rw [ht]; exact hW, hS.F ht⟩) hS.2.2 dJ4_init_9
theorem fa_J4_init_ds : yJ4_init.cls = RJ4 ∧ yJ4_init.cls ≠ "java/lang/invoke/MethodHandle" ∧ yJ4_init.cls ≠ "java/lang/invoke/VarHandle" ∧ (parseMethodDescriptor yJ4_init.desc).map (fun d => d.parameters.length) = some 4 := by decide +kernel
def fa_X7_init (I : Nat → Int32) (R : Nat → Option Nat) (r1 r2 : Option Nat) (de : Nat) (ad : Nat → Nat) (a0 : Int32) (a1 : Int32) : Option ((Nat → Int32) × (Nat → Option Nat)) :=
  ob1 (fa_J4_init I R r1 r2 de ad 0 0) fun (R1 : Nat → Option Nat) =>
  some (upd (upd I 6 a0) 7 a1, R1)
set_option maxRecDepth 100000 in
set_option maxHeartbeats 4000000 in
theorem fa_X7_init_met (l : Launch) (D : dd_) (s0 : State) (h0 : ∀ w ∈ lw_tbl, va_Nw w s0) (ad : Nat → Nat) (X : va_W) (base : Nat) (hAP : AP faS ad X base) (I : Nat → Int32) (R : Nat → Option Nat) (r1 r2 : Option Nat) (de : Nat) (hz : FZ base s0 r1 r2 de) (a0 : Int32) (a1 : Int32) (I1 : (Nat → Int32)) (R1 : (Nat → Option Nat)) (hf : fa_X7_init I R r1 r2 de ad a0 a1 = some (I1, R1)) : Met l yX7_init (ws_ yX7_init cX7_init 3 none) ({ frames := 3, cells := 0, slots := 0, locals := 80 }) (PcZ D s0 faS ad I (fun _ _ => 0) R nG X base [.ref (ad 99), .int a0, .int a1]) (QcE (fun H => WX D faS ad I1 (fun _ _ => 0) R1 nG X H) base (none)) 0 0 (upB base) := by
  refine Met.ofW (cc := cX7_init) (maxL := 3) (ret := none) (by decide) rfl ?_
  intro p e s m args below meth c s₁ B hml hv
  obtain ⟨⟨rfl, hK, hY, hB0, hW⟩, hq0⟩ := hv
  have hx := B.exec
  have hb := B.bytes
  have hr := B.returns
  have hts := atoms_spec (ws := (ws_ yX7_init cX7_init 3 none)) B.pre
  have hts : ∀ w ∈ lw_all, w.before _ s = true := fun w h => hts w (List.mem_cons_of_mem _ h)
  have hown : s.vm.findClass RX7 = some m.cls := findClass_of_methodNamed B.named
  have hlocks := B.notSynchronized
  have hin2 : meth.name = "<init>" := (name_of_methodNamed B.named B.method).1
  have hRf : 3 ≤ (headSpec (ws_ yX7_init cX7_init 3 none) ({ frames := 3, cells := 0, slots := 0, locals := 80 })).room.frames := Nat.le_refl _
  have hRl : 80 ≤ (headSpec (ws_ yX7_init cX7_init 3 none) ({ frames := 3, cells := 0, slots := 0, locals := 80 })).room.locals := Nat.le_refl _
  have hcs : 0 ≤ (headSpec (ws_ yX7_init cX7_init 3 none) ({ frames := 3, cells := 0, slots := 0, locals := 80 })).room.cells ∧ 0 ≤ (headSpec (ws_ yX7_init cX7_init 3 none) ({ frames := 3, cells := 0, slots := 0, locals := 80 })).room.slots := ⟨Nat.zero_le _, Nat.zero_le _⟩
  have hS : va_S (upB base) s.heap s.heap [] := va_S.rf
  have hl := lv_entry ([.ref (ad 99), .int a0, .int a1]) (n := 3) (Nat.le_of_ble_eq_true rfl)
  rw [lg_entry_eq]
  generalize (lg_sl ([.ref (ad 99), .int a0, .int a1]) ++ List.replicate (3 - (lg_sl ([.ref (ad 99), .int a0, .int a1])).length) Slot.unset).toArray = ls at hl ⊢
  have hl : lv_has ls 3 [(0, .ref (ad 99)), (1, .int a0), (2, .int a1)] := hl
  have hf : (ob1 (fa_J4_init I R r1 r2 de ad 0 0) fun (R1 : Nat → Option Nat) =>
    some (upd (upd I 6 a0) 7 a1, R1)) = some (I1, R1) := hf
  refine lv_aload_n hx hb dX7_init_0 rfl (lv_at hl 0 rfl) ?_
  refine lv_null hx hb dX7_init_1 ?_
  refine lv_null hx hb dX7_init_2 ?_
  refine lv_iconst (v := 0) hx hb dX7_init_3 (by decide) ?_
  refine lv_iconst (v := 0) hx hb dX7_init_4 (by decide) ?_
  obtain ⟨R1, h1, hf⟩ := ob1_e hf
  refine z_end (Post := fun H => WX D faS ad I (fun _ _ => 0) R1 nG X H) (ov := none) (va_runI (g := F0 m 5 ls _) (b := ad 99) (As := [.null, .null, .int 0, .int 0]) (rest := []) ⟨hx, hb, hml, hown, hts⟩ (fa_J4_init_met l D s0 h0 ad X base hAP I R r1 r2 de hz 0 0 R1 h1) (cwI 4 hts (lw_meth q337) rfl rfl rfl (hts _ q84) (hts _ q518) (hts _ q336) rfl (by decide +kernel) ⟨Nat.le_trans (Nat.le_of_ble_eq_true rfl) hRf, Nat.le_trans (Nat.le_of_ble_eq_true rfl) hRl⟩) ⟨PcZ_blind, pcz_at hY hK (Nat.le_trans hB0 hS.1) hW (z_low hq0 hB0 hS)⟩ rfl rfl hl.1 rfl (lv_room (m := m) (pc := 5) (ls := ls) (rest := []) (Nat.le_of_ble_eq_true rfl)) dX7_init_5 hcs) hS (fun H locs hW _ hS => ?_)
  refine lv_aload_n hx hb dX7_init_8 rfl (lv_at hl 0 rfl) ?_
  refine lv_iload_n hx hb dX7_init_9 rfl (lv_at hl 1 rfl) ?_
  refine x_putIF hx hb hts hown hK hin2 faSwf hAP hW hS faSO in_X7 tyX7 tyX7_ok nmX7 rfl 6 6 (by decide) rfl q519 rfl rfl rfl (by decide +kernel) dX7_init_10 (fun H locs hW hS => ?_)
  refine lv_aload_n hx hb dX7_init_13 rfl (lv_at hl 0 rfl) ?_
  refine lv_iload_n hx hb dX7_init_14 rfl (lv_at hl 2 rfl) ?_
  refine x_putIF hx hb hts hown hK hin2 faSwf hAP hW hS faSO in_X7 tyX7 tyX7_ok nmX7 rfl 7 7 (by decide) rfl q521 rfl rfl rfl (by decide +kernel) dX7_init_15 (fun H locs hW hS => ?_)
  obtain ⟨rfl, rfl⟩ := so2 hf
  exact W.vret hx hb hr (fun t ht _ => ⟨rfl, by rw [ht]; exact hW, hS.F ht⟩) hS.2.2 dX7_init_18
theorem fa_X7_init_ds : yX7_init.cls = RX7 ∧ yX7_init.cls ≠ "java/lang/invoke/MethodHandle" ∧ yX7_init.cls ≠ "java/lang/invoke/VarHandle" ∧ (parseMethodDescriptor yX7_init.desc).map (fun d => d.parameters.length) = some 2 := by decide +kernel
