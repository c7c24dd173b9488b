/-! constructors, flat -/
theorem vT_int : FieldType.int ∈ vTys := by decide
theorem vT_byte : FieldType.byte ∈ vTys := by decide
theorem vT_boolean : FieldType.boolean ∈ vTys := by decide
theorem vT_Row : FieldType.object "PromisePounds$Row" ∈ vTys := by decide
theorem vT_Parish : FieldType.object "PromisePounds$Parish" ∈ vTys := by decide
theorem vT_Object : FieldType.object "java/lang/Object" ∈ vTys := by decide
set_option maxRecDepth 100000 in
set_option maxHeartbeats 4000000 in
theorem f_J2_J0_met (l : Launch) (D : dd_) (s0 : State) (h0 : ∀ w ∈ lw_tbl, va_Nw w s0) (X : va_W) (base : Nat) (r1 r2 : Option Nat) (de : Nat) (hz : FZ base s0 r1 r2 de) (b : Nat) (hA : FA (X ++ [(b, .inr (13, [.int 0, .null, .int 0]))]) base) : Met l yJ0_init (ws_ yJ0_init cJ0_init 1 none) ({ frames := 1, cells := 0, slots := 0, locals := 32 }) (PcZ D s0 nS id (fun _ => 0) (fun _ _ => 0) nR nG (X ++ [(b, .inr (13, [.int 0, .null, .int 0]))]) base [.ref b]) (QcE (fun H => FW D (X ++ [(b, .inr (13, [.int 0, .null, .int 0]))]) H ∧ FA (X ++ [(b, .inr (13, [.int 0, .null, .int 0]))]) base) base none) 0 (0) (upB base) := by
  refine Met.ofW (cc := cJ0_init) (maxL := 1) (ret := none) (by decide) rfl ?_
  intro p e s m args below meth c s₁ B hml hv
  obtain ⟨⟨rfl, hK, hY, hB0, hW⟩, hq0⟩ := hv
  have hW : FW D (X ++ [(b, .inr (13, [.int 0, .null, .int 0]))]) s.heap := hW
  have hx := B.exec
  have hb := B.bytes
  have hr := B.returns
  have hts := atoms_spec (ws := (ws_ yJ0_init cJ0_init 1 none)) B.pre
  have hts : ∀ w ∈ lw_all, w.before _ s = true := fun w h => hts w (List.mem_cons_of_mem _ h)
  have hown : s.vm.findClass RJ0 = some m.cls := findClass_of_methodNamed B.named
  have hlocks := B.notSynchronized
  have hin2 : meth.name = "<init>" := (name_of_methodNamed B.named B.method).1
  have hRf : 1 ≤ (headSpec (ws_ yJ0_init cJ0_init 1 none) ({ frames := 1, cells := 0, slots := 0, locals := 32 })).room.frames := Nat.le_refl _
  have hRl : 32 ≤ (headSpec (ws_ yJ0_init cJ0_init 1 none) ({ frames := 1, cells := 0, slots := 0, locals := 32 })).room.locals := Nat.le_refl _
  have hS : va_S (upB base) s.heap s.heap [] := va_S.rf
  have hl := lv_entry ([.ref b]) (n := 1) (Nat.le_of_ble_eq_true rfl)
  rw [lg_entry_eq]
  generalize (lg_sl ([.ref b]) ++ List.replicate (1 - (lg_sl ([.ref b])).length) Slot.unset).toArray = ls at hl ⊢
  have hl : lv_has ls 1 [(0, .ref b)] := hl
  refine lv_aload_n hx hb dJ0_init_0 rfl (lv_at hl 0 rfl) ?_
  refine W.objInit hx hb hown (hts _ q136) (hts _ q115) (hts _ q116) rfl (by rw [hml]; exact hl.1) rfl dJ0_init_1 (Nat.le_trans (Nat.le_of_ble_eq_true rfl) hRf) (Nat.le_trans (Nat.le_of_ble_eq_true rfl) hRl) ?_
  refine W.eq (g2 := F0 m 4 ls []) rfl ?_
  exact W.vret hx hb hr (fun t ht _ => ⟨rfl, by rw [ht]; exact ⟨hW, hA⟩, hS.F ht⟩) hS.2.2 dJ0_init_4
set_option maxRecDepth 100000 in
set_option maxHeartbeats 4000000 in
theorem f_J2_J1_met (l : Launch) (D : dd_) (s0 : State) (h0 : ∀ w ∈ lw_tbl, va_Nw w s0) (X : va_W) (base : Nat) (r1 r2 : Option Nat) (de : Nat) (hz : FZ base s0 r1 r2 de) (b : Nat) (hA : FA (X ++ [(b, .inr (13, [.int 0, .null, .int 0]))]) base) : Met l yJ1_init (ws_ yJ1_init cJ1_init 1 none) ({ frames := 2, cells := 0, slots := 0, locals := 52 }) (PcZ D s0 nS id (fun _ => 0) (fun _ _ => 0) nR nG (X ++ [(b, .inr (13, [.int 0, .null, .int 0]))]) base [.ref b]) (QcE (fun H => FW D (X ++ [(b, .inr (13, [.int 0, .null, .int 0]))]) H ∧ FA (X ++ [(b, .inr (13, [.int 0, .null, .int 0]))]) base) base none) 0 (0) (upB base) := by
  refine Met.ofW (cc := cJ1_init) (maxL := 1) (ret := none) (by decide) rfl ?_
  intro p e s m args below meth c s₁ B hml hv
  obtain ⟨⟨rfl, hK, hY, hB0, hW⟩, hq0⟩ := hv
  have hW : FW D (X ++ [(b, .inr (13, [.int 0, .null, .int 0]))]) s.heap := hW
  have hx := B.exec
  have hb := B.bytes
  have hr := B.returns
  have hts := atoms_spec (ws := (ws_ yJ1_init cJ1_init 1 none)) B.pre
  have hts : ∀ w ∈ lw_all, w.before _ s = true := fun w h => hts w (List.mem_cons_of_mem _ h)
  have hown : s.vm.findClass RJ1 = some m.cls := findClass_of_methodNamed B.named
  have hlocks := B.notSynchronized
  have hin2 : meth.name = "<init>" := (name_of_methodNamed B.named B.method).1
  have hRf : 2 ≤ (headSpec (ws_ yJ1_init cJ1_init 1 none) ({ frames := 2, cells := 0, slots := 0, locals := 52 })).room.frames := Nat.le_refl _
  have hRl : 52 ≤ (headSpec (ws_ yJ1_init cJ1_init 1 none) ({ frames := 2, cells := 0, slots := 0, locals := 52 })).room.locals := Nat.le_refl _
  have hS : va_S (upB base) s.heap s.heap [] := va_S.rf
  have hl := lv_entry ([.ref b]) (n := 1) (Nat.le_of_ble_eq_true rfl)
  rw [lg_entry_eq]
  generalize (lg_sl ([.ref b]) ++ List.replicate (1 - (lg_sl ([.ref b])).length) Slot.unset).toArray = ls at hl ⊢
  have hl : lv_has ls 1 [(0, .ref b)] := hl
  refine lv_aload_n hx hb dJ1_init_0 rfl (lv_at hl 0 rfl) ?_
  refine z_end (Post := fun H => FW D ((X ++ []) ++ [(b, .inr (13, [.int 0, .null, .int 0]))]) H ∧ FA ((X ++ []) ++ [(b, .inr (13, [.int 0, .null, .int 0]))]) base) (ov := none) (va_runI (g := F0 m 1 ls _) (b := b) (As := []) (rest := []) ⟨hx, hb, hml, hown, hts⟩ (f_J2_J0_met l D s0 h0 (X ++ []) base r1 r2 de hz b (by rw [List.append_assoc]; exact hA)) (cwI 0 hts (lw_meth q135) rfl rfl rfl (hts _ q78) (hts _ q133) (hts _ q134) rfl (by decide +kernel) ⟨Nat.le_trans (Nat.le_of_ble_eq_true rfl) hRf, Nat.le_trans (Nat.le_of_ble_eq_true rfl) hRl⟩) ⟨PcZ_blind, pcz_at (Sc := nS) (adc := id) (Ic := fun _ => 0) (Ac := fun _ _ => 0) (Rc := nR) (Gc := nG) hY hK (Nat.le_trans hB0 hS.1) (show FW D ((X ++ []) ++ [(b, .inr (13, [.int 0, .null, .int 0]))]) _ by rw [List.append_assoc]; exact hW) (z_low hq0 hB0 hS)⟩ rfl rfl hl.1 rfl (lv_room (m := m) (pc := 1) (ls := ls) (rest := []) (Nat.le_of_ble_eq_true rfl)) dJ1_init_1 ⟨(Nat.le_of_ble_eq_true rfl), (Nat.le_of_ble_eq_true rfl)⟩) hS (fun H locs hP _ hS => ?_)
  obtain ⟨hW, hA⟩ := hP
  rw [List.append_assoc] at hW hA
  have hW : FW D (X ++ [(b, .inr (13, [.int 0, .null, .int 0]))]) H := hW
  have hA : FA (X ++ [(b, .inr (13, [.int 0, .null, .int 0]))]) base := hA
  refine lv_aload_n hx hb dJ1_init_4 rfl (lv_at hl 0 rfl) ?_
  refine lv_iconst (v := 0) hx hb dJ1_init_5 (by decide) ?_
  refine f_put (v := .int 0) (ci := 13) hx hb hts hown hK hA hW hS 0 rfl in_J2 tyJ2 tyJ2_ok nmJ2 rfl 0 (by decide) q141 rfl rfl ⟨rfl, rfl⟩ (Nat.le_of_ble_eq_true rfl) dJ1_init_6 (fun H locs hW hA hS => ?_)
  have hW : FW D (X ++ [(b, .inr (13, [.int 0, .null, .int 0]))]) H := hW
  have hA : FA (X ++ [(b, .inr (13, [.int 0, .null, .int 0]))]) base := hA
  exact W.vret hx hb hr (fun t ht _ => ⟨rfl, by rw [ht]; exact ⟨hW, hA⟩, hS.F ht⟩) hS.2.2 dJ1_init_9
set_option maxRecDepth 100000 in
set_option maxHeartbeats 4000000 in
theorem f_J2_J2_met (l : Launch) (D : dd_) (s0 : State) (h0 : ∀ w ∈ lw_tbl, va_Nw w s0) (X : va_W) (base : Nat) (r1 r2 : Option Nat) (de : Nat) (hz : FZ base s0 r1 r2 de) (b : Nat) (hA : FA (X ++ [(b, .inr (13, [.int 0, .null, .int 0]))]) base) : Met l yJ2_init (ws_ yJ2_init cJ2_init 1 none) ({ frames := 3, cells := 0, slots := 0, locals := 72 }) (PcZ D s0 nS id (fun _ => 0) (fun _ _ => 0) nR nG (X ++ [(b, .inr (13, [.int 0, .null, .int 0]))]) base [.ref b]) (QcE (fun H => FW D (X ++ [(b, .inr (13, [.int 0, .ref de, .int 0]))]) H ∧ FA (X ++ [(b, .inr (13, [.int 0, .ref de, .int 0]))]) base) base none) 0 (0) (upB base) := by
  refine Met.ofW (cc := cJ2_init) (maxL := 1) (ret := none) (by decide) rfl ?_
  intro p e s m args below meth c s₁ B hml hv
  obtain ⟨⟨rfl, hK, hY, hB0, hW⟩, hq0⟩ := hv
  have hW : FW D (X ++ [(b, .inr (13, [.int 0, .null, .int 0]))]) s.heap := hW
  have hx := B.exec
  have hb := B.bytes
  have hr := B.returns
  have hts := atoms_spec (ws := (ws_ yJ2_init cJ2_init 1 none)) B.pre
  have hts : ∀ w ∈ lw_all, w.before _ s = true := fun w h => hts w (List.mem_cons_of_mem _ h)
  have hown : s.vm.findClass RJ2 = some m.cls := findClass_of_methodNamed B.named
  have hlocks := B.notSynchronized
  have hin2 : meth.name = "<init>" := (name_of_methodNamed B.named B.method).1
  have hRf : 3 ≤ (headSpec (ws_ yJ2_init cJ2_init 1 none) ({ frames := 3, cells := 0, slots := 0, locals := 72 })).room.frames := Nat.le_refl _
  have hRl : 72 ≤ (headSpec (ws_ yJ2_init cJ2_init 1 none) ({ frames := 3, cells := 0, slots := 0, locals := 72 })).room.locals := Nat.le_refl _
  have hS : va_S (upB base) s.heap s.heap [] := va_S.rf
  have hl := lv_entry ([.ref b]) (n := 1) (Nat.le_of_ble_eq_true rfl)
  rw [lg_entry_eq]
  generalize (lg_sl ([.ref b]) ++ List.replicate (1 - (lg_sl ([.ref b])).length) Slot.unset).toArray = ls at hl ⊢
  have hl : lv_has ls 1 [(0, .ref b)] := hl
  refine lv_aload_n hx hb dJ2_init_0 rfl (lv_at hl 0 rfl) ?_
  refine z_end (Post := fun H => FW D ((X ++ []) ++ [(b, .inr (13, [.int 0, .null, .int 0]))]) H ∧ FA ((X ++ []) ++ [(b, .inr (13, [.int 0, .null, .int 0]))]) base) (ov := none) (va_runI (g := F0 m 1 ls _) (b := b) (As := []) (rest := []) ⟨hx, hb, hml, hown, hts⟩ (f_J2_J1_met l D s0 h0 (X ++ []) base r1 r2 de hz b (by rw [List.append_assoc]; exact hA)) (cwI 0 hts (lw_meth q132) rfl rfl rfl (hts _ q79) (hts _ q130) (hts _ q131) rfl (by decide +kernel) ⟨Nat.le_trans (Nat.le_of_ble_eq_true rfl) hRf, Nat.le_trans (Nat.le_of_ble_eq_true rfl) hRl⟩) ⟨PcZ_blind, pcz_at (Sc := nS) (adc := id) (Ic := fun _ => 0) (Ac := fun _ _ => 0) (Rc := nR) (Gc := nG) hY hK (Nat.le_trans hB0 hS.1) (show FW D ((X ++ []) ++ [(b, .inr (13, [.int 0, .null, .int 0]))]) _ by rw [List.append_assoc]; exact hW) (z_low hq0 hB0 hS)⟩ rfl rfl hl.1 rfl (lv_room (m := m) (pc := 1) (ls := ls) (rest := []) (Nat.le_of_ble_eq_true rfl)) dJ2_init_1 ⟨(Nat.le_of_ble_eq_true rfl), (Nat.le_of_ble_eq_true rfl)⟩) hS (fun H locs hP _ hS => ?_)
  obtain ⟨hW, hA⟩ := hP
  rw [List.append_assoc] at hW hA
  have hW : FW D (X ++ [(b, .inr (13, [.int 0, .null, .int 0]))]) H := hW
  have hA : FA (X ++ [(b, .inr (13, [.int 0, .null, .int 0]))]) base := hA
  refine lv_aload_n hx hb dJ2_init_4 rfl (lv_at hl 0 rfl) ?_
  refine xs_get hx hb hts hz.2.2.2 hY hq0 hS hown q137 rfl dJ2_init_5 ?_
  refine f_put (v := .ref de) (ci := 13) hx hb hts hown hK hA hW hS 0 rfl in_J2 tyJ2 tyJ2_ok nmJ2 rfl 1 (by decide) q139 rfl rfl ⟨rfl, rfl⟩ (Nat.le_of_ble_eq_true rfl) dJ2_init_8 (fun H locs hW hA hS => ?_)
  have hW : FW D (X ++ [(b, .inr (13, [.int 0, .ref de, .int 0]))]) H := hW
  have hA : FA (X ++ [(b, .inr (13, [.int 0, .ref de, .int 0]))]) base := hA
  exact W.vret hx hb hr (fun t ht _ => ⟨rfl, by rw [ht]; exact ⟨hW, hA⟩, hS.F ht⟩) hS.2.2 dJ2_init_11
set_option maxRecDepth 100000 in
set_option maxHeartbeats 4000000 in
theorem f_X9_X8_met (l : Launch) (D : dd_) (s0 : State) (h0 : ∀ w ∈ lw_tbl, va_Nw w s0) (X : va_W) (base : Nat) (r1 r2 : Option Nat) (de : Nat) (hz : FZ base s0 r1 r2 de) (b : Nat) (a0 : Int32) (hA : FA (X ++ [(b, .inr (8, [.int 0]))]) base) : Met l yX8_init (ws_ yX8_init cX8_init 2 none) ({ frames := 1, cells := 0, slots := 0, locals := 32 }) (PcZ D s0 nS id (fun _ => 0) (fun _ _ => 0) nR nG (X ++ [(b, .inr (8, [.int 0]))]) base [.ref b, .int a0]) (QcE (fun H => FW D (X ++ [(b, .inr (8, [.int a0]))]) H ∧ FA (X ++ [(b, .inr (8, [.int a0]))]) base) base none) 0 (0) (upB base) := by
  refine Met.ofW (cc := cX8_init) (maxL := 2) (ret := none) (by decide) rfl ?_
  intro p e s m args below meth c s₁ B hml hv
  obtain ⟨⟨rfl, hK, hY, hB0, hW⟩, hq0⟩ := hv
  have hW : FW D (X ++ [(b, .inr (8, [.int 0]))]) s.heap := hW
  have hx := B.exec
  have hb := B.bytes
  have hr := B.returns
  have hts := atoms_spec (ws := (ws_ yX8_init cX8_init 2 none)) B.pre
  have hts : ∀ w ∈ lw_all, w.before _ s = true := fun w h => hts w (List.mem_cons_of_mem _ h)
  have hown : s.vm.findClass RX8 = some m.cls := findClass_of_methodNamed B.named
  have hlocks := B.notSynchronized
  have hin2 : meth.name = "<init>" := (name_of_methodNamed B.named B.method).1
  have hRf : 1 ≤ (headSpec (ws_ yX8_init cX8_init 2 none) ({ frames := 1, cells := 0, slots := 0, locals := 32 })).room.frames := Nat.le_refl _
  have hRl : 32 ≤ (headSpec (ws_ yX8_init cX8_init 2 none) ({ frames := 1, cells := 0, slots := 0, locals := 32 })).room.locals := Nat.le_refl _
  have hS : va_S (upB base) s.heap s.heap [] := va_S.rf
  have hl := lv_entry ([.ref b, .int a0]) (n := 2) (Nat.le_of_ble_eq_true rfl)
  rw [lg_entry_eq]
  generalize (lg_sl ([.ref b, .int a0]) ++ List.replicate (2 - (lg_sl ([.ref b, .int a0])).length) Slot.unset).toArray = ls at hl ⊢
  have hl : lv_has ls 2 [(0, .ref b), (1, .int a0)] := hl
  refine lv_aload_n hx hb dX8_init_0 rfl (lv_at hl 0 rfl) ?_
  refine W.objInit hx hb hown (hts _ q630) (hts _ q115) (hts _ q116) rfl (by rw [hml]; exact hl.1) rfl dX8_init_1 (Nat.le_trans (Nat.le_of_ble_eq_true rfl) hRf) (Nat.le_trans (Nat.le_of_ble_eq_true rfl) hRl) ?_
  refine W.eq (g2 := F0 m 4 ls []) rfl ?_
  refine lv_aload_n hx hb dX8_init_4 rfl (lv_at hl 0 rfl) ?_
  refine lv_iload_n hx hb dX8_init_5 rfl (lv_at hl 1 rfl) ?_
  refine f_putF (v := .int a0) (ci := 8) hx hb hts hown hK hin2 hA hW hS 0 rfl in_X9 tyX9 tyX9_ok nmX9 rfl 0 (by decide) q631 rfl rfl rfl ⟨rfl, rfl⟩ (Nat.le_of_ble_eq_true rfl) dX8_init_6 (fun H locs hW hA hS => ?_)
  have hW : FW D (X ++ [(b, .inr (8, [.int a0]))]) H := hW
  have hA : FA (X ++ [(b, .inr (8, [.int a0]))]) base := hA
  exact W.vret hx hb hr (fun t ht _ => ⟨rfl, by rw [ht]; exact ⟨hW, hA⟩, hS.F ht⟩) hS.2.2 dX8_init_9
set_option maxRecDepth 100000 in
set_option maxHeartbeats 4000000 in
theorem f_X9_X9_met (l : Launch) (D : dd_) (s0 : State) (h0 : ∀ w ∈ lw_tbl, va_Nw w s0) (X : va_W) (base : Nat) (r1 r2 : Option Nat) (de : Nat) (hz : FZ base s0 r1 r2 de) (b : Nat) (a0 : Int32) (hA : FA (X ++ [(b, .inr (8, [.int 0]))]) base) : Met l yX9_init (ws_ yX9_init cX9_init 2 none) ({ frames := 2, cells := 0, slots := 0, locals := 53 }) (PcZ D s0 nS id (fun _ => 0) (fun _ _ => 0) nR nG (X ++ [(b, .inr (8, [.int 0]))]) base [.ref b, .int a0]) (QcE (fun H => FW D (X ++ [(b, .inr (8, [.int a0]))]) H ∧ FA (X ++ [(b, .inr (8, [.int a0]))]) base) base none) 0 (0) (upB base) := by
  refine Met.ofW (cc := cX9_init) (maxL := 2) (ret := none) (by decide) rfl ?_
  intro p e s m args below meth c s₁ B hml hv
  obtain ⟨⟨rfl, hK, hY, hB0, hW⟩, hq0⟩ := hv
  have hW : FW D (X ++ [(b, .inr (8, [.int 0]))]) s.heap := hW
  have hx := B.exec
  have hb := B.bytes
  have hr := B.returns
  have hts := atoms_spec (ws := (ws_ yX9_init cX9_init 2 none)) B.pre
  have hts : ∀ w ∈ lw_all, w.before _ s = true := fun w h => hts w (List.mem_cons_of_mem _ h)
  have hown : s.vm.findClass RX9 = some m.cls := findClass_of_methodNamed B.named
  have hlocks := B.notSynchronized
  have hin2 : meth.name = "<init>" := (name_of_methodNamed B.named B.method).1
  have hRf : 2 ≤ (headSpec (ws_ yX9_init cX9_init 2 none) ({ frames := 2, cells := 0, slots := 0, locals := 53 })).room.frames := Nat.le_refl _
  have hRl : 53 ≤ (headSpec (ws_ yX9_init cX9_init 2 none) ({ frames := 2, cells := 0, slots := 0, locals := 53 })).room.locals := Nat.le_refl _
  have hS : va_S (upB base) s.heap s.heap [] := va_S.rf
  have hl := lv_entry ([.ref b, .int a0]) (n := 2) (Nat.le_of_ble_eq_true rfl)
  rw [lg_entry_eq]
  generalize (lg_sl ([.ref b, .int a0]) ++ List.replicate (2 - (lg_sl ([.ref b, .int a0])).length) Slot.unset).toArray = ls at hl ⊢
  have hl : lv_has ls 2 [(0, .ref b), (1, .int a0)] := hl
  refine lv_aload_n hx hb dX9_init_0 rfl (lv_at hl 0 rfl) ?_
  refine lv_iload_n hx hb dX9_init_1 rfl (lv_at hl 1 rfl) ?_
  refine z_end (Post := fun H => FW D ((X ++ []) ++ [(b, .inr (8, [.int a0]))]) H ∧ FA ((X ++ []) ++ [(b, .inr (8, [.int a0]))]) base) (ov := none) (va_runI (g := F0 m 2 ls _) (b := b) (As := [.int a0]) (rest := []) ⟨hx, hb, hml, hown, hts⟩ (f_X9_X8_met l D s0 h0 (X ++ []) base r1 r2 de hz b a0 (by rw [List.append_assoc]; exact hA)) (cwI 1 hts (lw_meth q629) rfl rfl rfl (hts _ q97) (hts _ q627) (hts _ q628) rfl (by decide +kernel) ⟨Nat.le_trans (Nat.le_of_ble_eq_true rfl) hRf, Nat.le_trans (Nat.le_of_ble_eq_true rfl) hRl⟩) ⟨PcZ_blind, pcz_at (Sc := nS) (adc := id) (Ic := fun _ => 0) (Ac := fun _ _ => 0) (Rc := nR) (Gc := nG) hY hK (Nat.le_trans hB0 hS.1) (show FW D ((X ++ []) ++ [(b, .inr (8, [.int 0]))]) _ by rw [List.append_assoc]; exact hW) (z_low hq0 hB0 hS)⟩ rfl rfl hl.1 rfl (lv_room (m := m) (pc := 2) (ls := ls) (rest := []) (Nat.le_of_ble_eq_true rfl)) dX9_init_2 ⟨(Nat.le_of_ble_eq_true rfl), (Nat.le_of_ble_eq_true rfl)⟩) hS (fun H locs hP _ hS => ?_)
  obtain ⟨hW, hA⟩ := hP
  rw [List.append_assoc] at hW hA
  have hW : FW D (X ++ [(b, .inr (8, [.int a0]))]) H := hW
  have hA : FA (X ++ [(b, .inr (8, [.int a0]))]) base := hA
  exact W.vret hx hb hr (fun t ht _ => ⟨rfl, by rw [ht]; exact ⟨hW, hA⟩, hS.F ht⟩) hS.2.2 dX9_init_5
set_option maxRecDepth 100000 in
set_option maxHeartbeats 4000000 in
theorem f_X10_X8_met (l : Launch) (D : dd_) (s0 : State) (h0 : ∀ w ∈ lw_tbl, va_Nw w s0) (X : va_W) (base : Nat) (r1 r2 : Option Nat) (de : Nat) (hz : FZ base s0 r1 r2 de) (b : Nat) (a0 : Int32) (hA : FA (X ++ [(b, .inr (9, [.int 0]))]) base) : Met l yX8_init (ws_ yX8_init cX8_init 2 none) ({ frames := 1, cells := 0, slots := 0, locals := 32 }) (PcZ D s0 nS id (fun _ => 0) (fun _ _ => 0) nR nG (X ++ [(b, .inr (9, [.int 0]))]) base [.ref b, .int a0]) (QcE (fun H => FW D (X ++ [(b, .inr (9, [.int a0]))]) H ∧ FA (X ++ [(b, .inr (9, [.int a0]))]) base) base none) 0 (0) (upB base) := by
  refine Met.ofW (cc := cX8_init) (maxL := 2) (ret := none) (by decide) rfl ?_
  intro p e s m args below meth c s₁ B hml hv
  obtain ⟨⟨rfl, hK, hY, hB0, hW⟩, hq0⟩ := hv
  have hW : FW D (X ++ [(b, .inr (9, [.int 0]))]) s.heap := hW
  have hx := B.exec
  have hb := B.bytes
  have hr := B.returns
  have hts := atoms_spec (ws := (ws_ yX8_init cX8_init 2 none)) B.pre
  have hts : ∀ w ∈ lw_all, w.before _ s = true := fun w h => hts w (List.mem_cons_of_mem _ h)
  have hown : s.vm.findClass RX8 = some m.cls := findClass_of_methodNamed B.named
  have hlocks := B.notSynchronized
  have hin2 : meth.name = "<init>" := (name_of_methodNamed B.named B.method).1
  have hRf : 1 ≤ (headSpec (ws_ yX8_init cX8_init 2 none) ({ frames := 1, cells := 0, slots := 0, locals := 32 })).room.frames := Nat.le_refl _
  have hRl : 32 ≤ (headSpec (ws_ yX8_init cX8_init 2 none) ({ frames := 1, cells := 0, slots := 0, locals := 32 })).room.locals := Nat.le_refl _
  have hS : va_S (upB base) s.heap s.heap [] := va_S.rf
  have hl := lv_entry ([.ref b, .int a0]) (n := 2) (Nat.le_of_ble_eq_true rfl)
  rw [lg_entry_eq]
  generalize (lg_sl ([.ref b, .int a0]) ++ List.replicate (2 - (lg_sl ([.ref b, .int a0])).length) Slot.unset).toArray = ls at hl ⊢
  have hl : lv_has ls 2 [(0, .ref b), (1, .int a0)] := hl
  refine lv_aload_n hx hb dX8_init_0 rfl (lv_at hl 0 rfl) ?_
  refine W.objInit hx hb hown (hts _ q630) (hts _ q115) (hts _ q116) rfl (by rw [hml]; exact hl.1) rfl dX8_init_1 (Nat.le_trans (Nat.le_of_ble_eq_true rfl) hRf) (Nat.le_trans (Nat.le_of_ble_eq_true rfl) hRl) ?_
  refine W.eq (g2 := F0 m 4 ls []) rfl ?_
  refine lv_aload_n hx hb dX8_init_4 rfl (lv_at hl 0 rfl) ?_
  refine lv_iload_n hx hb dX8_init_5 rfl (lv_at hl 1 rfl) ?_
  refine f_putF (v := .int a0) (ci := 9) hx hb hts hown hK hin2 hA hW hS 0 rfl in_X10 tyX10 tyX10_ok nmX10 rfl 0 (by decide) q631 rfl rfl rfl ⟨rfl, rfl⟩ (Nat.le_of_ble_eq_true rfl) dX8_init_6 (fun H locs hW hA hS => ?_)
  have hW : FW D (X ++ [(b, .inr (9, [.int a0]))]) H := hW
  have hA : FA (X ++ [(b, .inr (9, [.int a0]))]) base := hA
  exact W.vret hx hb hr (fun t ht _ => ⟨rfl, by rw [ht]; exact ⟨hW, hA⟩, hS.F ht⟩) hS.2.2 dX8_init_9
set_option maxRecDepth 100000 in
set_option maxHeartbeats 4000000 in
theorem f_X10_X9_met (l : Launch) (D : dd_) (s0 : State) (h0 : ∀ w ∈ lw_tbl, va_Nw w s0) (X : va_W) (base : Nat) (r1 r2 : Option Nat) (de : Nat) (hz : FZ base s0 r1 r2 de) (b : Nat) (a0 : Int32) (hA : FA (X ++ [(b, .inr (9, [.int 0]))]) base) : Met l yX9_init (ws_ yX9_init cX9_init 2 none) ({ frames := 2, cells := 0, slots := 0, locals := 53 }) (PcZ D s0 nS id (fun _ => 0) (fun _ _ => 0) nR nG (X ++ [(b, .inr (9, [.int 0]))]) base [.ref b, .int a0]) (QcE (fun H => FW D (X ++ [(b, .inr (9, [.int a0]))]) H ∧ FA (X ++ [(b, .inr (9, [.int a0]))]) base) base none) 0 (0) (upB base) := by
  refine Met.ofW (cc := cX9_init) (maxL := 2) (ret := none) (by decide) rfl ?_
  intro p e s m args below meth c s₁ B hml hv
  obtain ⟨⟨rfl, hK, hY, hB0, hW⟩, hq0⟩ := hv
  have hW : FW D (X ++ [(b, .inr (9, [.int 0]))]) s.heap := hW
  have hx := B.exec
  have hb := B.bytes
  have hr := B.returns
  have hts := atoms_spec (ws := (ws_ yX9_init cX9_init 2 none)) B.pre
  have hts : ∀ w ∈ lw_all, w.before _ s = true := fun w h => hts w (List.mem_cons_of_mem _ h)
  have hown : s.vm.findClass RX9 = some m.cls := findClass_of_methodNamed B.named
  have hlocks := B.notSynchronized
  have hin2 : meth.name = "<init>" := (name_of_methodNamed B.named B.method).1
  have hRf : 2 ≤ (headSpec (ws_ yX9_init cX9_init 2 none) ({ frames := 2, cells := 0, slots := 0, locals := 53 })).room.frames := Nat.le_refl _
  have hRl : 53 ≤ (headSpec (ws_ yX9_init cX9_init 2 none) ({ frames := 2, cells := 0, slots := 0, locals := 53 })).room.locals := Nat.le_refl _
  have hS : va_S (upB base) s.heap s.heap [] := va_S.rf
  have hl := lv_entry ([.ref b, .int a0]) (n := 2) (Nat.le_of_ble_eq_true rfl)
  rw [lg_entry_eq]
  generalize (lg_sl ([.ref b, .int a0]) ++ List.replicate (2 - (lg_sl ([.ref b, .int a0])).length) Slot.unset).toArray = ls at hl ⊢
  have hl : lv_has ls 2 [(0, .ref b), (1, .int a0)] := hl
  refine lv_aload_n hx hb dX9_init_0 rfl (lv_at hl 0 rfl) ?_
  refine lv_iload_n hx hb dX9_init_1 rfl (lv_at hl 1 rfl) ?_
  refine z_end (Post := fun H => FW D ((X ++ []) ++ [(b, .inr (9, [.int a0]))]) H ∧ FA ((X ++ []) ++ [(b, .inr (9, [.int a0]))]) base) (ov := none) (va_runI (g := F0 m 2 ls _) (b := b) (As := [.int a0]) (rest := []) ⟨hx, hb, hml, hown, hts⟩ (f_X10_X8_met l D s0 h0 (X ++ []) base r1 r2 de hz b a0 (by rw [List.append_assoc]; exact hA)) (cwI 1 hts (lw_meth q629) rfl rfl rfl (hts _ q97) (hts _ q627) (hts _ q628) rfl (by decide +kernel) ⟨Nat.le_trans (Nat.le_of_ble_eq_true rfl) hRf, Nat.le_trans (Nat.le_of_ble_eq_true rfl) hRl⟩) ⟨PcZ_blind, pcz_at (Sc := nS) (adc := id) (Ic := fun _ => 0) (Ac := fun _ _ => 0) (Rc := nR) (Gc := nG) hY hK (Nat.le_trans hB0 hS.1) (show FW D ((X ++ []) ++ [(b, .inr (9, [.int 0]))]) _ by rw [List.append_assoc]; exact hW) (z_low hq0 hB0 hS)⟩ rfl rfl hl.1 rfl (lv_room (m := m) (pc := 2) (ls := ls) (rest := []) (Nat.le_of_ble_eq_true rfl)) dX9_init_2 ⟨(Nat.le_of_ble_eq_true rfl), (Nat.le_of_ble_eq_true rfl)⟩) hS (fun H locs hP _ hS => ?_)
  obtain ⟨hW, hA⟩ := hP
  rw [List.append_assoc] at hW hA
  have hW : FW D (X ++ [(b, .inr (9, [.int a0]))]) H := hW
  have hA : FA (X ++ [(b, .inr (9, [.int a0]))]) base := hA
  exact W.vret hx hb hr (fun t ht _ => ⟨rfl, by rw [ht]; exact ⟨hW, hA⟩, hS.F ht⟩) hS.2.2 dX9_init_5
set_option maxRecDepth 100000 in
set_option maxHeartbeats 4000000 in
theorem f_X10_X10_met (l : Launch) (D : dd_) (s0 : State) (h0 : ∀ w ∈ lw_tbl, va_Nw w s0) (X : va_W) (base : Nat) (r1 r2 : Option Nat) (de : Nat) (hz : FZ base s0 r1 r2 de) (b : Nat) (a0 : Int32) (hA : FA (X ++ [(b, .inr (9, [.int 0]))]) base) : Met l yX10_init (ws_ yX10_init cX10_init 2 none) ({ frames := 3, cells := 0, slots := 0, locals := 74 }) (PcZ D s0 nS id (fun _ => 0) (fun _ _ => 0) nR nG (X ++ [(b, .inr (9, [.int 0]))]) base [.ref b, .int a0]) (QcE (fun H => FW D (X ++ [(b, .inr (9, [.int a0]))]) H ∧ FA (X ++ [(b, .inr (9, [.int a0]))]) base) base none) 0 (0) (upB base) := by
  refine Met.ofW (cc := cX10_init) (maxL := 2) (ret := none) (by decide) rfl ?_
  intro p e s m args below meth c s₁ B hml hv
  obtain ⟨⟨rfl, hK, hY, hB0, hW⟩, hq0⟩ := hv
  have hW : FW D (X ++ [(b, .inr (9, [.int 0]))]) s.heap := hW
  have hx := B.exec
  have hb := B.bytes
  have hr := B.returns
  have hts := atoms_spec (ws := (ws_ yX10_init cX10_init 2 none)) B.pre
  have hts : ∀ w ∈ lw_all, w.before _ s = true := fun w h => hts w (List.mem_cons_of_mem _ h)
  have hown : s.vm.findClass RX10 = some m.cls := findClass_of_methodNamed B.named
  have hlocks := B.notSynchronized
  have hin2 : meth.name = "<init>" := (name_of_methodNamed B.named B.method).1
  have hRf : 3 ≤ (headSpec (ws_ yX10_init cX10_init 2 none) ({ frames := 3, cells := 0, slots := 0, locals := 74 })).room.frames := Nat.le_refl _
  have hRl : 74 ≤ (headSpec (ws_ yX10_init cX10_init 2 none) ({ frames := 3, cells := 0, slots := 0, locals := 74 })).room.locals := Nat.le_refl _
  have hS : va_S (upB base) s.heap s.heap [] := va_S.rf
  have hl := lv_entry ([.ref b, .int a0]) (n := 2) (Nat.le_of_ble_eq_true rfl)
  rw [lg_entry_eq]
  generalize (lg_sl ([.ref b, .int a0]) ++ List.replicate (2 - (lg_sl ([.ref b, .int a0])).length) Slot.unset).toArray = ls at hl ⊢
  have hl : lv_has ls 2 [(0, .ref b), (1, .int a0)] := hl
  refine lv_aload_n hx hb dX10_init_0 rfl (lv_at hl 0 rfl) ?_
  refine lv_iload_n hx hb dX10_init_1 rfl (lv_at hl 1 rfl) ?_
  refine z_end (Post := fun H => FW D ((X ++ []) ++ [(b, .inr (9, [.int a0]))]) H ∧ FA ((X ++ []) ++ [(b, .inr (9, [.int a0]))]) base) (ov := none) (va_runI (g := F0 m 2 ls _) (b := b) (As := [.int a0]) (rest := []) ⟨hx, hb, hml, hown, hts⟩ (f_X10_X9_met l D s0 h0 (X ++ []) base r1 r2 de hz b a0 (by rw [List.append_assoc]; exact hA)) (cwI 1 hts (lw_meth q626) rfl rfl rfl (hts _ q98) (hts _ q640) (hts _ q625) rfl (by decide +kernel) ⟨Nat.le_trans (Nat.le_of_ble_eq_true rfl) hRf, Nat.le_trans (Nat.le_of_ble_eq_true rfl) hRl⟩) ⟨PcZ_blind, pcz_at (Sc := nS) (adc := id) (Ic := fun _ => 0) (Ac := fun _ _ => 0) (Rc := nR) (Gc := nG) hY hK (Nat.le_trans hB0 hS.1) (show FW D ((X ++ []) ++ [(b, .inr (9, [.int 0]))]) _ by rw [List.append_assoc]; exact hW) (z_low hq0 hB0 hS)⟩ rfl rfl hl.1 rfl (lv_room (m := m) (pc := 2) (ls := ls) (rest := []) (Nat.le_of_ble_eq_true rfl)) dX10_init_2 ⟨(Nat.le_of_ble_eq_true rfl), (Nat.le_of_ble_eq_true rfl)⟩) hS (fun H locs hP _ hS => ?_)
  obtain ⟨hW, hA⟩ := hP
  rw [List.append_assoc] at hW hA
  have hW : FW D (X ++ [(b, .inr (9, [.int a0]))]) H := hW
  have hA : FA (X ++ [(b, .inr (9, [.int a0]))]) base := hA
  exact W.vret hx hb hr (fun t ht _ => ⟨rfl, by rw [ht]; exact ⟨hW, hA⟩, hS.F ht⟩) hS.2.2 dX10_init_5
set_option maxRecDepth 100000 in
set_option maxHeartbeats 4000000 in
theorem f_X11_X8_met (l : Launch) (D : dd_) (s0 : State) (h0 : ∀ w ∈ lw_tbl, va_Nw w s0) (X : va_W) (base : Nat) (r1 r2 : Option Nat) (de : Nat) (hz : FZ base s0 r1 r2 de) (b : Nat) (a0 : Int32) (hA : FA (X ++ [(b, .inr (10, [.int 0]))]) base) : Met l yX8_init (ws_ yX8_init cX8_init 2 none) ({ frames := 1, cells := 0, slots := 0, locals := 32 }) (PcZ D s0 nS id (fun _ => 0) (fun _ _ => 0) nR nG (X ++ [(b, .inr (10, [.int 0]))]) base [.ref b, .int a0]) (QcE (fun H => FW D (X ++ [(b, .inr (10, [.int a0]))]) H ∧ FA (X ++ [(b, .inr (10, [.int a0]))]) base) base none) 0 (0) (upB base) := by
  refine Met.ofW (cc := cX8_init) (maxL := 2) (ret := none) (by decide) rfl ?_
  intro p e s m args below meth c s₁ B hml hv
  obtain ⟨⟨rfl, hK, hY, hB0, hW⟩, hq0⟩ := hv
  have hW : FW D (X ++ [(b, .inr (10, [.int 0]))]) s.heap := hW
  have hx := B.exec
  have hb := B.bytes
  have hr := B.returns
  have hts := atoms_spec (ws := (ws_ yX8_init cX8_init 2 none)) B.pre
  have hts : ∀ w ∈ lw_all, w.before _ s = true := fun w h => hts w (List.mem_cons_of_mem _ h)
  have hown : s.vm.findClass RX8 = some m.cls := findClass_of_methodNamed B.named
  have hlocks := B.notSynchronized
  have hin2 : meth.name = "<init>" := (name_of_methodNamed B.named B.method).1
  have hRf : 1 ≤ (headSpec (ws_ yX8_init cX8_init 2 none) ({ frames := 1, cells := 0, slots := 0, locals := 32 })).room.frames := Nat.le_refl _
  have hRl : 32 ≤ (headSpec (ws_ yX8_init cX8_init 2 none) ({ frames := 1, cells := 0, slots := 0, locals := 32 })).room.locals := Nat.le_refl _
  have hS : va_S (upB base) s.heap s.heap [] := va_S.rf
  have hl := lv_entry ([.ref b, .int a0]) (n := 2) (Nat.le_of_ble_eq_true rfl)
  rw [lg_entry_eq]
  generalize (lg_sl ([.ref b, .int a0]) ++ List.replicate (2 - (lg_sl ([.ref b, .int a0])).length) Slot.unset).toArray = ls at hl ⊢
  have hl : lv_has ls 2 [(0, .ref b), (1, .int a0)] := hl
  refine lv_aload_n hx hb dX8_init_0 rfl (lv_at hl 0 rfl) ?_
  refine W.objInit hx hb hown (hts _ q630) (hts _ q115) (hts _ q116) rfl (by rw [hml]; exact hl.1) rfl dX8_init_1 (Nat.le_trans (Nat.le_of_ble_eq_true rfl) hRf) (Nat.le_trans (Nat.le_of_ble_eq_true rfl) hRl) ?_
  refine W.eq (g2 := F0 m 4 ls []) rfl ?_
  refine lv_aload_n hx hb dX8_init_4 rfl (lv_at hl 0 rfl) ?_
  refine lv_iload_n hx hb dX8_init_5 rfl (lv_at hl 1 rfl) ?_
  refine f_putF (v := .int a0) (ci := 10) hx hb hts hown hK hin2 hA hW hS 0 rfl in_X11 tyX11 tyX11_ok nmX11 rfl 0 (by decide) q631 rfl rfl rfl ⟨rfl, rfl⟩ (Nat.le_of_ble_eq_true rfl) dX8_init_6 (fun H locs hW hA hS => ?_)
  have hW : FW D (X ++ [(b, .inr (10, [.int a0]))]) H := hW
  have hA : FA (X ++ [(b, .inr (10, [.int a0]))]) base := hA
  exact W.vret hx hb hr (fun t ht _ => ⟨rfl, by rw [ht]; exact ⟨hW, hA⟩, hS.F ht⟩) hS.2.2 dX8_init_9
set_option maxRecDepth 100000 in
set_option maxHeartbeats 4000000 in
theorem f_X11_X9_met (l : Launch) (D : dd_) (s0 : State) (h0 : ∀ w ∈ lw_tbl, va_Nw w s0) (X : va_W) (base : Nat) (r1 r2 : Option Nat) (de : Nat) (hz : FZ base s0 r1 r2 de) (b : Nat) (a0 : Int32) (hA : FA (X ++ [(b, .inr (10, [.int 0]))]) base) : Met l yX9_init (ws_ yX9_init cX9_init 2 none) ({ frames := 2, cells := 0, slots := 0, locals := 53 }) (PcZ D s0 nS id (fun _ => 0) (fun _ _ => 0) nR nG (X ++ [(b, .inr (10, [.int 0]))]) base [.ref b, .int a0]) (QcE (fun H => FW D (X ++ [(b, .inr (10, [.int a0]))]) H ∧ FA (X ++ [(b, .inr (10, [.int a0]))]) base) base none) 0 (0) (upB base) := by
  refine Met.ofW (cc := cX9_init) (maxL := 2) (ret := none) (by decide) rfl ?_
  intro p e s m args below meth c s₁ B hml hv
  obtain ⟨⟨rfl, hK, hY, hB0, hW⟩, hq0⟩ := hv
  have hW : FW D (X ++ [(b, .inr (10, [.int 0]))]) s.heap := hW
  have hx := B.exec
  have hb := B.bytes
  have hr := B.returns
  have hts := atoms_spec (ws := (ws_ yX9_init cX9_init 2 none)) B.pre
  have hts : ∀ w ∈ lw_all, w.before _ s = true := fun w h => hts w (List.mem_cons_of_mem _ h)
  have hown : s.vm.findClass RX9 = some m.cls := findClass_of_methodNamed B.named
  have hlocks := B.notSynchronized
  have hin2 : meth.name = "<init>" := (name_of_methodNamed B.named B.method).1
  have hRf : 2 ≤ (headSpec (ws_ yX9_init cX9_init 2 none) ({ frames := 2, cells := 0, slots := 0, locals := 53 })).room.frames := Nat.le_refl _
  have hRl : 53 ≤ (headSpec (ws_ yX9_init cX9_init 2 none) ({ frames := 2, cells := 0, slots := 0, locals := 53 })).room.locals := Nat.le_refl _
  have hS : va_S (upB base) s.heap s.heap [] := va_S.rf
  have hl := lv_entry ([.ref b, .int a0]) (n := 2) (Nat.le_of_ble_eq_true rfl)
  rw [lg_entry_eq]
  generalize (lg_sl ([.ref b, .int a0]) ++ List.replicate (2 - (lg_sl ([.ref b, .int a0])).length) Slot.unset).toArray = ls at hl ⊢
  have hl : lv_has ls 2 [(0, .ref b), (1, .int a0)] := hl
  refine lv_aload_n hx hb dX9_init_0 rfl (lv_at hl 0 rfl) ?_
  refine lv_iload_n hx hb dX9_init_1 rfl (lv_at hl 1 rfl) ?_
  refine z_end (Post := fun H => FW D ((X ++ []) ++ [(b, .inr (10, [.int a0]))]) H ∧ FA ((X ++ []) ++ [(b, .inr (10, [.int a0]))]) base) (ov := none) (va_runI (g := F0 m 2 ls _) (b := b) (As := [.int a0]) (rest := []) ⟨hx, hb, hml, hown, hts⟩ (f_X11_X8_met l D s0 h0 (X ++ []) base r1 r2 de hz b a0 (by rw [List.append_assoc]; exact hA)) (cwI 1 hts (lw_meth q629) rfl rfl rfl (hts _ q97) (hts _ q627) (hts _ q628) rfl (by decide +kernel) ⟨Nat.le_trans (Nat.le_of_ble_eq_true rfl) hRf, Nat.le_trans (Nat.le_of_ble_eq_true rfl) hRl⟩) ⟨PcZ_blind, pcz_at (Sc := nS) (adc := id) (Ic := fun _ => 0) (Ac := fun _ _ => 0) (Rc := nR) (Gc := nG) hY hK (Nat.le_trans hB0 hS.1) (show FW D ((X ++ []) ++ [(b, .inr (10, [.int 0]))]) _ by rw [List.append_assoc]; exact hW) (z_low hq0 hB0 hS)⟩ rfl rfl hl.1 rfl (lv_room (m := m) (pc := 2) (ls := ls) (rest := []) (Nat.le_of_ble_eq_true rfl)) dX9_init_2 ⟨(Nat.le_of_ble_eq_true rfl), (Nat.le_of_ble_eq_true rfl)⟩) hS (fun H locs hP _ hS => ?_)
  obtain ⟨hW, hA⟩ := hP
  rw [List.append_assoc] at hW hA
  have hW : FW D (X ++ [(b, .inr (10, [.int a0]))]) H := hW
  have hA : FA (X ++ [(b, .inr (10, [.int a0]))]) base := hA
  exact W.vret hx hb hr (fun t ht _ => ⟨rfl, by rw [ht]; exact ⟨hW, hA⟩, hS.F ht⟩) hS.2.2 dX9_init_5
set_option maxRecDepth 100000 in
set_option maxHeartbeats 4000000 in
theorem f_X11_X11_met (l : Launch) (D : dd_) (s0 : State) (h0 : ∀ w ∈ lw_tbl, va_Nw w s0) (X : va_W) (base : Nat) (r1 r2 : Option Nat) (de : Nat) (hz : FZ base s0 r1 r2 de) (b : Nat) (a0 : Int32) (hA : FA (X ++ [(b, .inr (10, [.int 0]))]) base) : Met l yX11_init (ws_ yX11_init cX11_init 2 none) ({ frames := 3, cells := 0, slots := 0, locals := 74 }) (PcZ D s0 nS id (fun _ => 0) (fun _ _ => 0) nR nG (X ++ [(b, .inr (10, [.int 0]))]) base [.ref b, .int a0]) (QcE (fun H => FW D (X ++ [(b, .inr (10, [.int a0]))]) H ∧ FA (X ++ [(b, .inr (10, [.int a0]))]) base) base none) 0 (0) (upB base) := by
  refine Met.ofW (cc := cX11_init) (maxL := 2) (ret := none) (by decide) rfl ?_
  intro p e s m args below meth c s₁ B hml hv
  obtain ⟨⟨rfl, hK, hY, hB0, hW⟩, hq0⟩ := hv
  have hW : FW D (X ++ [(b, .inr (10, [.int 0]))]) s.heap := hW
  have hx := B.exec
  have hb := B.bytes
  have hr := B.returns
  have hts := atoms_spec (ws := (ws_ yX11_init cX11_init 2 none)) B.pre
  have hts : ∀ w ∈ lw_all, w.before _ s = true := fun w h => hts w (List.mem_cons_of_mem _ h)
  have hown : s.vm.findClass RX11 = some m.cls := findClass_of_methodNamed B.named
  have hlocks := B.notSynchronized
  have hin2 : meth.name = "<init>" := (name_of_methodNamed B.named B.method).1
  have hRf : 3 ≤ (headSpec (ws_ yX11_init cX11_init 2 none) ({ frames := 3, cells := 0, slots := 0, locals := 74 })).room.frames := Nat.le_refl _
  have hRl : 74 ≤ (headSpec (ws_ yX11_init cX11_init 2 none) ({ frames := 3, cells := 0, slots := 0, locals := 74 })).room.locals := Nat.le_refl _
  have hS : va_S (upB base) s.heap s.heap [] := va_S.rf
  have hl := lv_entry ([.ref b, .int a0]) (n := 2) (Nat.le_of_ble_eq_true rfl)
  rw [lg_entry_eq]
  generalize (lg_sl ([.ref b, .int a0]) ++ List.replicate (2 - (lg_sl ([.ref b, .int a0])).length) Slot.unset).toArray = ls at hl ⊢
  have hl : lv_has ls 2 [(0, .ref b), (1, .int a0)] := hl
  refine lv_aload_n hx hb dX11_init_0 rfl (lv_at hl 0 rfl) ?_
  refine lv_iload_n hx hb dX11_init_1 rfl (lv_at hl 1 rfl) ?_
  refine z_end (Post := fun H => FW D ((X ++ []) ++ [(b, .inr (10, [.int a0]))]) H ∧ FA ((X ++ []) ++ [(b, .inr (10, [.int a0]))]) base) (ov := none) (va_runI (g := F0 m 2 ls _) (b := b) (As := [.int a0]) (rest := []) ⟨hx, hb, hml, hown, hts⟩ (f_X11_X9_met l D s0 h0 (X ++ []) base r1 r2 de hz b a0 (by rw [List.append_assoc]; exact hA)) (cwI 1 hts (lw_meth q626) rfl rfl rfl (hts _ q98) (hts _ q648) (hts _ q625) rfl (by decide +kernel) ⟨Nat.le_trans (Nat.le_of_ble_eq_true rfl) hRf, Nat.le_trans (Nat.le_of_ble_eq_true rfl) hRl⟩) ⟨PcZ_blind, pcz_at (Sc := nS) (adc := id) (Ic := fun _ => 0) (Ac := fun _ _ => 0) (Rc := nR) (Gc := nG) hY hK (Nat.le_trans hB0 hS.1) (show FW D ((X ++ []) ++ [(b, .inr (10, [.int 0]))]) _ by rw [List.append_assoc]; exact hW) (z_low hq0 hB0 hS)⟩ rfl rfl hl.1 rfl (lv_room (m := m) (pc := 2) (ls := ls) (rest := []) (Nat.le_of_ble_eq_true rfl)) dX11_init_2 ⟨(Nat.le_of_ble_eq_true rfl), (Nat.le_of_ble_eq_true rfl)⟩) hS (fun H locs hP _ hS => ?_)
  obtain ⟨hW, hA⟩ := hP
  rw [List.append_assoc] at hW hA
  have hW : FW D (X ++ [(b, .inr (10, [.int a0]))]) H := hW
  have hA : FA (X ++ [(b, .inr (10, [.int a0]))]) base := hA
  exact W.vret hx hb hr (fun t ht _ => ⟨rfl, by rw [ht]; exact ⟨hW, hA⟩, hS.F ht⟩) hS.2.2 dX11_init_5
set_option maxRecDepth 100000 in
set_option maxHeartbeats 4000000 in
theorem f_X12_X8_met (l : Launch) (D : dd_) (s0 : State) (h0 : ∀ w ∈ lw_tbl, va_Nw w s0) (X : va_W) (base : Nat) (r1 r2 : Option Nat) (de : Nat) (hz : FZ base s0 r1 r2 de) (b : Nat) (a0 : Int32) (hA : FA (X ++ [(b, .inr (11, [.int 0]))]) base) : Met l yX8_init (ws_ yX8_init cX8_init 2 none) ({ frames := 1, cells := 0, slots := 0, locals := 32 }) (PcZ D s0 nS id (fun _ => 0) (fun _ _ => 0) nR nG (X ++ [(b, .inr (11, [.int 0]))]) base [.ref b, .int a0]) (QcE (fun H => FW D (X ++ [(b, .inr (11, [.int a0]))]) H ∧ FA (X ++ [(b, .inr (11, [.int a0]))]) base) base none) 0 (0) (upB base) := by
  refine Met.ofW (cc := cX8_init) (maxL := 2) (ret := none) (by decide) rfl ?_
  intro p e s m args below meth c s₁ B hml hv
  obtain ⟨⟨rfl, hK, hY, hB0, hW⟩, hq0⟩ := hv
  have hW : FW D (X ++ [(b, .inr (11, [.int 0]))]) s.heap := hW
  have hx := B.exec
  have hb := B.bytes
  have hr := B.returns
  have hts := atoms_spec (ws := (ws_ yX8_init cX8_init 2 none)) B.pre
  have hts : ∀ w ∈ lw_all, w.before _ s = true := fun w h => hts w (List.mem_cons_of_mem _ h)
  have hown : s.vm.findClass RX8 = some m.cls := findClass_of_methodNamed B.named
  have hlocks := B.notSynchronized
  have hin2 : meth.name = "<init>" := (name_of_methodNamed B.named B.method).1
  have hRf : 1 ≤ (headSpec (ws_ yX8_init cX8_init 2 none) ({ frames := 1, cells := 0, slots := 0, locals := 32 })).room.frames := Nat.le_refl _
  have hRl : 32 ≤ (headSpec (ws_ yX8_init cX8_init 2 none) ({ frames := 1, cells := 0, slots := 0, locals := 32 })).room.locals := Nat.le_refl _
  have hS : va_S (upB base) s.heap s.heap [] := va_S.rf
  have hl := lv_entry ([.ref b, .int a0]) (n := 2) (Nat.le_of_ble_eq_true rfl)
  rw [lg_entry_eq]
  generalize (lg_sl ([.ref b, .int a0]) ++ List.replicate (2 - (lg_sl ([.ref b, .int a0])).length) Slot.unset).toArray = ls at hl ⊢
  have hl : lv_has ls 2 [(0, .ref b), (1, .int a0)] := hl
  refine lv_aload_n hx hb dX8_init_0 rfl (lv_at hl 0 rfl) ?_
  refine W.objInit hx hb hown (hts _ q630) (hts _ q115) (hts _ q116) rfl (by rw [hml]; exact hl.1) rfl dX8_init_1 (Nat.le_trans (Nat.le_of_ble_eq_true rfl) hRf) (Nat.le_trans (Nat.le_of_ble_eq_true rfl) hRl) ?_
  refine W.eq (g2 := F0 m 4 ls []) rfl ?_
  refine lv_aload_n hx hb dX8_init_4 rfl (lv_at hl 0 rfl) ?_
  refine lv_iload_n hx hb dX8_init_5 rfl (lv_at hl 1 rfl) ?_
  refine f_putF (v := .int a0) (ci := 11) hx hb hts hown hK hin2 hA hW hS 0 rfl in_X12 tyX12 tyX12_ok nmX12 rfl 0 (by decide) q631 rfl rfl rfl ⟨rfl, rfl⟩ (Nat.le_of_ble_eq_true rfl) dX8_init_6 (fun H locs hW hA hS => ?_)
  have hW : FW D (X ++ [(b, .inr (11, [.int a0]))]) H := hW
  have hA : FA (X ++ [(b, .inr (11, [.int a0]))]) base := hA
  exact W.vret hx hb hr (fun t ht _ => ⟨rfl, by rw [ht]; exact ⟨hW, hA⟩, hS.F ht⟩) hS.2.2 dX8_init_9
set_option maxRecDepth 100000 in
set_option maxHeartbeats 4000000 in
theorem f_X12_X12_met (l : Launch) (D : dd_) (s0 : State) (h0 : ∀ w ∈ lw_tbl, va_Nw w s0) (X : va_W) (base : Nat) (r1 r2 : Option Nat) (de : Nat) (hz : FZ base s0 r1 r2 de) (b : Nat) (a0 : Int32) (hA : FA (X ++ [(b, .inr (11, [.int 0]))]) base) : Met l yX12_init (ws_ yX12_init cX12_init 2 none) ({ frames := 2, cells := 0, slots := 0, locals := 53 }) (PcZ D s0 nS id (fun _ => 0) (fun _ _ => 0) nR nG (X ++ [(b, .inr (11, [.int 0]))]) base [.ref b, .int a0]) (QcE (fun H => FW D (X ++ [(b, .inr (11, [.int a0]))]) H ∧ FA (X ++ [(b, .inr (11, [.int a0]))]) base) base none) 0 (0) (upB base) := by
  refine Met.ofW (cc := cX12_init) (maxL := 2) (ret := none) (by decide) rfl ?_
  intro p e s m args below meth c s₁ B hml hv
  obtain ⟨⟨rfl, hK, hY, hB0, hW⟩, hq0⟩ := hv
  have hW : FW D (X ++ [(b, .inr (11, [.int 0]))]) s.heap := hW
  have hx := B.exec
  have hb := B.bytes
  have hr := B.returns
  have hts := atoms_spec (ws := (ws_ yX12_init cX12_init 2 none)) B.pre
  have hts : ∀ w ∈ lw_all, w.before _ s = true := fun w h => hts w (List.mem_cons_of_mem _ h)
  have hown : s.vm.findClass RX12 = some m.cls := findClass_of_methodNamed B.named
  have hlocks := B.notSynchronized
  have hin2 : meth.name = "<init>" := (name_of_methodNamed B.named B.method).1
  have hRf : 2 ≤ (headSpec (ws_ yX12_init cX12_init 2 none) ({ frames := 2, cells := 0, slots := 0, locals := 53 })).room.frames := Nat.le_refl _
  have hRl : 53 ≤ (headSpec (ws_ yX12_init cX12_init 2 none) ({ frames := 2, cells := 0, slots := 0, locals := 53 })).room.locals := Nat.le_refl _
  have hS : va_S (upB base) s.heap s.heap [] := va_S.rf
  have hl := lv_entry ([.ref b, .int a0]) (n := 2) (Nat.le_of_ble_eq_true rfl)
  rw [lg_entry_eq]
  generalize (lg_sl ([.ref b, .int a0]) ++ List.replicate (2 - (lg_sl ([.ref b, .int a0])).length) Slot.unset).toArray = ls at hl ⊢
  have hl : lv_has ls 2 [(0, .ref b), (1, .int a0)] := hl
  refine lv_aload_n hx hb dX12_init_0 rfl (lv_at hl 0 rfl) ?_
  refine lv_iload_n hx hb dX12_init_1 rfl (lv_at hl 1 rfl) ?_
  refine z_end (Post := fun H => FW D ((X ++ []) ++ [(b, .inr (11, [.int a0]))]) H ∧ FA ((X ++ []) ++ [(b, .inr (11, [.int a0]))]) base) (ov := none) (va_runI (g := F0 m 2 ls _) (b := b) (As := [.int a0]) (rest := []) ⟨hx, hb, hml, hown, hts⟩ (f_X12_X8_met l D s0 h0 (X ++ []) base r1 r2 de hz b a0 (by rw [List.append_assoc]; exact hA)) (cwI 1 hts (lw_meth q629) rfl rfl rfl (hts _ q97) (hts _ q656) (hts _ q628) rfl (by decide +kernel) ⟨Nat.le_trans (Nat.le_of_ble_eq_true rfl) hRf, Nat.le_trans (Nat.le_of_ble_eq_true rfl) hRl⟩) ⟨PcZ_blind, pcz_at (Sc := nS) (adc := id) (Ic := fun _ => 0) (Ac := fun _ _ => 0) (Rc := nR) (Gc := nG) hY hK (Nat.le_trans hB0 hS.1) (show FW D ((X ++ []) ++ [(b, .inr (11, [.int 0]))]) _ by rw [List.append_assoc]; exact hW) (z_low hq0 hB0 hS)⟩ rfl rfl hl.1 rfl (lv_room (m := m) (pc := 2) (ls := ls) (rest := []) (Nat.le_of_ble_eq_true rfl)) dX12_init_2 ⟨(Nat.le_of_ble_eq_true rfl), (Nat.le_of_ble_eq_true rfl)⟩) hS (fun H locs hP _ hS => ?_)
  obtain ⟨hW, hA⟩ := hP
  rw [List.append_assoc] at hW hA
  have hW : FW D (X ++ [(b, .inr (11, [.int a0]))]) H := hW
  have hA : FA (X ++ [(b, .inr (11, [.int a0]))]) base := hA
  exact W.vret hx hb hr (fun t ht _ => ⟨rfl, by rw [ht]; exact ⟨hW, hA⟩, hS.F ht⟩) hS.2.2 dX12_init_5
set_option maxRecDepth 100000 in
set_option maxHeartbeats 4000000 in
theorem f_X13_X8_met (l : Launch) (D : dd_) (s0 : State) (h0 : ∀ w ∈ lw_tbl, va_Nw w s0) (X : va_W) (base : Nat) (r1 r2 : Option Nat) (de : Nat) (hz : FZ base s0 r1 r2 de) (b : Nat) (a0 : Int32) (hA : FA (X ++ [(b, .inr (12, [.int 0]))]) base) : Met l yX8_init (ws_ yX8_init cX8_init 2 none) ({ frames := 1, cells := 0, slots := 0, locals := 32 }) (PcZ D s0 nS id (fun _ => 0) (fun _ _ => 0) nR nG (X ++ [(b, .inr (12, [.int 0]))]) base [.ref b, .int a0]) (QcE (fun H => FW D (X ++ [(b, .inr (12, [.int a0]))]) H ∧ FA (X ++ [(b, .inr (12, [.int a0]))]) base) base none) 0 (0) (upB base) := by
  refine Met.ofW (cc := cX8_init) (maxL := 2) (ret := none) (by decide) rfl ?_
  intro p e s m args below meth c s₁ B hml hv
  obtain ⟨⟨rfl, hK, hY, hB0, hW⟩, hq0⟩ := hv
  have hW : FW D (X ++ [(b, .inr (12, [.int 0]))]) s.heap := hW
  have hx := B.exec
  have hb := B.bytes
  have hr := B.returns
  have hts := atoms_spec (ws := (ws_ yX8_init cX8_init 2 none)) B.pre
  have hts : ∀ w ∈ lw_all, w.before _ s = true := fun w h => hts w (List.mem_cons_of_mem _ h)
  have hown : s.vm.findClass RX8 = some m.cls := findClass_of_methodNamed B.named
  have hlocks := B.notSynchronized
  have hin2 : meth.name = "<init>" := (name_of_methodNamed B.named B.method).1
  have hRf : 1 ≤ (headSpec (ws_ yX8_init cX8_init 2 none) ({ frames := 1, cells := 0, slots := 0, locals := 32 })).room.frames := Nat.le_refl _
  have hRl : 32 ≤ (headSpec (ws_ yX8_init cX8_init 2 none) ({ frames := 1, cells := 0, slots := 0, locals := 32 })).room.locals := Nat.le_refl _
  have hS : va_S (upB base) s.heap s.heap [] := va_S.rf
  have hl := lv_entry ([.ref b, .int a0]) (n := 2) (Nat.le_of_ble_eq_true rfl)
  rw [lg_entry_eq]
  generalize (lg_sl ([.ref b, .int a0]) ++ List.replicate (2 - (lg_sl ([.ref b, .int a0])).length) Slot.unset).toArray = ls at hl ⊢
  have hl : lv_has ls 2 [(0, .ref b), (1, .int a0)] := hl
  refine lv_aload_n hx hb dX8_init_0 rfl (lv_at hl 0 rfl) ?_
  refine W.objInit hx hb hown (hts _ q630) (hts _ q115) (hts _ q116) rfl (by rw [hml]; exact hl.1) rfl dX8_init_1 (Nat.le_trans (Nat.le_of_ble_eq_true rfl) hRf) (Nat.le_trans (Nat.le_of_ble_eq_true rfl) hRl) ?_
  refine W.eq (g2 := F0 m 4 ls []) rfl ?_
  refine lv_aload_n hx hb dX8_init_4 rfl (lv_at hl 0 rfl) ?_
  refine lv_iload_n hx hb dX8_init_5 rfl (lv_at hl 1 rfl) ?_
  refine f_putF (v := .int a0) (ci := 12) hx hb hts hown hK hin2 hA hW hS 0 rfl in_X13 tyX13 tyX13_ok nmX13 rfl 0 (by decide) q631 rfl rfl rfl ⟨rfl, rfl⟩ (Nat.le_of_ble_eq_true rfl) dX8_init_6 (fun H locs hW hA hS => ?_)
  have hW : FW D (X ++ [(b, .inr (12, [.int a0]))]) H := hW
  have hA : FA (X ++ [(b, .inr (12, [.int a0]))]) base := hA
  exact W.vret hx hb hr (fun t ht _ => ⟨rfl, by rw [ht]; exact ⟨hW, hA⟩, hS.F ht⟩) hS.2.2 dX8_init_9
set_option maxRecDepth 100000 in
set_option maxHeartbeats 4000000 in
theorem f_X13_X12_met (l : Launch) (D : dd_) (s0 : State) (h0 : ∀ w ∈ lw_tbl, va_Nw w s0) (X : va_W) (base : Nat) (r1 r2 : Option Nat) (de : Nat) (hz : FZ base s0 r1 r2 de) (b : Nat) (a0 : Int32) (hA : FA (X ++ [(b, .inr (12, [.int 0]))]) base) : Met l yX12_init (ws_ yX12_init cX12_init 2 none) ({ frames := 2, cells := 0, slots := 0, locals := 53 }) (PcZ D s0 nS id (fun _ => 0) (fun _ _ => 0) nR nG (X ++ [(b, .inr (12, [.int 0]))]) base [.ref b, .int a0]) (QcE (fun H => FW D (X ++ [(b, .inr (12, [.int a0]))]) H ∧ FA (X ++ [(b, .inr (12, [.int a0]))]) base) base none) 0 (0) (upB base) := by
  refine Met.ofW (cc := cX12_init) (maxL := 2) (ret := none) (by decide) rfl ?_
  intro p e s m args below meth c s₁ B hml hv
  obtain ⟨⟨rfl, hK, hY, hB0, hW⟩, hq0⟩ := hv
  have hW : FW D (X ++ [(b, .inr (12, [.int 0]))]) s.heap := hW
  have hx := B.exec
  have hb := B.bytes
  have hr := B.returns
  have hts := atoms_spec (ws := (ws_ yX12_init cX12_init 2 none)) B.pre
  have hts : ∀ w ∈ lw_all, w.before _ s = true := fun w h => hts w (List.mem_cons_of_mem _ h)
  have hown : s.vm.findClass RX12 = some m.cls := findClass_of_methodNamed B.named
  have hlocks := B.notSynchronized
  have hin2 : meth.name = "<init>" := (name_of_methodNamed B.named B.method).1
  have hRf : 2 ≤ (headSpec (ws_ yX12_init cX12_init 2 none) ({ frames := 2, cells := 0, slots := 0, locals := 53 })).room.frames := Nat.le_refl _
  have hRl : 53 ≤ (headSpec (ws_ yX12_init cX12_init 2 none) ({ frames := 2, cells := 0, slots := 0, locals := 53 })).room.locals := Nat.le_refl _
  have hS : va_S (upB base) s.heap s.heap [] := va_S.rf
  have hl := lv_entry ([.ref b, .int a0]) (n := 2) (Nat.le_of_ble_eq_true rfl)
  rw [lg_entry_eq]
  generalize (lg_sl ([.ref b, .int a0]) ++ List.replicate (2 - (lg_sl ([.ref b, .int a0])).length) Slot.unset).toArray = ls at hl ⊢
  have hl : lv_has ls 2 [(0, .ref b), (1, .int a0)] := hl
  refine lv_aload_n hx hb dX12_init_0 rfl (lv_at hl 0 rfl) ?_
  refine lv_iload_n hx hb dX12_init_1 rfl (lv_at hl 1 rfl) ?_
  refine z_end (Post := fun H => FW D ((X ++ []) ++ [(b, .inr (12, [.int a0]))]) H ∧ FA ((X ++ []) ++ [(b, .inr (12, [.int a0]))]) base) (ov := none) (va_runI (g := F0 m 2 ls _) (b := b) (As := [.int a0]) (rest := []) ⟨hx, hb, hml, hown, hts⟩ (f_X13_X8_met l D s0 h0 (X ++ []) base r1 r2 de hz b a0 (by rw [List.append_assoc]; exact hA)) (cwI 1 hts (lw_meth q629) rfl rfl rfl (hts _ q97) (hts _ q656) (hts _ q628) rfl (by decide +kernel) ⟨Nat.le_trans (Nat.le_of_ble_eq_true rfl) hRf, Nat.le_trans (Nat.le_of_ble_eq_true rfl) hRl⟩) ⟨PcZ_blind, pcz_at (Sc := nS) (adc := id) (Ic := fun _ => 0) (Ac := fun _ _ => 0) (Rc := nR) (Gc := nG) hY hK (Nat.le_trans hB0 hS.1) (show FW D ((X ++ []) ++ [(b, .inr (12, [.int 0]))]) _ by rw [List.append_assoc]; exact hW) (z_low hq0 hB0 hS)⟩ rfl rfl hl.1 rfl (lv_room (m := m) (pc := 2) (ls := ls) (rest := []) (Nat.le_of_ble_eq_true rfl)) dX12_init_2 ⟨(Nat.le_of_ble_eq_true rfl), (Nat.le_of_ble_eq_true rfl)⟩) hS (fun H locs hP _ hS => ?_)
  obtain ⟨hW, hA⟩ := hP
  rw [List.append_assoc] at hW hA
  have hW : FW D (X ++ [(b, .inr (12, [.int a0]))]) H := hW
  have hA : FA (X ++ [(b, .inr (12, [.int a0]))]) base := hA
  exact W.vret hx hb hr (fun t ht _ => ⟨rfl, by rw [ht]; exact ⟨hW, hA⟩, hS.F ht⟩) hS.2.2 dX12_init_5
set_option maxRecDepth 100000 in
set_option maxHeartbeats 4000000 in
theorem f_X13_X13_met (l : Launch) (D : dd_) (s0 : State) (h0 : ∀ w ∈ lw_tbl, va_Nw w s0) (X : va_W) (base : Nat) (r1 r2 : Option Nat) (de : Nat) (hz : FZ base s0 r1 r2 de) (b : Nat) (a0 : Int32) (hA : FA (X ++ [(b, .inr (12, [.int 0]))]) base) : Met l yX13_init (ws_ yX13_init cX13_init 2 none) ({ frames := 3, cells := 0, slots := 0, locals := 74 }) (PcZ D s0 nS id (fun _ => 0) (fun _ _ => 0) nR nG (X ++ [(b, .inr (12, [.int 0]))]) base [.ref b, .int a0]) (QcE (fun H => FW D (X ++ [(b, .inr (12, [.int a0]))]) H ∧ FA (X ++ [(b, .inr (12, [.int a0]))]) base) base none) 0 (0) (upB base) := by
  refine Met.ofW (cc := cX13_init) (maxL := 2) (ret := none) (by decide) rfl ?_
  intro p e s m args below meth c s₁ B hml hv
  obtain ⟨⟨rfl, hK, hY, hB0, hW⟩, hq0⟩ := hv
  have hW : FW D (X ++ [(b, .inr (12, [.int 0]))]) s.heap := hW
  have hx := B.exec
  have hb := B.bytes
  have hr := B.returns
  have hts := atoms_spec (ws := (ws_ yX13_init cX13_init 2 none)) B.pre
  have hts : ∀ w ∈ lw_all, w.before _ s = true := fun w h => hts w (List.mem_cons_of_mem _ h)
  have hown : s.vm.findClass RX13 = some m.cls := findClass_of_methodNamed B.named
  have hlocks := B.notSynchronized
  have hin2 : meth.name = "<init>" := (name_of_methodNamed B.named B.method).1
  have hRf : 3 ≤ (headSpec (ws_ yX13_init cX13_init 2 none) ({ frames := 3, cells := 0, slots := 0, locals := 74 })).room.frames := Nat.le_refl _
  have hRl : 74 ≤ (headSpec (ws_ yX13_init cX13_init 2 none) ({ frames := 3, cells := 0, slots := 0, locals := 74 })).room.locals := Nat.le_refl _
  have hS : va_S (upB base) s.heap s.heap [] := va_S.rf
  have hl := lv_entry ([.ref b, .int a0]) (n := 2) (Nat.le_of_ble_eq_true rfl)
  rw [lg_entry_eq]
  generalize (lg_sl ([.ref b, .int a0]) ++ List.replicate (2 - (lg_sl ([.ref b, .int a0])).length) Slot.unset).toArray = ls at hl ⊢
  have hl : lv_has ls 2 [(0, .ref b), (1, .int a0)] := hl
  refine lv_aload_n hx hb dX13_init_0 rfl (lv_at hl 0 rfl) ?_
  refine lv_iload_n hx hb dX13_init_1 rfl (lv_at hl 1 rfl) ?_
  refine z_end (Post := fun H => FW D ((X ++ []) ++ [(b, .inr (12, [.int a0]))]) H ∧ FA ((X ++ []) ++ [(b, .inr (12, [.int a0]))]) base) (ov := none) (va_runI (g := F0 m 2 ls _) (b := b) (As := [.int a0]) (rest := []) ⟨hx, hb, hml, hown, hts⟩ (f_X13_X12_met l D s0 h0 (X ++ []) base r1 r2 de hz b a0 (by rw [List.append_assoc]; exact hA)) (cwI 1 hts (lw_meth q655) rfl rfl rfl (hts _ q101) (hts _ q664) (hts _ q654) rfl (by decide +kernel) ⟨Nat.le_trans (Nat.le_of_ble_eq_true rfl) hRf, Nat.le_trans (Nat.le_of_ble_eq_true rfl) hRl⟩) ⟨PcZ_blind, pcz_at (Sc := nS) (adc := id) (Ic := fun _ => 0) (Ac := fun _ _ => 0) (Rc := nR) (Gc := nG) hY hK (Nat.le_trans hB0 hS.1) (show FW D ((X ++ []) ++ [(b, .inr (12, [.int 0]))]) _ by rw [List.append_assoc]; exact hW) (z_low hq0 hB0 hS)⟩ rfl rfl hl.1 rfl (lv_room (m := m) (pc := 2) (ls := ls) (rest := []) (Nat.le_of_ble_eq_true rfl)) dX13_init_2 ⟨(Nat.le_of_ble_eq_true rfl), (Nat.le_of_ble_eq_true rfl)⟩) hS (fun H locs hP _ hS => ?_)
  obtain ⟨hW, hA⟩ := hP
  rw [List.append_assoc] at hW hA
  have hW : FW D (X ++ [(b, .inr (12, [.int a0]))]) H := hW
  have hA : FA (X ++ [(b, .inr (12, [.int a0]))]) base := hA
  exact W.vret hx hb hr (fun t ht _ => ⟨rfl, by rw [ht]; exact ⟨hW, hA⟩, hS.F ht⟩) hS.2.2 dX13_init_5
set_option maxRecDepth 100000 in
set_option maxHeartbeats 4000000 in
theorem f_X1_X1_met (l : Launch) (D : dd_) (s0 : State) (h0 : ∀ w ∈ lw_tbl, va_Nw w s0) (X : va_W) (base : Nat) (r1 r2 : Option Nat) (de : Nat) (hz : FZ base s0 r1 r2 de) (b : Nat) (hA : FA (X ++ [(b, .inr (2, [.null, .null, .null, .null, .int 0, .null, .null, .null, .null, .null, .int 0, .int 0]))]) base) : Met l yX1_init (ws_ yX1_init cX1_init 1 none) ({ frames := 4, cells := 9, slots := 59, locals := 92 }) (PcZ D s0 nS id (fun _ => 0) (fun _ _ => 0) nR nG (X ++ [(b, .inr (2, [.null, .null, .null, .null, .int 0, .null, .null, .null, .null, .null, .int 0, .int 0]))]) base [.ref b]) (QcE (fun H => ∃ q0 : Nat, ∃ q1 : Nat, ∃ q2 : Nat, ∃ q3 : Nat, ∃ q4 : Nat, ∃ q5 : Nat, ∃ q6 : Nat, ∃ q7 : Nat, ∃ q8 : Nat, FW D (X ++ [(b, .inr (2, [.ref q0, .ref q1, .ref q2, .ref q3, .int 0, .ref q4, .ref q5, .ref q6, .ref q7, .ref q8, .int 0, .int 0])), (q0, .inl (D.2 .int, 6, .inl (fun _ => 0))), (q1, .inr (13, [.int 0, .ref de, .int 0])), (q2, .inl (D.2 .int, 5, .inl (fun _ => 0))), (q3, .inl (D.2 .int, 5, .inl (fun _ => 0))), (q4, .inl (D.2 .int, 8, .inl (fun _ => 0))), (q5, .inl (D.2 .int, 8, .inl (fun _ => 0))), (q6, .inl (D.2 .int, 8, .inl (fun _ => 0))), (q7, .inl (D.2 .int, 8, .inl (fun _ => 0))), (q8, .inl (D.2 .int, 8, .inl (fun _ => 0)))]) H ∧ FA (X ++ [(b, .inr (2, [.ref q0, .ref q1, .ref q2, .ref q3, .int 0, .ref q4, .ref q5, .ref q6, .ref q7, .ref q8, .int 0, .int 0])), (q0, .inl (D.2 .int, 6, .inl (fun _ => 0))), (q1, .inr (13, [.int 0, .ref de, .int 0])), (q2, .inl (D.2 .int, 5, .inl (fun _ => 0))), (q3, .inl (D.2 .int, 5, .inl (fun _ => 0))), (q4, .inl (D.2 .int, 8, .inl (fun _ => 0))), (q5, .inl (D.2 .int, 8, .inl (fun _ => 0))), (q6, .inl (D.2 .int, 8, .inl (fun _ => 0))), (q7, .inl (D.2 .int, 8, .inl (fun _ => 0))), (q8, .inl (D.2 .int, 8, .inl (fun _ => 0)))]) base) base none) 9 (59) (upB base) := by
  refine Met.ofW (cc := cX1_init) (maxL := 1) (ret := none) (by decide) rfl ?_
  intro p e s m args below meth c s₁ B hml hv
  obtain ⟨⟨rfl, hK, hY, hB0, hW⟩, hq0⟩ := hv
  have hW : FW D (X ++ [(b, .inr (2, [.null, .null, .null, .null, .int 0, .null, .null, .null, .null, .null, .int 0, .int 0]))]) s.heap := hW
  have hx := B.exec
  have hb := B.bytes
  have hr := B.returns
  have hts := atoms_spec (ws := (ws_ yX1_init cX1_init 1 none)) B.pre
  have hts : ∀ w ∈ lw_all, w.before _ s = true := fun w h => hts w (List.mem_cons_of_mem _ h)
  have hown : s.vm.findClass RX1 = some m.cls := findClass_of_methodNamed B.named
  have hlocks := B.notSynchronized
  have hin2 : meth.name = "<init>" := (name_of_methodNamed B.named B.method).1
  have hRf : 4 ≤ (headSpec (ws_ yX1_init cX1_init 1 none) ({ frames := 4, cells := 9, slots := 59, locals := 92 })).room.frames := Nat.le_refl _
  have hRl : 92 ≤ (headSpec (ws_ yX1_init cX1_init 1 none) ({ frames := 4, cells := 9, slots := 59, locals := 92 })).room.locals := Nat.le_refl _
  have hS : va_S (upB base) s.heap s.heap [] := va_S.rf
  have hl := lv_entry ([.ref b]) (n := 1) (Nat.le_of_ble_eq_true rfl)
  rw [lg_entry_eq]
  generalize (lg_sl ([.ref b]) ++ List.replicate (1 - (lg_sl ([.ref b])).length) Slot.unset).toArray = ls at hl ⊢
  have hl : lv_has ls 1 [(0, .ref b)] := hl
  refine lv_aload_n hx hb dX1_init_0 rfl (lv_at hl 0 rfl) ?_
  refine W.objInit hx hb hown (hts _ q124) (hts _ q115) (hts _ q116) rfl (by rw [hml]; exact hl.1) rfl dX1_init_1 (Nat.le_trans (Nat.le_of_ble_eq_true rfl) hRf) (Nat.le_trans (Nat.le_of_ble_eq_true rfl) hRl) ?_
  refine W.eq (g2 := F0 m 4 ls []) rfl ?_
  refine lv_aload_n hx hb dX1_init_4 rfl (lv_at hl 0 rfl) ?_
  refine lv_bipush (v := 6) hx hb dX1_init_5 (by decide) ?_
  refine f_newa (N := 6) hx hb hts hK hA hW hS (Nat.le_trans hB0 hS.1) (ty := .int) rfl q152 vT_int rfl (fun U cA z => z) (by decide) (by decide) (Nat.le_of_ble_eq_true rfl) (Nat.le_of_ble_eq_true rfl) (Nat.le_of_ble_eq_true rfl) dX1_init_7 (fun q0 H _ hW hA hS => ?_)
  have hW : FW D (X ++ [(b, .inr (2, [.null, .null, .null, .null, .int 0, .null, .null, .null, .null, .null, .int 0, .int 0])), (q0, .inl (D.2 .int, 6, .inl (fun _ => 0)))]) H := hW
  have hA : FA (X ++ [(b, .inr (2, [.null, .null, .null, .null, .int 0, .null, .null, .null, .null, .null, .int 0, .int 0])), (q0, .inl (D.2 .int, 6, .inl (fun _ => 0)))]) base := hA
  refine f_putF (v := .ref q0) (ci := 2) hx hb hts hown hK hin2 hA hW hS 0 rfl in_X1 tyX1 tyX1_ok nmX1 rfl 0 (by decide) q153 rfl rfl rfl ⟨rfl, rfl⟩ (Nat.le_of_ble_eq_true rfl) dX1_init_9 (fun H locs hW hA hS => ?_)
  have hW : FW D (X ++ [(b, .inr (2, [.ref q0, .null, .null, .null, .int 0, .null, .null, .null, .null, .null, .int 0, .int 0])), (q0, .inl (D.2 .int, 6, .inl (fun _ => 0)))]) H := hW
  have hA : FA (X ++ [(b, .inr (2, [.ref q0, .null, .null, .null, .int 0, .null, .null, .null, .null, .null, .int 0, .int 0])), (q0, .inl (D.2 .int, 6, .inl (fun _ => 0)))]) base := hA
  refine lv_aload_n hx hb dX1_init_12 rfl (lv_at hl 0 rfl) ?_
  refine f_new (ci := 13) (fs := [.int 0, .null, .int 0]) (C := RJ2) (T := TJ2) (N := 3) hx hb hts hown hK hA hW hS (Nat.le_trans hB0 hS.1) in_J2 tyJ2 tyJ2_ok q125 q126 q80 rfl (fun j hj => by rcases (show j = 0 ∨ j = 1 ∨ j = 2 by omega) with rfl | rfl | rfl <;> rfl) (Nat.le_of_ble_eq_true rfl) (Nat.le_of_ble_eq_true rfl) dX1_init_13 (fun q1 H _ hW hA hS => ?_)
  have hW : FW D (X ++ [(b, .inr (2, [.ref q0, .null, .null, .null, .int 0, .null, .null, .null, .null, .null, .int 0, .int 0])), (q0, .inl (D.2 .int, 6, .inl (fun _ => 0))), (q1, .inr (13, [.int 0, .null, .int 0]))]) H := hW
  have hA : FA (X ++ [(b, .inr (2, [.ref q0, .null, .null, .null, .int 0, .null, .null, .null, .null, .null, .int 0, .int 0])), (q0, .inl (D.2 .int, 6, .inl (fun _ => 0))), (q1, .inr (13, [.int 0, .null, .int 0]))]) base := hA
  refine lv_dup hx hb dX1_init_16 rfl ?_
  refine z_end (Post := fun H => FW D ((X ++ [(b, .inr (2, [.ref q0, .null, .null, .null, .int 0, .null, .null, .null, .null, .null, .int 0, .int 0])), (q0, .inl (D.2 .int, 6, .inl (fun _ => 0)))]) ++ [(q1, .inr (13, [.int 0, .ref de, .int 0]))]) H ∧ FA ((X ++ [(b, .inr (2, [.ref q0, .null, .null, .null, .int 0, .null, .null, .null, .null, .null, .int 0, .int 0])), (q0, .inl (D.2 .int, 6, .inl (fun _ => 0)))]) ++ [(q1, .inr (13, [.int 0, .ref de, .int 0]))]) base) (ov := none) (va_runI (g := F0 m 17 ls _) (b := q1) (As := []) (rest := [.ref q1, .ref b]) ⟨hx, hb, hml, hown, hts⟩ (f_J2_J2_met l D s0 h0 (X ++ [(b, .inr (2, [.ref q0, .null, .null, .null, .int 0, .null, .null, .null, .null, .null, .int 0, .int 0])), (q0, .inl (D.2 .int, 6, .inl (fun _ => 0)))]) base r1 r2 de hz q1 (by rw [List.append_assoc]; exact hA)) (cwI 0 hts (lw_meth q129) rfl rfl rfl (hts _ q80) (hts _ q127) (hts _ q128) rfl (by decide +kernel) ⟨Nat.le_trans (Nat.le_of_ble_eq_true rfl) hRf, Nat.le_trans (Nat.le_of_ble_eq_true rfl) hRl⟩) ⟨PcZ_blind, pcz_at (Sc := nS) (adc := id) (Ic := fun _ => 0) (Ac := fun _ _ => 0) (Rc := nR) (Gc := nG) hY hK (Nat.le_trans hB0 hS.1) (show FW D ((X ++ [(b, .inr (2, [.ref q0, .null, .null, .null, .int 0, .null, .null, .null, .null, .null, .int 0, .int 0])), (q0, .inl (D.2 .int, 6, .inl (fun _ => 0)))]) ++ [(q1, .inr (13, [.int 0, .null, .int 0]))]) _ by rw [List.append_assoc]; exact hW) (z_low hq0 hB0 hS)⟩ rfl rfl hl.1 rfl (lv_room (m := m) (pc := 17) (ls := ls) (rest := []) (Nat.le_of_ble_eq_true rfl)) dX1_init_17 ⟨(Nat.le_of_ble_eq_true rfl), (Nat.le_of_ble_eq_true rfl)⟩) hS (fun H locs hP _ hS => ?_)
  obtain ⟨hW, hA⟩ := hP
  rw [List.append_assoc] at hW hA
  have hW : FW D (X ++ [(b, .inr (2, [.ref q0, .null, .null, .null, .int 0, .null, .null, .null, .null, .null, .int 0, .int 0])), (q0, .inl (D.2 .int, 6, .inl (fun _ => 0))), (q1, .inr (13, [.int 0, .ref de, .int 0]))]) H := hW
  have hA : FA (X ++ [(b, .inr (2, [.ref q0, .null, .null, .null, .int 0, .null, .null, .null, .null, .null, .int 0, .int 0])), (q0, .inl (D.2 .int, 6, .inl (fun _ => 0))), (q1, .inr (13, [.int 0, .ref de, .int 0]))]) base := hA
  refine f_put (v := .ref q1) (ci := 2) hx hb hts hown hK hA hW hS 0 rfl in_X1 tyX1 tyX1_ok nmX1 rfl 1 (by decide) q156 rfl rfl ⟨rfl, rfl⟩ (Nat.le_of_ble_eq_true rfl) dX1_init_20 (fun H locs hW hA hS => ?_)
  have hW : FW D (X ++ [(b, .inr (2, [.ref q0, .ref q1, .null, .null, .int 0, .null, .null, .null, .null, .null, .int 0, .int 0])), (q0, .inl (D.2 .int, 6, .inl (fun _ => 0))), (q1, .inr (13, [.int 0, .ref de, .int 0]))]) H := hW
  have hA : FA (X ++ [(b, .inr (2, [.ref q0, .ref q1, .null, .null, .int 0, .null, .null, .null, .null, .null, .int 0, .int 0])), (q0, .inl (D.2 .int, 6, .inl (fun _ => 0))), (q1, .inr (13, [.int 0, .ref de, .int 0]))]) base := hA
  refine lv_aload_n hx hb dX1_init_23 rfl (lv_at hl 0 rfl) ?_
  refine lv_iconst (v := 5) hx hb dX1_init_24 (by decide) ?_
  refine f_newa (N := 5) hx hb hts hK hA hW hS (Nat.le_trans hB0 hS.1) (ty := .int) rfl q152 vT_int rfl (fun U cA z => z) (by decide) (by decide) (Nat.le_of_ble_eq_true rfl) (Nat.le_of_ble_eq_true rfl) (Nat.le_of_ble_eq_true rfl) dX1_init_25 (fun q2 H _ hW hA hS => ?_)
  have hW : FW D (X ++ [(b, .inr (2, [.ref q0, .ref q1, .null, .null, .int 0, .null, .null, .null, .null, .null, .int 0, .int 0])), (q0, .inl (D.2 .int, 6, .inl (fun _ => 0))), (q1, .inr (13, [.int 0, .ref de, .int 0])), (q2, .inl (D.2 .int, 5, .inl (fun _ => 0)))]) H := hW
  have hA : FA (X ++ [(b, .inr (2, [.ref q0, .ref q1, .null, .null, .int 0, .null, .null, .null, .null, .null, .int 0, .int 0])), (q0, .inl (D.2 .int, 6, .inl (fun _ => 0))), (q1, .inr (13, [.int 0, .ref de, .int 0])), (q2, .inl (D.2 .int, 5, .inl (fun _ => 0)))]) base := hA
  refine f_putF (v := .ref q2) (ci := 2) hx hb hts hown hK hin2 hA hW hS 0 rfl in_X1 tyX1 tyX1_ok nmX1 rfl 2 (by decide) q159 rfl rfl rfl ⟨rfl, rfl⟩ (Nat.le_of_ble_eq_true rfl) dX1_init_27 (fun H locs hW hA hS => ?_)
  have hW : FW D (X ++ [(b, .inr (2, [.ref q0, .ref q1, .ref q2, .null, .int 0, .null, .null, .null, .null, .null, .int 0, .int 0])), (q0, .inl (D.2 .int, 6, .inl (fun _ => 0))), (q1, .inr (13, [.int 0, .ref de, .int 0])), (q2, .inl (D.2 .int, 5, .inl (fun _ => 0)))]) H := hW
  have hA : FA (X ++ [(b, .inr (2, [.ref q0, .ref q1, .ref q2, .null, .int 0, .null, .null, .null, .null, .null, .int 0, .int 0])), (q0, .inl (D.2 .int, 6, .inl (fun _ => 0))), (q1, .inr (13, [.int 0, .ref de, .int 0])), (q2, .inl (D.2 .int, 5, .inl (fun _ => 0)))]) base := hA
  refine lv_aload_n hx hb dX1_init_30 rfl (lv_at hl 0 rfl) ?_
  refine lv_iconst (v := 5) hx hb dX1_init_31 (by decide) ?_
  refine f_newa (N := 5) hx hb hts hK hA hW hS (Nat.le_trans hB0 hS.1) (ty := .int) rfl q152 vT_int rfl (fun U cA z => z) (by decide) (by decide) (Nat.le_of_ble_eq_true rfl) (Nat.le_of_ble_eq_true rfl) (Nat.le_of_ble_eq_true rfl) dX1_init_32 (fun q3 H _ hW hA hS => ?_)
  have hW : FW D (X ++ [(b, .inr (2, [.ref q0, .ref q1, .ref q2, .null, .int 0, .null, .null, .null, .null, .null, .int 0, .int 0])), (q0, .inl (D.2 .int, 6, .inl (fun _ => 0))), (q1, .inr (13, [.int 0, .ref de, .int 0])), (q2, .inl (D.2 .int, 5, .inl (fun _ => 0))), (q3, .inl (D.2 .int, 5, .inl (fun _ => 0)))]) H := hW
  have hA : FA (X ++ [(b, .inr (2, [.ref q0, .ref q1, .ref q2, .null, .int 0, .null, .null, .null, .null, .null, .int 0, .int 0])), (q0, .inl (D.2 .int, 6, .inl (fun _ => 0))), (q1, .inr (13, [.int 0, .ref de, .int 0])), (q2, .inl (D.2 .int, 5, .inl (fun _ => 0))), (q3, .inl (D.2 .int, 5, .inl (fun _ => 0)))]) base := hA
  refine f_putF (v := .ref q3) (ci := 2) hx hb hts hown hK hin2 hA hW hS 0 rfl in_X1 tyX1 tyX1_ok nmX1 rfl 3 (by decide) q163 rfl rfl rfl ⟨rfl, rfl⟩ (Nat.le_of_ble_eq_true rfl) dX1_init_34 (fun H locs hW hA hS => ?_)
  have hW : FW D (X ++ [(b, .inr (2, [.ref q0, .ref q1, .ref q2, .ref q3, .int 0, .null, .null, .null, .null, .null, .int 0, .int 0])), (q0, .inl (D.2 .int, 6, .inl (fun _ => 0))), (q1, .inr (13, [.int 0, .ref de, .int 0])), (q2, .inl (D.2 .int, 5, .inl (fun _ => 0))), (q3, .inl (D.2 .int, 5, .inl (fun _ => 0)))]) H := hW
  have hA : FA (X ++ [(b, .inr (2, [.ref q0, .ref q1, .ref q2, .ref q3, .int 0, .null, .null, .null, .null, .null, .int 0, .int 0])), (q0, .inl (D.2 .int, 6, .inl (fun _ => 0))), (q1, .inr (13, [.int 0, .ref de, .int 0])), (q2, .inl (D.2 .int, 5, .inl (fun _ => 0))), (q3, .inl (D.2 .int, 5, .inl (fun _ => 0)))]) base := hA
  refine lv_aload_n hx hb dX1_init_37 rfl (lv_at hl 0 rfl) ?_
  refine lv_bipush (v := 8) hx hb dX1_init_38 (by decide) ?_
  refine f_newa (N := 8) hx hb hts hK hA hW hS (Nat.le_trans hB0 hS.1) (ty := .int) rfl q152 vT_int rfl (fun U cA z => z) (by decide) (by decide) (Nat.le_of_ble_eq_true rfl) (Nat.le_of_ble_eq_true rfl) (Nat.le_of_ble_eq_true rfl) dX1_init_40 (fun q4 H _ hW hA hS => ?_)
  have hW : FW D (X ++ [(b, .inr (2, [.ref q0, .ref q1, .ref q2, .ref q3, .int 0, .null, .null, .null, .null, .null, .int 0, .int 0])), (q0, .inl (D.2 .int, 6, .inl (fun _ => 0))), (q1, .inr (13, [.int 0, .ref de, .int 0])), (q2, .inl (D.2 .int, 5, .inl (fun _ => 0))), (q3, .inl (D.2 .int, 5, .inl (fun _ => 0))), (q4, .inl (D.2 .int, 8, .inl (fun _ => 0)))]) H := hW
  have hA : FA (X ++ [(b, .inr (2, [.ref q0, .ref q1, .ref q2, .ref q3, .int 0, .null, .null, .null, .null, .null, .int 0, .int 0])), (q0, .inl (D.2 .int, 6, .inl (fun _ => 0))), (q1, .inr (13, [.int 0, .ref de, .int 0])), (q2, .inl (D.2 .int, 5, .inl (fun _ => 0))), (q3, .inl (D.2 .int, 5, .inl (fun _ => 0))), (q4, .inl (D.2 .int, 8, .inl (fun _ => 0)))]) base := hA
  refine f_putF (v := .ref q4) (ci := 2) hx hb hts hown hK hin2 hA hW hS 0 rfl in_X1 tyX1 tyX1_ok nmX1 rfl 5 (by decide) q169 rfl rfl rfl ⟨rfl, rfl⟩ (Nat.le_of_ble_eq_true rfl) dX1_init_42 (fun H locs hW hA hS => ?_)
  have hW : FW D (X ++ [(b, .inr (2, [.ref q0, .ref q1, .ref q2, .ref q3, .int 0, .ref q4, .null, .null, .null, .null, .int 0, .int 0])), (q0, .inl (D.2 .int, 6, .inl (fun _ => 0))), (q1, .inr (13, [.int 0, .ref de, .int 0])), (q2, .inl (D.2 .int, 5, .inl (fun _ => 0))), (q3, .inl (D.2 .int, 5, .inl (fun _ => 0))), (q4, .inl (D.2 .int, 8, .inl (fun _ => 0)))]) H := hW
  have hA : FA (X ++ [(b, .inr (2, [.ref q0, .ref q1, .ref q2, .ref q3, .int 0, .ref q4, .null, .null, .null, .null, .int 0, .int 0])), (q0, .inl (D.2 .int, 6, .inl (fun _ => 0))), (q1, .inr (13, [.int 0, .ref de, .int 0])), (q2, .inl (D.2 .int, 5, .inl (fun _ => 0))), (q3, .inl (D.2 .int, 5, .inl (fun _ => 0))), (q4, .inl (D.2 .int, 8, .inl (fun _ => 0)))]) base := hA
  refine lv_aload_n hx hb dX1_init_45 rfl (lv_at hl 0 rfl) ?_
  refine lv_bipush (v := 8) hx hb dX1_init_46 (by decide) ?_
  refine f_newa (N := 8) hx hb hts hK hA hW hS (Nat.le_trans hB0 hS.1) (ty := .int) rfl q152 vT_int rfl (fun U cA z => z) (by decide) (by decide) (Nat.le_of_ble_eq_true rfl) (Nat.le_of_ble_eq_true rfl) (Nat.le_of_ble_eq_true rfl) dX1_init_48 (fun q5 H _ hW hA hS => ?_)
  have hW : FW D (X ++ [(b, .inr (2, [.ref q0, .ref q1, .ref q2, .ref q3, .int 0, .ref q4, .null, .null, .null, .null, .int 0, .int 0])), (q0, .inl (D.2 .int, 6, .inl (fun _ => 0))), (q1, .inr (13, [.int 0, .ref de, .int 0])), (q2, .inl (D.2 .int, 5, .inl (fun _ => 0))), (q3, .inl (D.2 .int, 5, .inl (fun _ => 0))), (q4, .inl (D.2 .int, 8, .inl (fun _ => 0))), (q5, .inl (D.2 .int, 8, .inl (fun _ => 0)))]) H := hW
  have hA : FA (X ++ [(b, .inr (2, [.ref q0, .ref q1, .ref q2, .ref q3, .int 0, .ref q4, .null, .null, .null, .null, .int 0, .int 0])), (q0, .inl (D.2 .int, 6, .inl (fun _ => 0))), (q1, .inr (13, [.int 0, .ref de, .int 0])), (q2, .inl (D.2 .int, 5, .inl (fun _ => 0))), (q3, .inl (D.2 .int, 5, .inl (fun _ => 0))), (q4, .inl (D.2 .int, 8, .inl (fun _ => 0))), (q5, .inl (D.2 .int, 8, .inl (fun _ => 0)))]) base := hA
  refine f_putF (v := .ref q5) (ci := 2) hx hb hts hown hK hin2 hA hW hS 0 rfl in_X1 tyX1 tyX1_ok nmX1 rfl 6 (by decide) q171 rfl rfl rfl ⟨rfl, rfl⟩ (Nat.le_of_ble_eq_true rfl) dX1_init_50 (fun H locs hW hA hS => ?_)
  have hW : FW D (X ++ [(b, .inr (2, [.ref q0, .ref q1, .ref q2, .ref q3, .int 0, .ref q4, .ref q5, .null, .null, .null, .int 0, .int 0])), (q0, .inl (D.2 .int, 6, .inl (fun _ => 0))), (q1, .inr (13, [.int 0, .ref de, .int 0])), (q2, .inl (D.2 .int, 5, .inl (fun _ => 0))), (q3, .inl (D.2 .int, 5, .inl (fun _ => 0))), (q4, .inl (D.2 .int, 8, .inl (fun _ => 0))), (q5, .inl (D.2 .int, 8, .inl (fun _ => 0)))]) H := hW
  have hA : FA (X ++ [(b, .inr (2, [.ref q0, .ref q1, .ref q2, .ref q3, .int 0, .ref q4, .ref q5, .null, .null, .null, .int 0, .int 0])), (q0, .inl (D.2 .int, 6, .inl (fun _ => 0))), (q1, .inr (13, [.int 0, .ref de, .int 0])), (q2, .inl (D.2 .int, 5, .inl (fun _ => 0))), (q3, .inl (D.2 .int, 5, .inl (fun _ => 0))), (q4, .inl (D.2 .int, 8, .inl (fun _ => 0))), (q5, .inl (D.2 .int, 8, .inl (fun _ => 0)))]) base := hA
  refine lv_aload_n hx hb dX1_init_53 rfl (lv_at hl 0 rfl) ?_
  refine lv_bipush (v := 8) hx hb dX1_init_54 (by decide) ?_
  refine f_newa (N := 8) hx hb hts hK hA hW hS (Nat.le_trans hB0 hS.1) (ty := .int) rfl q152 vT_int rfl (fun U cA z => z) (by decide) (by decide) (Nat.le_of_ble_eq_true rfl) (Nat.le_of_ble_eq_true rfl) (Nat.le_of_ble_eq_true rfl) dX1_init_56 (fun q6 H _ hW hA hS => ?_)
  have hW : FW D (X ++ [(b, .inr (2, [.ref q0, .ref q1, .ref q2, .ref q3, .int 0, .ref q4, .ref q5, .null, .null, .null, .int 0, .int 0])), (q0, .inl (D.2 .int, 6, .inl (fun _ => 0))), (q1, .inr (13, [.int 0, .ref de, .int 0])), (q2, .inl (D.2 .int, 5, .inl (fun _ => 0))), (q3, .inl (D.2 .int, 5, .inl (fun _ => 0))), (q4, .inl (D.2 .int, 8, .inl (fun _ => 0))), (q5, .inl (D.2 .int, 8, .inl (fun _ => 0))), (q6, .inl (D.2 .int, 8, .inl (fun _ => 0)))]) H := hW
  have hA : FA (X ++ [(b, .inr (2, [.ref q0, .ref q1, .ref q2, .ref q3, .int 0, .ref q4, .ref q5, .null, .null, .null, .int 0, .int 0])), (q0, .inl (D.2 .int, 6, .inl (fun _ => 0))), (q1, .inr (13, [.int 0, .ref de, .int 0])), (q2, .inl (D.2 .int, 5, .inl (fun _ => 0))), (q3, .inl (D.2 .int, 5, .inl (fun _ => 0))), (q4, .inl (D.2 .int, 8, .inl (fun _ => 0))), (q5, .inl (D.2 .int, 8, .inl (fun _ => 0))), (q6, .inl (D.2 .int, 8, .inl (fun _ => 0)))]) base := hA
  refine f_putF (v := .ref q6) (ci := 2) hx hb hts hown hK hin2 hA hW hS 0 rfl in_X1 tyX1 tyX1_ok nmX1 rfl 7 (by decide) q173 rfl rfl rfl ⟨rfl, rfl⟩ (Nat.le_of_ble_eq_true rfl) dX1_init_58 (fun H locs hW hA hS => ?_)
  have hW : FW D (X ++ [(b, .inr (2, [.ref q0, .ref q1, .ref q2, .ref q3, .int 0, .ref q4, .ref q5, .ref q6, .null, .null, .int 0, .int 0])), (q0, .inl (D.2 .int, 6, .inl (fun _ => 0))), (q1, .inr (13, [.int 0, .ref de, .int 0])), (q2, .inl (D.2 .int, 5, .inl (fun _ => 0))), (q3, .inl (D.2 .int, 5, .inl (fun _ => 0))), (q4, .inl (D.2 .int, 8, .inl (fun _ => 0))), (q5, .inl (D.2 .int, 8, .inl (fun _ => 0))), (q6, .inl (D.2 .int, 8, .inl (fun _ => 0)))]) H := hW
  have hA : FA (X ++ [(b, .inr (2, [.ref q0, .ref q1, .ref q2, .ref q3, .int 0, .ref q4, .ref q5, .ref q6, .null, .null, .int 0, .int 0])), (q0, .inl (D.2 .int, 6, .inl (fun _ => 0))), (q1, .inr (13, [.int 0, .ref de, .int 0])), (q2, .inl (D.2 .int, 5, .inl (fun _ => 0))), (q3, .inl (D.2 .int, 5, .inl (fun _ => 0))), (q4, .inl (D.2 .int, 8, .inl (fun _ => 0))), (q5, .inl (D.2 .int, 8, .inl (fun _ => 0))), (q6, .inl (D.2 .int, 8, .inl (fun _ => 0)))]) base := hA
  refine lv_aload_n hx hb dX1_init_61 rfl (lv_at hl 0 rfl) ?_
  refine lv_bipush (v := 8) hx hb dX1_init_62 (by decide) ?_
  refine f_newa (N := 8) hx hb hts hK hA hW hS (Nat.le_trans hB0 hS.1) (ty := .int) rfl q152 vT_int rfl (fun U cA z => z) (by decide) (by decide) (Nat.le_of_ble_eq_true rfl) (Nat.le_of_ble_eq_true rfl) (Nat.le_of_ble_eq_true rfl) dX1_init_64 (fun q7 H _ hW hA hS => ?_)
  have hW : FW D (X ++ [(b, .inr (2, [.ref q0, .ref q1, .ref q2, .ref q3, .int 0, .ref q4, .ref q5, .ref q6, .null, .null, .int 0, .int 0])), (q0, .inl (D.2 .int, 6, .inl (fun _ => 0))), (q1, .inr (13, [.int 0, .ref de, .int 0])), (q2, .inl (D.2 .int, 5, .inl (fun _ => 0))), (q3, .inl (D.2 .int, 5, .inl (fun _ => 0))), (q4, .inl (D.2 .int, 8, .inl (fun _ => 0))), (q5, .inl (D.2 .int, 8, .inl (fun _ => 0))), (q6, .inl (D.2 .int, 8, .inl (fun _ => 0))), (q7, .inl (D.2 .int, 8, .inl (fun _ => 0)))]) H := hW
  have hA : FA (X ++ [(b, .inr (2, [.ref q0, .ref q1, .ref q2, .ref q3, .int 0, .ref q4, .ref q5, .ref q6, .null, .null, .int 0, .int 0])), (q0, .inl (D.2 .int, 6, .inl (fun _ => 0))), (q1, .inr (13, [.int 0, .ref de, .int 0])), (q2, .inl (D.2 .int, 5, .inl (fun _ => 0))), (q3, .inl (D.2 .int, 5, .inl (fun _ => 0))), (q4, .inl (D.2 .int, 8, .inl (fun _ => 0))), (q5, .inl (D.2 .int, 8, .inl (fun _ => 0))), (q6, .inl (D.2 .int, 8, .inl (fun _ => 0))), (q7, .inl (D.2 .int, 8, .inl (fun _ => 0)))]) base := hA
  refine f_putF (v := .ref q7) (ci := 2) hx hb hts hown hK hin2 hA hW hS 0 rfl in_X1 tyX1 tyX1_ok nmX1 rfl 8 (by decide) q175 rfl rfl rfl ⟨rfl, rfl⟩ (Nat.le_of_ble_eq_true rfl) dX1_init_66 (fun H locs hW hA hS => ?_)
  have hW : FW D (X ++ [(b, .inr (2, [.ref q0, .ref q1, .ref q2, .ref q3, .int 0, .ref q4, .ref q5, .ref q6, .ref q7, .null, .int 0, .int 0])), (q0, .inl (D.2 .int, 6, .inl (fun _ => 0))), (q1, .inr (13, [.int 0, .ref de, .int 0])), (q2, .inl (D.2 .int, 5, .inl (fun _ => 0))), (q3, .inl (D.2 .int, 5, .inl (fun _ => 0))), (q4, .inl (D.2 .int, 8, .inl (fun _ => 0))), (q5, .inl (D.2 .int, 8, .inl (fun _ => 0))), (q6, .inl (D.2 .int, 8, .inl (fun _ => 0))), (q7, .inl (D.2 .int, 8, .inl (fun _ => 0)))]) H := hW
  have hA : FA (X ++ [(b, .inr (2, [.ref q0, .ref q1, .ref q2, .ref q3, .int 0, .ref q4, .ref q5, .ref q6, .ref q7, .null, .int 0, .int 0])), (q0, .inl (D.2 .int, 6, .inl (fun _ => 0))), (q1, .inr (13, [.int 0, .ref de, .int 0])), (q2, .inl (D.2 .int, 5, .inl (fun _ => 0))), (q3, .inl (D.2 .int, 5, .inl (fun _ => 0))), (q4, .inl (D.2 .int, 8, .inl (fun _ => 0))), (q5, .inl (D.2 .int, 8, .inl (fun _ => 0))), (q6, .inl (D.2 .int, 8, .inl (fun _ => 0))), (q7, .inl (D.2 .int, 8, .inl (fun _ => 0)))]) base := hA
  refine lv_aload_n hx hb dX1_init_69 rfl (lv_at hl 0 rfl) ?_
  refine lv_bipush (v := 8) hx hb dX1_init_70 (by decide) ?_
  refine f_newa (N := 8) hx hb hts hK hA hW hS (Nat.le_trans hB0 hS.1) (ty := .int) rfl q152 vT_int rfl (fun U cA z => z) (by decide) (by decide) (Nat.le_of_ble_eq_true rfl) (Nat.le_of_ble_eq_true rfl) (Nat.le_of_ble_eq_true rfl) dX1_init_72 (fun q8 H _ hW hA hS => ?_)
  have hW : FW D (X ++ [(b, .inr (2, [.ref q0, .ref q1, .ref q2, .ref q3, .int 0, .ref q4, .ref q5, .ref q6, .ref q7, .null, .int 0, .int 0])), (q0, .inl (D.2 .int, 6, .inl (fun _ => 0))), (q1, .inr (13, [.int 0, .ref de, .int 0])), (q2, .inl (D.2 .int, 5, .inl (fun _ => 0))), (q3, .inl (D.2 .int, 5, .inl (fun _ => 0))), (q4, .inl (D.2 .int, 8, .inl (fun _ => 0))), (q5, .inl (D.2 .int, 8, .inl (fun _ => 0))), (q6, .inl (D.2 .int, 8, .inl (fun _ => 0))), (q7, .inl (D.2 .int, 8, .inl (fun _ => 0))), (q8, .inl (D.2 .int, 8, .inl (fun _ => 0)))]) H := hW
  have hA : FA (X ++ [(b, .inr (2, [.ref q0, .ref q1, .ref q2, .ref q3, .int 0, .ref q4, .ref q5, .ref q6, .ref q7, .null, .int 0, .int 0])), (q0, .inl (D.2 .int, 6, .inl (fun _ => 0))), (q1, .inr (13, [.int 0, .ref de, .int 0])), (q2, .inl (D.2 .int, 5, .inl (fun _ => 0))), (q3, .inl (D.2 .int, 5, .inl (fun _ => 0))), (q4, .inl (D.2 .int, 8, .inl (fun _ => 0))), (q5, .inl (D.2 .int, 8, .inl (fun _ => 0))), (q6, .inl (D.2 .int, 8, .inl (fun _ => 0))), (q7, .inl (D.2 .int, 8, .inl (fun _ => 0))), (q8, .inl (D.2 .int, 8, .inl (fun _ => 0)))]) base := hA
  refine f_putF (v := .ref q8) (ci := 2) hx hb hts hown hK hin2 hA hW hS 0 rfl in_X1 tyX1 tyX1_ok nmX1 rfl 9 (by decide) q177 rfl rfl rfl ⟨rfl, rfl⟩ (Nat.le_of_ble_eq_true rfl) dX1_init_74 (fun H locs hW hA hS => ?_)
  have hW : FW D (X ++ [(b, .inr (2, [.ref q0, .ref q1, .ref q2, .ref q3, .int 0, .ref q4, .ref q5, .ref q6, .ref q7, .ref q8, .int 0, .int 0])), (q0, .inl (D.2 .int, 6, .inl (fun _ => 0))), (q1, .inr (13, [.int 0, .ref de, .int 0])), (q2, .inl (D.2 .int, 5, .inl (fun _ => 0))), (q3, .inl (D.2 .int, 5, .inl (fun _ => 0))), (q4, .inl (D.2 .int, 8, .inl (fun _ => 0))), (q5, .inl (D.2 .int, 8, .inl (fun _ => 0))), (q6, .inl (D.2 .int, 8, .inl (fun _ => 0))), (q7, .inl (D.2 .int, 8, .inl (fun _ => 0))), (q8, .inl (D.2 .int, 8, .inl (fun _ => 0)))]) H := hW
  have hA : FA (X ++ [(b, .inr (2, [.ref q0, .ref q1, .ref q2, .ref q3, .int 0, .ref q4, .ref q5, .ref q6, .ref q7, .ref q8, .int 0, .int 0])), (q0, .inl (D.2 .int, 6, .inl (fun _ => 0))), (q1, .inr (13, [.int 0, .ref de, .int 0])), (q2, .inl (D.2 .int, 5, .inl (fun _ => 0))), (q3, .inl (D.2 .int, 5, .inl (fun _ => 0))), (q4, .inl (D.2 .int, 8, .inl (fun _ => 0))), (q5, .inl (D.2 .int, 8, .inl (fun _ => 0))), (q6, .inl (D.2 .int, 8, .inl (fun _ => 0))), (q7, .inl (D.2 .int, 8, .inl (fun _ => 0))), (q8, .inl (D.2 .int, 8, .inl (fun _ => 0)))]) base := hA
  exact W.vret hx hb hr (fun t ht _ => ⟨rfl, by rw [ht]; exact ⟨q0, q1, q2, q3, q4, q5, q6, q7, q8, hW, hA⟩, hS.F ht⟩) hS.2.2 dX1_init_77
set_option maxRecDepth 100000 in
set_option maxHeartbeats 4000000 in
theorem f_X2_X2_met (l : Launch) (D : dd_) (s0 : State) (h0 : ∀ w ∈ lw_tbl, va_Nw w s0) (X : va_W) (base : Nat) (r1 r2 : Option Nat) (de : Nat) (hz : FZ base s0 r1 r2 de) (b : Nat) (hA : FA (X ++ [(b, .inr (3, [.null, .int 0]))]) base) : Met l yX2_init (ws_ yX2_init cX2_init 1 none) ({ frames := 1, cells := 1, slots := 16, locals := 32 }) (PcZ D s0 nS id (fun _ => 0) (fun _ _ => 0) nR nG (X ++ [(b, .inr (3, [.null, .int 0]))]) base [.ref b]) (QcE (fun H => ∃ q0 : Nat, FW D (X ++ [(b, .inr (3, [.ref q0, .int 0])), (q0, .inl (D.2 .int, 16, .inl (fun _ => 0)))]) H ∧ FA (X ++ [(b, .inr (3, [.ref q0, .int 0])), (q0, .inl (D.2 .int, 16, .inl (fun _ => 0)))]) base) base none) 1 (16) (upB base) := by
  refine Met.ofW (cc := cX2_init) (maxL := 1) (ret := none) (by decide) rfl ?_
  intro p e s m args below meth c s₁ B hml hv
  obtain ⟨⟨rfl, hK, hY, hB0, hW⟩, hq0⟩ := hv
  have hW : FW D (X ++ [(b, .inr (3, [.null, .int 0]))]) s.heap := hW
  have hx := B.exec
  have hb := B.bytes
  have hr := B.returns
  have hts := atoms_spec (ws := (ws_ yX2_init cX2_init 1 none)) B.pre
  have hts : ∀ w ∈ lw_all, w.before _ s = true := fun w h => hts w (List.mem_cons_of_mem _ h)
  have hown : s.vm.findClass RX2 = some m.cls := findClass_of_methodNamed B.named
  have hlocks := B.notSynchronized
  have hin2 : meth.name = "<init>" := (name_of_methodNamed B.named B.method).1
  have hRf : 1 ≤ (headSpec (ws_ yX2_init cX2_init 1 none) ({ frames := 1, cells := 1, slots := 16, locals := 32 })).room.frames := Nat.le_refl _
  have hRl : 32 ≤ (headSpec (ws_ yX2_init cX2_init 1 none) ({ frames := 1, cells := 1, slots := 16, locals := 32 })).room.locals := Nat.le_refl _
  have hS : va_S (upB base) s.heap s.heap [] := va_S.rf
  have hl := lv_entry ([.ref b]) (n := 1) (Nat.le_of_ble_eq_true rfl)
  rw [lg_entry_eq]
  generalize (lg_sl ([.ref b]) ++ List.replicate (1 - (lg_sl ([.ref b])).length) Slot.unset).toArray = ls at hl ⊢
  have hl : lv_has ls 1 [(0, .ref b)] := hl
  refine lv_aload_n hx hb dX2_init_0 rfl (lv_at hl 0 rfl) ?_
  refine W.objInit hx hb hown (hts _ q214) (hts _ q115) (hts _ q116) rfl (by rw [hml]; exact hl.1) rfl dX2_init_1 (Nat.le_trans (Nat.le_of_ble_eq_true rfl) hRf) (Nat.le_trans (Nat.le_of_ble_eq_true rfl) hRl) ?_
  refine W.eq (g2 := F0 m 4 ls []) rfl ?_
  refine lv_aload_n hx hb dX2_init_4 rfl (lv_at hl 0 rfl) ?_
  refine lv_bipush (v := 16) hx hb dX2_init_5 (by decide) ?_
  refine f_newa (N := 16) hx hb hts hK hA hW hS (Nat.le_trans hB0 hS.1) (ty := .int) rfl q152 vT_int rfl (fun U cA z => z) (by decide) (by decide) (Nat.le_of_ble_eq_true rfl) (Nat.le_of_ble_eq_true rfl) (Nat.le_of_ble_eq_true rfl) dX2_init_7 (fun q0 H _ hW hA hS => ?_)
  have hW : FW D (X ++ [(b, .inr (3, [.null, .int 0])), (q0, .inl (D.2 .int, 16, .inl (fun _ => 0)))]) H := hW
  have hA : FA (X ++ [(b, .inr (3, [.null, .int 0])), (q0, .inl (D.2 .int, 16, .inl (fun _ => 0)))]) base := hA
  refine f_putF (v := .ref q0) (ci := 3) hx hb hts hown hK hin2 hA hW hS 0 rfl in_X2 tyX2 tyX2_ok nmX2 rfl 0 (by decide) q215 rfl rfl rfl ⟨rfl, rfl⟩ (Nat.le_of_ble_eq_true rfl) dX2_init_9 (fun H locs hW hA hS => ?_)
  have hW : FW D (X ++ [(b, .inr (3, [.ref q0, .int 0])), (q0, .inl (D.2 .int, 16, .inl (fun _ => 0)))]) H := hW
  have hA : FA (X ++ [(b, .inr (3, [.ref q0, .int 0])), (q0, .inl (D.2 .int, 16, .inl (fun _ => 0)))]) base := hA
  exact W.vret hx hb hr (fun t ht _ => ⟨rfl, by rw [ht]; exact ⟨q0, hW, hA⟩, hS.F ht⟩) hS.2.2 dX2_init_12
set_option maxRecDepth 100000 in
set_option maxHeartbeats 4000000 in
theorem f_X5_X5_met (l : Launch) (D : dd_) (s0 : State) (h0 : ∀ w ∈ lw_tbl, va_Nw w s0) (X : va_W) (base : Nat) (r1 r2 : Option Nat) (de : Nat) (hz : FZ base s0 r1 r2 de) (b : Nat) (a0 : Int32) (n : Nat) (hn : n ≤ 40) (hA : FA (X ++ [(b, .inr (5, [.int 0, .null]))]) base) : Met l yX5_init (ws_ yX5_init cX5_init 3 none) ({ frames := 1, cells := 1, slots := 0 + n, locals := 32 }) (PcZ D s0 nS id (fun _ => 0) (fun _ _ => 0) nR nG (X ++ [(b, .inr (5, [.int 0, .null]))]) base [.ref b, .int a0, .int (nI n)]) (QcE (fun H => ∃ q0 : Nat, FW D (X ++ [(b, .inr (5, [.int a0, .ref q0])), (q0, .inl (D.2 .int, n, .inl (fun _ => 0)))]) H ∧ FA (X ++ [(b, .inr (5, [.int a0, .ref q0])), (q0, .inl (D.2 .int, n, .inl (fun _ => 0)))]) base) base none) 1 (0 + n) (upB base) := by
  refine Met.ofW (cc := cX5_init) (maxL := 3) (ret := none) (by decide) rfl ?_
  intro p e s m args below meth c s₁ B hml hv
  obtain ⟨⟨rfl, hK, hY, hB0, hW⟩, hq0⟩ := hv
  have hW : FW D (X ++ [(b, .inr (5, [.int 0, .null]))]) s.heap := hW
  have hx := B.exec
  have hb := B.bytes
  have hr := B.returns
  have hts := atoms_spec (ws := (ws_ yX5_init cX5_init 3 none)) B.pre
  have hts : ∀ w ∈ lw_all, w.before _ s = true := fun w h => hts w (List.mem_cons_of_mem _ h)
  have hown : s.vm.findClass RX5 = some m.cls := findClass_of_methodNamed B.named
  have hlocks := B.notSynchronized
  have hin2 : meth.name = "<init>" := (name_of_methodNamed B.named B.method).1
  have hRf : 1 ≤ (headSpec (ws_ yX5_init cX5_init 3 none) ({ frames := 1, cells := 1, slots := 0 + n, locals := 32 })).room.frames := Nat.le_refl _
  have hRl : 32 ≤ (headSpec (ws_ yX5_init cX5_init 3 none) ({ frames := 1, cells := 1, slots := 0 + n, locals := 32 })).room.locals := Nat.le_refl _
  have hS : va_S (upB base) s.heap s.heap [] := va_S.rf
  have hl := lv_entry ([.ref b, .int a0, .int (nI n)]) (n := 3) (Nat.le_of_ble_eq_true rfl)
  rw [lg_entry_eq]
  generalize (lg_sl ([.ref b, .int a0, .int (nI n)]) ++ List.replicate (3 - (lg_sl ([.ref b, .int a0, .int (nI n)])).length) Slot.unset).toArray = ls at hl ⊢
  have hl : lv_has ls 3 [(0, .ref b), (1, .int a0), (2, .int (nI n))] := hl
  refine lv_aload_n hx hb dX5_init_0 rfl (lv_at hl 0 rfl) ?_
  refine W.objInit hx hb hown (hts _ q362) (hts _ q115) (hts _ q116) rfl (by rw [hml]; exact hl.1) rfl dX5_init_1 (Nat.le_trans (Nat.le_of_ble_eq_true rfl) hRf) (Nat.le_trans (Nat.le_of_ble_eq_true rfl) hRl) ?_
  refine W.eq (g2 := F0 m 4 ls []) rfl ?_
  refine lv_aload_n hx hb dX5_init_4 rfl (lv_at hl 0 rfl) ?_
  refine lv_iload_n hx hb dX5_init_5 rfl (lv_at hl 1 rfl) ?_
  refine f_putF (v := .int a0) (ci := 5) hx hb hts hown hK hin2 hA hW hS 0 rfl in_X5 tyX5 tyX5_ok nmX5 rfl 0 (by decide) q363 rfl rfl rfl ⟨rfl, rfl⟩ (Nat.le_of_ble_eq_true rfl) dX5_init_6 (fun H locs hW hA hS => ?_)
  have hW : FW D (X ++ [(b, .inr (5, [.int a0, .null]))]) H := hW
  have hA : FA (X ++ [(b, .inr (5, [.int a0, .null]))]) base := hA
  refine lv_aload_n hx hb dX5_init_9 rfl (lv_at hl 0 rfl) ?_
  refine lv_iload_n hx hb dX5_init_10 rfl (lv_at hl 2 rfl) ?_
  refine f_newa (N := n) hx hb hts hK hA hW hS (Nat.le_trans hB0 hS.1) (ty := .int) rfl q152 vT_int rfl (fun U cA z => z) (nI_pos (by omega)) (nI_clamp (by omega)) (show n * 4 ≤ 536870912 by omega) (Nat.le_of_ble_eq_true rfl) (by show _ ≤ 0 + n; omega) dX5_init_11 (fun q0 H _ hW hA hS => ?_)
  have hW : FW D (X ++ [(b, .inr (5, [.int a0, .null])), (q0, .inl (D.2 .int, n, .inl (fun _ => 0)))]) H := hW
  have hA : FA (X ++ [(b, .inr (5, [.int a0, .null])), (q0, .inl (D.2 .int, n, .inl (fun _ => 0)))]) base := hA
  refine f_putF (v := .ref q0) (ci := 5) hx hb hts hown hK hin2 hA hW hS 0 rfl in_X5 tyX5 tyX5_ok nmX5 rfl 1 (by decide) q365 rfl rfl rfl ⟨rfl, rfl⟩ (Nat.le_of_ble_eq_true rfl) dX5_init_13 (fun H locs hW hA hS => ?_)
  have hW : FW D (X ++ [(b, .inr (5, [.int a0, .ref q0])), (q0, .inl (D.2 .int, n, .inl (fun _ => 0)))]) H := hW
  have hA : FA (X ++ [(b, .inr (5, [.int a0, .ref q0])), (q0, .inl (D.2 .int, n, .inl (fun _ => 0)))]) base := hA
  exact W.vret hx hb hr (fun t ht _ => ⟨rfl, by rw [ht]; exact ⟨q0, hW, hA⟩, hS.F ht⟩) hS.2.2 dX5_init_16
set_option maxRecDepth 100000 in
set_option maxHeartbeats 4000000 in
theorem f_X6_X6_met (l : Launch) (D : dd_) (s0 : State) (h0 : ∀ w ∈ lw_tbl, va_Nw w s0) (X : va_W) (base : Nat) (r1 r2 : Option Nat) (de : Nat) (hz : FZ base s0 r1 r2 de) (b : Nat) (a0 : Nat) (a1 : Int32) (hA : FA (X ++ [(b, .inr (6, [.null, .int 0, .int 0, .int 0, .int 0, .int 0, .null]))]) base) : Met l yX6_init (ws_ yX6_init cX6_init 3 none) ({ frames := 5, cells := 10, slots := 71, locals := 112 }) (PcZ D s0 nS id (fun _ => 0) (fun _ _ => 0) nR nG (X ++ [(b, .inr (6, [.null, .int 0, .int 0, .int 0, .int 0, .int 0, .null]))]) base [.ref b, .ref a0, .int a1]) (QcE (fun H => ∃ q0 : Nat, ∃ q1 : Nat, ∃ q2 : Nat, ∃ q3 : Nat, ∃ q4 : Nat, ∃ q5 : Nat, ∃ q6 : Nat, ∃ q7 : Nat, ∃ q8 : Nat, ∃ q9 : Nat, FW D (X ++ [(b, .inr (6, [.ref a0, .int a1, .int 0, .int 0, .int 0, .int 0, .ref q0])), (q0, .inr (2, [.ref q1, .ref q2, .ref q3, .ref q4, .int 0, .ref q5, .ref q6, .ref q7, .ref q8, .ref q9, .int 0, .int 0])), (q1, .inl (D.2 .int, 6, .inl (fun _ => 0))), (q2, .inr (13, [.int 0, .ref de, .int 0])), (q3, .inl (D.2 .int, 5, .inl (fun _ => 0))), (q4, .inl (D.2 .int, 5, .inl (fun _ => 0))), (q5, .inl (D.2 .int, 8, .inl (fun _ => 0))), (q6, .inl (D.2 .int, 8, .inl (fun _ => 0))), (q7, .inl (D.2 .int, 8, .inl (fun _ => 0))), (q8, .inl (D.2 .int, 8, .inl (fun _ => 0))), (q9, .inl (D.2 .int, 8, .inl (fun _ => 0)))]) H ∧ FA (X ++ [(b, .inr (6, [.ref a0, .int a1, .int 0, .int 0, .int 0, .int 0, .ref q0])), (q0, .inr (2, [.ref q1, .ref q2, .ref q3, .ref q4, .int 0, .ref q5, .ref q6, .ref q7, .ref q8, .ref q9, .int 0, .int 0])), (q1, .inl (D.2 .int, 6, .inl (fun _ => 0))), (q2, .inr (13, [.int 0, .ref de, .int 0])), (q3, .inl (D.2 .int, 5, .inl (fun _ => 0))), (q4, .inl (D.2 .int, 5, .inl (fun _ => 0))), (q5, .inl (D.2 .int, 8, .inl (fun _ => 0))), (q6, .inl (D.2 .int, 8, .inl (fun _ => 0))), (q7, .inl (D.2 .int, 8, .inl (fun _ => 0))), (q8, .inl (D.2 .int, 8, .inl (fun _ => 0))), (q9, .inl (D.2 .int, 8, .inl (fun _ => 0)))]) base) base none) 10 (71) (upB base) := by
  refine Met.ofW (cc := cX6_init) (maxL := 3) (ret := none) (by decide) rfl ?_
  intro p e s m args below meth c s₁ B hml hv
  obtain ⟨⟨rfl, hK, hY, hB0, hW⟩, hq0⟩ := hv
  have hW : FW D (X ++ [(b, .inr (6, [.null, .int 0, .int 0, .int 0, .int 0, .int 0, .null]))]) s.heap := hW
  have hx := B.exec
  have hb := B.bytes
  have hr := B.returns
  have hts := atoms_spec (ws := (ws_ yX6_init cX6_init 3 none)) B.pre
  have hts : ∀ w ∈ lw_all, w.before _ s = true := fun w h => hts w (List.mem_cons_of_mem _ h)
  have hown : s.vm.findClass RX6 = some m.cls := findClass_of_methodNamed B.named
  have hlocks := B.notSynchronized
  have hin2 : meth.name = "<init>" := (name_of_methodNamed B.named B.method).1
  have hRf : 5 ≤ (headSpec (ws_ yX6_init cX6_init 3 none) ({ frames := 5, cells := 10, slots := 71, locals := 112 })).room.frames := Nat.le_refl _
  have hRl : 112 ≤ (headSpec (ws_ yX6_init cX6_init 3 none) ({ frames := 5, cells := 10, slots := 71, locals := 112 })).room.locals := Nat.le_refl _
  have hS : va_S (upB base) s.heap s.heap [] := va_S.rf
  have hl := lv_entry ([.ref b, .ref a0, .int a1]) (n := 3) (Nat.le_of_ble_eq_true rfl)
  rw [lg_entry_eq]
  generalize (lg_sl ([.ref b, .ref a0, .int a1]) ++ List.replicate (3 - (lg_sl ([.ref b, .ref a0, .int a1])).length) Slot.unset).toArray = ls at hl ⊢
  have hl : lv_has ls 3 [(0, .ref b), (1, .ref a0), (2, .int a1)] := hl
  refine lv_aload_n hx hb dX6_init_0 rfl (lv_at hl 0 rfl) ?_
  refine W.objInit hx hb hown (hts _ q454) (hts _ q115) (hts _ q116) rfl (by rw [hml]; exact hl.1) rfl dX6_init_1 (Nat.le_trans (Nat.le_of_ble_eq_true rfl) hRf) (Nat.le_trans (Nat.le_of_ble_eq_true rfl) hRl) ?_
  refine W.eq (g2 := F0 m 4 ls []) rfl ?_
  refine lv_aload_n hx hb dX6_init_4 rfl (lv_at hl 0 rfl) ?_
  refine f_new (ci := 2) (fs := [.null, .null, .null, .null, .int 0, .null, .null, .null, .null, .null, .int 0, .int 0]) (C := RX1) (T := TX1) (N := 12) hx hb hts hown hK hA hW hS (Nat.le_trans hB0 hS.1) in_X1 tyX1 tyX1_ok q455 q120 q77 rfl (fun j hj => by rcases (show j = 0 ∨ j = 1 ∨ j = 2 ∨ j = 3 ∨ j = 4 ∨ j = 5 ∨ j = 6 ∨ j = 7 ∨ j = 8 ∨ j = 9 ∨ j = 10 ∨ j = 11 by omega) with rfl | rfl | rfl | rfl | rfl | rfl | rfl | rfl | rfl | rfl | rfl | rfl <;> rfl) (Nat.le_of_ble_eq_true rfl) (Nat.le_of_ble_eq_true rfl) dX6_init_5 (fun q0 H _ hW hA hS => ?_)
  have hW : FW D (X ++ [(b, .inr (6, [.null, .int 0, .int 0, .int 0, .int 0, .int 0, .null])), (q0, .inr (2, [.null, .null, .null, .null, .int 0, .null, .null, .null, .null, .null, .int 0, .int 0]))]) H := hW
  have hA : FA (X ++ [(b, .inr (6, [.null, .int 0, .int 0, .int 0, .int 0, .int 0, .null])), (q0, .inr (2, [.null, .null, .null, .null, .int 0, .null, .null, .null, .null, .null, .int 0, .int 0]))]) base := hA
  refine lv_dup hx hb dX6_init_8 rfl ?_
  refine z_end (Post := fun H => ∃ q1 : Nat, ∃ q2 : Nat, ∃ q3 : Nat, ∃ q4 : Nat, ∃ q5 : Nat, ∃ q6 : Nat, ∃ q7 : Nat, ∃ q8 : Nat, ∃ q9 : Nat, FW D ((X ++ [(b, .inr (6, [.null, .int 0, .int 0, .int 0, .int 0, .int 0, .null]))]) ++ [(q0, .inr (2, [.ref q1, .ref q2, .ref q3, .ref q4, .int 0, .ref q5, .ref q6, .ref q7, .ref q8, .ref q9, .int 0, .int 0])), (q1, .inl (D.2 .int, 6, .inl (fun _ => 0))), (q2, .inr (13, [.int 0, .ref de, .int 0])), (q3, .inl (D.2 .int, 5, .inl (fun _ => 0))), (q4, .inl (D.2 .int, 5, .inl (fun _ => 0))), (q5, .inl (D.2 .int, 8, .inl (fun _ => 0))), (q6, .inl (D.2 .int, 8, .inl (fun _ => 0))), (q7, .inl (D.2 .int, 8, .inl (fun _ => 0))), (q8, .inl (D.2 .int, 8, .inl (fun _ => 0))), (q9, .inl (D.2 .int, 8, .inl (fun _ => 0)))]) H ∧ FA ((X ++ [(b, .inr (6, [.null, .int 0, .int 0, .int 0, .int 0, .int 0, .null]))]) ++ [(q0, .inr (2, [.ref q1, .ref q2, .ref q3, .ref q4, .int 0, .ref q5, .ref q6, .ref q7, .ref q8, .ref q9, .int 0, .int 0])), (q1, .inl (D.2 .int, 6, .inl (fun _ => 0))), (q2, .inr (13, [.int 0, .ref de, .int 0])), (q3, .inl (D.2 .int, 5, .inl (fun _ => 0))), (q4, .inl (D.2 .int, 5, .inl (fun _ => 0))), (q5, .inl (D.2 .int, 8, .inl (fun _ => 0))), (q6, .inl (D.2 .int, 8, .inl (fun _ => 0))), (q7, .inl (D.2 .int, 8, .inl (fun _ => 0))), (q8, .inl (D.2 .int, 8, .inl (fun _ => 0))), (q9, .inl (D.2 .int, 8, .inl (fun _ => 0)))]) base) (ov := none) (va_runIN (g := F0 m 9 ls _) (b := q0) (As := []) (rest := [.ref q0, .ref b]) ⟨hx, hb, hml, hown, hts⟩ (f_X1_X1_met l D s0 h0 (X ++ [(b, .inr (6, [.null, .int 0, .int 0, .int 0, .int 0, .int 0, .null]))]) base r1 r2 de hz q0 (by rw [List.append_assoc]; exact hA)) ⟨va_cnB 0 hts (lw_meth q123) rfl rfl rfl (va_Nw.warmM hY (h0 _ q456)) (hts _ q77) (by decide +kernel) ⟨Nat.le_trans (Nat.le_of_ble_eq_true rfl) hRf, Nat.le_trans (Nat.le_of_ble_eq_true rfl) hRl⟩, rfl, hts _ q122⟩ ⟨PcZ_blind, pcz_at (Sc := nS) (adc := id) (Ic := fun _ => 0) (Ac := fun _ _ => 0) (Rc := nR) (Gc := nG) hY hK (Nat.le_trans hB0 hS.1) (show FW D ((X ++ [(b, .inr (6, [.null, .int 0, .int 0, .int 0, .int 0, .int 0, .null]))]) ++ [(q0, .inr (2, [.null, .null, .null, .null, .int 0, .null, .null, .null, .null, .null, .int 0, .int 0]))]) _ by rw [List.append_assoc]; exact hW) (z_low hq0 hB0 hS)⟩ rfl rfl hl.1 rfl (lv_room (m := m) (pc := 9) (ls := ls) (rest := []) (Nat.le_of_ble_eq_true rfl)) dX6_init_9 ⟨(Nat.le_of_ble_eq_true rfl), (Nat.le_of_ble_eq_true rfl)⟩) hS (fun H locs hP _ hS => ?_)
  obtain ⟨q1, q2, q3, q4, q5, q6, q7, q8, q9, hW, hA⟩ := hP
  rw [List.append_assoc] at hW hA
  have hW : FW D (X ++ [(b, .inr (6, [.null, .int 0, .int 0, .int 0, .int 0, .int 0, .null])), (q0, .inr (2, [.ref q1, .ref q2, .ref q3, .ref q4, .int 0, .ref q5, .ref q6, .ref q7, .ref q8, .ref q9, .int 0, .int 0])), (q1, .inl (D.2 .int, 6, .inl (fun _ => 0))), (q2, .inr (13, [.int 0, .ref de, .int 0])), (q3, .inl (D.2 .int, 5, .inl (fun _ => 0))), (q4, .inl (D.2 .int, 5, .inl (fun _ => 0))), (q5, .inl (D.2 .int, 8, .inl (fun _ => 0))), (q6, .inl (D.2 .int, 8, .inl (fun _ => 0))), (q7, .inl (D.2 .int, 8, .inl (fun _ => 0))), (q8, .inl (D.2 .int, 8, .inl (fun _ => 0))), (q9, .inl (D.2 .int, 8, .inl (fun _ => 0)))]) H := hW
  have hA : FA (X ++ [(b, .inr (6, [.null, .int 0, .int 0, .int 0, .int 0, .int 0, .null])), (q0, .inr (2, [.ref q1, .ref q2, .ref q3, .ref q4, .int 0, .ref q5, .ref q6, .ref q7, .ref q8, .ref q9, .int 0, .int 0])), (q1, .inl (D.2 .int, 6, .inl (fun _ => 0))), (q2, .inr (13, [.int 0, .ref de, .int 0])), (q3, .inl (D.2 .int, 5, .inl (fun _ => 0))), (q4, .inl (D.2 .int, 5, .inl (fun _ => 0))), (q5, .inl (D.2 .int, 8, .inl (fun _ => 0))), (q6, .inl (D.2 .int, 8, .inl (fun _ => 0))), (q7, .inl (D.2 .int, 8, .inl (fun _ => 0))), (q8, .inl (D.2 .int, 8, .inl (fun _ => 0))), (q9, .inl (D.2 .int, 8, .inl (fun _ => 0)))]) base := hA
  refine f_putF (v := .ref q0) (ci := 6) hx hb hts hown hK hin2 hA hW hS 0 rfl in_X6 tyX6 tyX6_ok nmX6 rfl 6 (by decide) q463 rfl rfl rfl ⟨rfl, rfl⟩ (Nat.le_of_ble_eq_true rfl) dX6_init_12 (fun H locs hW hA hS => ?_)
  have hW : FW D (X ++ [(b, .inr (6, [.null, .int 0, .int 0, .int 0, .int 0, .int 0, .ref q0])), (q0, .inr (2, [.ref q1, .ref q2, .ref q3, .ref q4, .int 0, .ref q5, .ref q6, .ref q7, .ref q8, .ref q9, .int 0, .int 0])), (q1, .inl (D.2 .int, 6, .inl (fun _ => 0))), (q2, .inr (13, [.int 0, .ref de, .int 0])), (q3, .inl (D.2 .int, 5, .inl (fun _ => 0))), (q4, .inl (D.2 .int, 5, .inl (fun _ => 0))), (q5, .inl (D.2 .int, 8, .inl (fun _ => 0))), (q6, .inl (D.2 .int, 8, .inl (fun _ => 0))), (q7, .inl (D.2 .int, 8, .inl (fun _ => 0))), (q8, .inl (D.2 .int, 8, .inl (fun _ => 0))), (q9, .inl (D.2 .int, 8, .inl (fun _ => 0)))]) H := hW
  have hA : FA (X ++ [(b, .inr (6, [.null, .int 0, .int 0, .int 0, .int 0, .int 0, .ref q0])), (q0, .inr (2, [.ref q1, .ref q2, .ref q3, .ref q4, .int 0, .ref q5, .ref q6, .ref q7, .ref q8, .ref q9, .int 0, .int 0])), (q1, .inl (D.2 .int, 6, .inl (fun _ => 0))), (q2, .inr (13, [.int 0, .ref de, .int 0])), (q3, .inl (D.2 .int, 5, .inl (fun _ => 0))), (q4, .inl (D.2 .int, 5, .inl (fun _ => 0))), (q5, .inl (D.2 .int, 8, .inl (fun _ => 0))), (q6, .inl (D.2 .int, 8, .inl (fun _ => 0))), (q7, .inl (D.2 .int, 8, .inl (fun _ => 0))), (q8, .inl (D.2 .int, 8, .inl (fun _ => 0))), (q9, .inl (D.2 .int, 8, .inl (fun _ => 0)))]) base := hA
  refine lv_aload_n hx hb dX6_init_15 rfl (lv_at hl 0 rfl) ?_
  refine lv_aload_n hx hb dX6_init_16 rfl (lv_at hl 1 rfl) ?_
  refine f_putF (v := .ref a0) (ci := 6) hx hb hts hown hK hin2 hA hW hS 0 rfl in_X6 tyX6 tyX6_ok nmX6 rfl 0 (by decide) q457 rfl rfl rfl ⟨rfl, rfl⟩ (Nat.le_of_ble_eq_true rfl) dX6_init_17 (fun H locs hW hA hS => ?_)
  have hW : FW D (X ++ [(b, .inr (6, [.ref a0, .int 0, .int 0, .int 0, .int 0, .int 0, .ref q0])), (q0, .inr (2, [.ref q1, .ref q2, .ref q3, .ref q4, .int 0, .ref q5, .ref q6, .ref q7, .ref q8, .ref q9, .int 0, .int 0])), (q1, .inl (D.2 .int, 6, .inl (fun _ => 0))), (q2, .inr (13, [.int 0, .ref de, .int 0])), (q3, .inl (D.2 .int, 5, .inl (fun _ => 0))), (q4, .inl (D.2 .int, 5, .inl (fun _ => 0))), (q5, .inl (D.2 .int, 8, .inl (fun _ => 0))), (q6, .inl (D.2 .int, 8, .inl (fun _ => 0))), (q7, .inl (D.2 .int, 8, .inl (fun _ => 0))), (q8, .inl (D.2 .int, 8, .inl (fun _ => 0))), (q9, .inl (D.2 .int, 8, .inl (fun _ => 0)))]) H := hW
  have hA : FA (X ++ [(b, .inr (6, [.ref a0, .int 0, .int 0, .int 0, .int 0, .int 0, .ref q0])), (q0, .inr (2, [.ref q1, .ref q2, .ref q3, .ref q4, .int 0, .ref q5, .ref q6, .ref q7, .ref q8, .ref q9, .int 0, .int 0])), (q1, .inl (D.2 .int, 6, .inl (fun _ => 0))), (q2, .inr (13, [.int 0, .ref de, .int 0])), (q3, .inl (D.2 .int, 5, .inl (fun _ => 0))), (q4, .inl (D.2 .int, 5, .inl (fun _ => 0))), (q5, .inl (D.2 .int, 8, .inl (fun _ => 0))), (q6, .inl (D.2 .int, 8, .inl (fun _ => 0))), (q7, .inl (D.2 .int, 8, .inl (fun _ => 0))), (q8, .inl (D.2 .int, 8, .inl (fun _ => 0))), (q9, .inl (D.2 .int, 8, .inl (fun _ => 0)))]) base := hA
  refine lv_aload_n hx hb dX6_init_20 rfl (lv_at hl 0 rfl) ?_
  refine lv_iload_n hx hb dX6_init_21 rfl (lv_at hl 2 rfl) ?_
  refine f_putF (v := .int a1) (ci := 6) hx hb hts hown hK hin2 hA hW hS 0 rfl in_X6 tyX6 tyX6_ok nmX6 rfl 1 (by decide) q458 rfl rfl rfl ⟨rfl, rfl⟩ (Nat.le_of_ble_eq_true rfl) dX6_init_22 (fun H locs hW hA hS => ?_)
  have hW : FW D (X ++ [(b, .inr (6, [.ref a0, .int a1, .int 0, .int 0, .int 0, .int 0, .ref q0])), (q0, .inr (2, [.ref q1, .ref q2, .ref q3, .ref q4, .int 0, .ref q5, .ref q6, .ref q7, .ref q8, .ref q9, .int 0, .int 0])), (q1, .inl (D.2 .int, 6, .inl (fun _ => 0))), (q2, .inr (13, [.int 0, .ref de, .int 0])), (q3, .inl (D.2 .int, 5, .inl (fun _ => 0))), (q4, .inl (D.2 .int, 5, .inl (fun _ => 0))), (q5, .inl (D.2 .int, 8, .inl (fun _ => 0))), (q6, .inl (D.2 .int, 8, .inl (fun _ => 0))), (q7, .inl (D.2 .int, 8, .inl (fun _ => 0))), (q8, .inl (D.2 .int, 8, .inl (fun _ => 0))), (q9, .inl (D.2 .int, 8, .inl (fun _ => 0)))]) H := hW
  have hA : FA (X ++ [(b, .inr (6, [.ref a0, .int a1, .int 0, .int 0, .int 0, .int 0, .ref q0])), (q0, .inr (2, [.ref q1, .ref q2, .ref q3, .ref q4, .int 0, .ref q5, .ref q6, .ref q7, .ref q8, .ref q9, .int 0, .int 0])), (q1, .inl (D.2 .int, 6, .inl (fun _ => 0))), (q2, .inr (13, [.int 0, .ref de, .int 0])), (q3, .inl (D.2 .int, 5, .inl (fun _ => 0))), (q4, .inl (D.2 .int, 5, .inl (fun _ => 0))), (q5, .inl (D.2 .int, 8, .inl (fun _ => 0))), (q6, .inl (D.2 .int, 8, .inl (fun _ => 0))), (q7, .inl (D.2 .int, 8, .inl (fun _ => 0))), (q8, .inl (D.2 .int, 8, .inl (fun _ => 0))), (q9, .inl (D.2 .int, 8, .inl (fun _ => 0)))]) base := hA
  exact W.vret hx hb hr (fun t ht _ => ⟨rfl, by rw [ht]; exact ⟨q0, q1, q2, q3, q4, q5, q6, q7, q8, q9, hW, hA⟩, hS.F ht⟩) hS.2.2 dX6_init_25
