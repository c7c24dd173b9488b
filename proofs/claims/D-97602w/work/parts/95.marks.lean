/-! size and mark of each kind -/
def t9m_mark (I : Nat → Int32) (A : Nat → Nat → Int32) (R : Nat → Option Nat) (G : Nat → Nat → Option Nat) (pl n : Nat) (ks : Nat → Nat) (z : Int32) : Option (Int32 × (Nat → Int32) × (Nat → Nat → Int32)) :=
  ob2 (t_begins I A R G 20) fun (I1 : Nat → Int32) (A2 : Nat → Nat → Int32) =>
  some (z, I1, A2)
set_option maxRecDepth 100000 in
set_option maxHeartbeats 4000000 in
theorem t9m_mark_met (l : Launch) (D : dd_) (s0 : State) (h0 : ∀ w ∈ lw_tbl, va_Nw w s0) (ad : Nat → Nat) (X : va_W) (base : Nat) (hAP : AP tS ad X base) (I : Nat → Int32) (A : Nat → Nat → Int32) (R : Nat → Option Nat) (G : Nat → Nat → Option Nat) (pl n : Nat) (ks : Nat → Nat) (z : Int32) (hR : RegX D X pl n ks) (hDW : DW s0) (b : Nat) (hm : (b, Sum.inr (8, [.int z])) ∈ X) (r : Int32) (I1 : (Nat → Int32)) (A1 : (Nat → Nat → Int32)) (hf : t9m_mark I A R G pl n ks z  = some (r, I1, A1)) : MetN l yX14_mark (ws_ yX14_mark cX14_mark 3 (some .int)) ({ frames := 2, cells := 0, slots := 0, locals := 53 }) (PcX D s0 tS ad I A R G X base [.ref b, .ref (ad 199), .ref (ad 299)]) (QcX D tS ad I1 A1 R G X base (some (.int r))) 0 0 (upB base) := by
  refine MetN.ofW (cc := cX14_mark) (maxL := 3) (ret := (some .int)) (by decide) rfl ?_
  intro p e s m args below meth c B hml hv
  obtain ⟨rfl, hK, hY, hB0, hW⟩ := hv
  have hx := B.exec
  have hb := B.bytes
  have hr := B.returns
  have hts := atoms_spec (ws := (ws_ yX14_mark cX14_mark 3 (some .int))) B.pre
  have hts : ∀ w ∈ lw_all, w.before _ s = true := fun w h => hts w (List.mem_cons_of_mem _ h)
  have hown : s.vm.findClass RX14 = some m.cls := findClass_of_methodNamed B.named
  have hlocks := B.notSynchronized
  have hRf : 2 ≤ (headSpec (ws_ yX14_mark cX14_mark 3 (some .int)) ({ frames := 2, cells := 0, slots := 0, locals := 53 })).room.frames := Nat.le_refl _
  have hRl : 53 ≤ (headSpec (ws_ yX14_mark cX14_mark 3 (some .int)) ({ frames := 2, cells := 0, slots := 0, locals := 53 })).room.locals := Nat.le_refl _
  have hcs : 0 ≤ (headSpec (ws_ yX14_mark cX14_mark 3 (some .int)) ({ frames := 2, cells := 0, slots := 0, locals := 53 })).room.cells ∧ 0 ≤ (headSpec (ws_ yX14_mark cX14_mark 3 (some .int)) ({ frames := 2, cells := 0, slots := 0, locals := 53 })).room.slots := ⟨Nat.zero_le _, Nat.zero_le _⟩
  have hS : va_S (upB base) s.heap s.heap [] := va_S.rf
  have hl := lv_entry ([.ref b, .ref (ad 199), .ref (ad 299)]) (n := 3) (Nat.le_of_ble_eq_true rfl)
  rw [lg_entry_eq]
  generalize (lg_sl ([.ref b, .ref (ad 199), .ref (ad 299)]) ++ List.replicate (3 - (lg_sl ([.ref b, .ref (ad 199), .ref (ad 299)])).length) Slot.unset).toArray = ls at hl ⊢
  have hl : lv_has ls 3 [(0, .ref b), (1, .ref (ad 199)), (2, .ref (ad 299))] := hl
  have hf : (ob2 (t_begins I A R G 20) fun (I1 : Nat → Int32) (A2 : Nat → Nat → Int32) =>
    some (z, I1, A2)) = some (r, I1, A1) := hf
  refine lv_aload_n hx hb dX14_mark_0 rfl (lv_at hl 1 rfl) ?_
  refine lv_bipush (v := 20) hx hb dX14_mark_1 (by decide) ?_
  obtain ⟨I1, A2, h2, hf⟩ := ob2_e hf
  refine x_vW (ov := none) (D := D) (s0 := s0) (Sc := tS) (adc := ad) (Ic := I) (Ac := A) (Rc := R) (Gc := G) (Xc := X) (base := base) (As := [.int 20]) (rest := []) (Ic1 := I1) (Ac1 := A2) (Rc1 := R) (Gc1 := G) (Xc1 := X) (b := ad 199) (C := RX2) ⟨hx, hb, hml, hown, hts⟩ (t_begins_met l D s0 h0 ad X base hAP I A R G 20 I1 A2 h2) (g_cwV 1 hts (lw_V q1144 q1118 q1119 q81 q1120) rfl rfl t_begins_ds ⟨Nat.le_trans (Nat.le_of_ble_eq_true rfl) hRf, Nat.le_trans (Nat.le_of_ble_eq_true rfl) hRl⟩) (x_recv hK hW tO199 rfl) hK hY (Nat.le_trans hB0 hS.1) hW hS hcs rfl hl.1 rfl (Nat.le_of_ble_eq_true rfl) dX14_mark_3 (fun H locs hW hS => ?_)
  refine lv_aload_n hx hb dX14_mark_6 rfl (lv_at hl 0 rfl) ?_
  refine x_fR (x := ⟨"PromisePounds$Marked", "number", "()I"⟩) (ov := some (.int z)) (D := D) (s0 := s0) (Sc := nS) (adc := ad) (Ic := fun _ => 0) (Ac := fun _ _ => 0) (Rc := nR) (Gc := nG) (Xc := (wl D tS ad I1 A2 R G ++ X)) (base := base) (b := b) (As := []) (rest := []) (C := RX9) (cC := D.1.1 8) (x_cls hK rfl) ⟨hx, hb, hml, hown, hts⟩ (n9_number_met l D s0 h0 ad (wl D tS ad I1 A2 R G ++ X) base z b (List.mem_append_right _ hm) z rfl) (va_cwF 0 hts (lw_F q1146 q1157 q1099 q97 q1106) rfl rfl rfl (va_Fw.moved (by decide) hY.alike (va_Fw.of (A := #[]) (h0 _ q1148) (h0 _ q1147) (h0 _ q1152) (h0 _ q1158) (h0 _ q1156))) (by decide +kernel) ⟨Nat.le_trans (Nat.le_of_ble_eq_true rfl) hRf, Nat.le_trans (Nat.le_of_ble_eq_true rfl) hRl⟩) (x_recvD (ci := 8) hK hW hm rfl) hK hY (Nat.le_trans hB0 hS.1) hW hcs rfl hl.1 rfl (Nat.le_of_ble_eq_true rfl) dX14_mark_7 ?_
  obtain ⟨rfl, rfl, rfl⟩ := so3 hf
  exact W.iret hx hb hr (fun t ht _ => ⟨rfl, by rw [ht]; exact hW, hS.F ht⟩) hS.2.2 dX14_mark_12
theorem t9m_mark_ds : yX14_mark.cls = RX14 ∧ yX14_mark.cls ≠ "java/lang/invoke/MethodHandle" ∧ yX14_mark.cls ≠ "java/lang/invoke/VarHandle" ∧ (parseMethodDescriptor yX14_mark.desc).map (fun d => d.parameters.length) = some 2 := by decide +kernel
def t10m_mark (I : Nat → Int32) (A : Nat → Nat → Int32) (R : Nat → Option Nat) (G : Nat → Nat → Option Nat) (pl n : Nat) (ks : Nat → Nat) (z : Int32) : Option (Int32 × (Nat → Int32) × (Nat → Nat → Int32)) :=
  ob2 (t_begins I A R G 20) fun (I1 : Nat → Int32) (A2 : Nat → Nat → Int32) =>
  some (z, I1, A2)
set_option maxRecDepth 100000 in
set_option maxHeartbeats 4000000 in
theorem t10m_mark_met (l : Launch) (D : dd_) (s0 : State) (h0 : ∀ w ∈ lw_tbl, va_Nw w s0) (ad : Nat → Nat) (X : va_W) (base : Nat) (hAP : AP tS ad X base) (I : Nat → Int32) (A : Nat → Nat → Int32) (R : Nat → Option Nat) (G : Nat → Nat → Option Nat) (pl n : Nat) (ks : Nat → Nat) (z : Int32) (hR : RegX D X pl n ks) (hDW : DW s0) (b : Nat) (hm : (b, Sum.inr (9, [.int z])) ∈ X) (r : Int32) (I1 : (Nat → Int32)) (A1 : (Nat → Nat → Int32)) (hf : t10m_mark I A R G pl n ks z  = some (r, I1, A1)) : MetN l yX14_mark (ws_ yX14_mark cX14_mark 3 (some .int)) ({ frames := 2, cells := 0, slots := 0, locals := 53 }) (PcX D s0 tS ad I A R G X base [.ref b, .ref (ad 199), .ref (ad 299)]) (QcX D tS ad I1 A1 R G X base (some (.int r))) 0 0 (upB base) := by
  refine MetN.ofW (cc := cX14_mark) (maxL := 3) (ret := (some .int)) (by decide) rfl ?_
  intro p e s m args below meth c B hml hv
  obtain ⟨rfl, hK, hY, hB0, hW⟩ := hv
  have hx := B.exec
  have hb := B.bytes
  have hr := B.returns
  have hts := atoms_spec (ws := (ws_ yX14_mark cX14_mark 3 (some .int))) B.pre
  have hts : ∀ w ∈ lw_all, w.before _ s = true := fun w h => hts w (List.mem_cons_of_mem _ h)
  have hown : s.vm.findClass RX14 = some m.cls := findClass_of_methodNamed B.named
  have hlocks := B.notSynchronized
  have hRf : 2 ≤ (headSpec (ws_ yX14_mark cX14_mark 3 (some .int)) ({ frames := 2, cells := 0, slots := 0, locals := 53 })).room.frames := Nat.le_refl _
  have hRl : 53 ≤ (headSpec (ws_ yX14_mark cX14_mark 3 (some .int)) ({ frames := 2, cells := 0, slots := 0, locals := 53 })).room.locals := Nat.le_refl _
  have hcs : 0 ≤ (headSpec (ws_ yX14_mark cX14_mark 3 (some .int)) ({ frames := 2, cells := 0, slots := 0, locals := 53 })).room.cells ∧ 0 ≤ (headSpec (ws_ yX14_mark cX14_mark 3 (some .int)) ({ frames := 2, cells := 0, slots := 0, locals := 53 })).room.slots := ⟨Nat.zero_le _, Nat.zero_le _⟩
  have hS : va_S (upB base) s.heap s.heap [] := va_S.rf
  have hl := lv_entry ([.ref b, .ref (ad 199), .ref (ad 299)]) (n := 3) (Nat.le_of_ble_eq_true rfl)
  rw [lg_entry_eq]
  generalize (lg_sl ([.ref b, .ref (ad 199), .ref (ad 299)]) ++ List.replicate (3 - (lg_sl ([.ref b, .ref (ad 199), .ref (ad 299)])).length) Slot.unset).toArray = ls at hl ⊢
  have hl : lv_has ls 3 [(0, .ref b), (1, .ref (ad 199)), (2, .ref (ad 299))] := hl
  have hf : (ob2 (t_begins I A R G 20) fun (I1 : Nat → Int32) (A2 : Nat → Nat → Int32) =>
    some (z, I1, A2)) = some (r, I1, A1) := hf
  refine lv_aload_n hx hb dX14_mark_0 rfl (lv_at hl 1 rfl) ?_
  refine lv_bipush (v := 20) hx hb dX14_mark_1 (by decide) ?_
  obtain ⟨I1, A2, h2, hf⟩ := ob2_e hf
  refine x_vW (ov := none) (D := D) (s0 := s0) (Sc := tS) (adc := ad) (Ic := I) (Ac := A) (Rc := R) (Gc := G) (Xc := X) (base := base) (As := [.int 20]) (rest := []) (Ic1 := I1) (Ac1 := A2) (Rc1 := R) (Gc1 := G) (Xc1 := X) (b := ad 199) (C := RX2) ⟨hx, hb, hml, hown, hts⟩ (t_begins_met l D s0 h0 ad X base hAP I A R G 20 I1 A2 h2) (g_cwV 1 hts (lw_V q1144 q1118 q1119 q81 q1120) rfl rfl t_begins_ds ⟨Nat.le_trans (Nat.le_of_ble_eq_true rfl) hRf, Nat.le_trans (Nat.le_of_ble_eq_true rfl) hRl⟩) (x_recv hK hW tO199 rfl) hK hY (Nat.le_trans hB0 hS.1) hW hS hcs rfl hl.1 rfl (Nat.le_of_ble_eq_true rfl) dX14_mark_3 (fun H locs hW hS => ?_)
  refine lv_aload_n hx hb dX14_mark_6 rfl (lv_at hl 0 rfl) ?_
  refine x_fR (x := ⟨"PromisePounds$Marked", "number", "()I"⟩) (ov := some (.int z)) (D := D) (s0 := s0) (Sc := nS) (adc := ad) (Ic := fun _ => 0) (Ac := fun _ _ => 0) (Rc := nR) (Gc := nG) (Xc := (wl D tS ad I1 A2 R G ++ X)) (base := base) (b := b) (As := []) (rest := []) (C := RX10) (cC := D.1.1 9) (x_cls hK rfl) ⟨hx, hb, hml, hown, hts⟩ (n10_number_met l D s0 h0 ad (wl D tS ad I1 A2 R G ++ X) base z b (List.mem_append_right _ hm) z rfl) (va_cwF 0 hts (lw_F q1146 q1150 q1099 q97 q1106) rfl rfl rfl (va_Fw.moved (by decide) hY.alike (va_Fw.of (A := #[]) (h0 _ q1148) (h0 _ q1147) (h0 _ q1152) (h0 _ q1151) (h0 _ q1149))) (by decide +kernel) ⟨Nat.le_trans (Nat.le_of_ble_eq_true rfl) hRf, Nat.le_trans (Nat.le_of_ble_eq_true rfl) hRl⟩) (x_recvD (ci := 9) hK hW hm rfl) hK hY (Nat.le_trans hB0 hS.1) hW hcs rfl hl.1 rfl (Nat.le_of_ble_eq_true rfl) dX14_mark_7 ?_
  obtain ⟨rfl, rfl, rfl⟩ := so3 hf
  exact W.iret hx hb hr (fun t ht _ => ⟨rfl, by rw [ht]; exact hW, hS.F ht⟩) hS.2.2 dX14_mark_12
theorem t10m_mark_ds : yX14_mark.cls = RX14 ∧ yX14_mark.cls ≠ "java/lang/invoke/MethodHandle" ∧ yX14_mark.cls ≠ "java/lang/invoke/VarHandle" ∧ (parseMethodDescriptor yX14_mark.desc).map (fun d => d.parameters.length) = some 2 := by decide +kernel
def t11m_mark (I : Nat → Int32) (A : Nat → Nat → Int32) (R : Nat → Option Nat) (G : Nat → Nat → Option Nat) (pl n : Nat) (ks : Nat → Nat) (z : Int32) : Option (Int32 × (Nat → Int32) × (Nat → Nat → Int32)) :=
  ob2 (t_begins I A R G 20) fun (I1 : Nat → Int32) (A2 : Nat → Nat → Int32) =>
  some (z, I1, A2)
set_option maxRecDepth 100000 in
set_option maxHeartbeats 4000000 in
theorem t11m_mark_met (l : Launch) (D : dd_) (s0 : State) (h0 : ∀ w ∈ lw_tbl, va_Nw w s0) (ad : Nat → Nat) (X : va_W) (base : Nat) (hAP : AP tS ad X base) (I : Nat → Int32) (A : Nat → Nat → Int32) (R : Nat → Option Nat) (G : Nat → Nat → Option Nat) (pl n : Nat) (ks : Nat → Nat) (z : Int32) (hR : RegX D X pl n ks) (hDW : DW s0) (b : Nat) (hm : (b, Sum.inr (10, [.int z])) ∈ X) (r : Int32) (I1 : (Nat → Int32)) (A1 : (Nat → Nat → Int32)) (hf : t11m_mark I A R G pl n ks z  = some (r, I1, A1)) : MetN l yX14_mark (ws_ yX14_mark cX14_mark 3 (some .int)) ({ frames := 2, cells := 0, slots := 0, locals := 53 }) (PcX D s0 tS ad I A R G X base [.ref b, .ref (ad 199), .ref (ad 299)]) (QcX D tS ad I1 A1 R G X base (some (.int r))) 0 0 (upB base) := by
  refine MetN.ofW (cc := cX14_mark) (maxL := 3) (ret := (some .int)) (by decide) rfl ?_
  intro p e s m args below meth c B hml hv
  obtain ⟨rfl, hK, hY, hB0, hW⟩ := hv
  have hx := B.exec
  have hb := B.bytes
  have hr := B.returns
  have hts := atoms_spec (ws := (ws_ yX14_mark cX14_mark 3 (some .int))) B.pre
  have hts : ∀ w ∈ lw_all, w.before _ s = true := fun w h => hts w (List.mem_cons_of_mem _ h)
  have hown : s.vm.findClass RX14 = some m.cls := findClass_of_methodNamed B.named
  have hlocks := B.notSynchronized
  have hRf : 2 ≤ (headSpec (ws_ yX14_mark cX14_mark 3 (some .int)) ({ frames := 2, cells := 0, slots := 0, locals := 53 })).room.frames := Nat.le_refl _
  have hRl : 53 ≤ (headSpec (ws_ yX14_mark cX14_mark 3 (some .int)) ({ frames := 2, cells := 0, slots := 0, locals := 53 })).room.locals := Nat.le_refl _
  have hcs : 0 ≤ (headSpec (ws_ yX14_mark cX14_mark 3 (some .int)) ({ frames := 2, cells := 0, slots := 0, locals := 53 })).room.cells ∧ 0 ≤ (headSpec (ws_ yX14_mark cX14_mark 3 (some .int)) ({ frames := 2, cells := 0, slots := 0, locals := 53 })).room.slots := ⟨Nat.zero_le _, Nat.zero_le _⟩
  have hS : va_S (upB base) s.heap s.heap [] := va_S.rf
  have hl := lv_entry ([.ref b, .ref (ad 199), .ref (ad 299)]) (n := 3) (Nat.le_of_ble_eq_true rfl)
  rw [lg_entry_eq]
  generalize (lg_sl ([.ref b, .ref (ad 199), .ref (ad 299)]) ++ List.replicate (3 - (lg_sl ([.ref b, .ref (ad 199), .ref (ad 299)])).length) Slot.unset).toArray = ls at hl ⊢
  have hl : lv_has ls 3 [(0, .ref b), (1, .ref (ad 199)), (2, .ref (ad 299))] := hl
  have hf : (ob2 (t_begins I A R G 20) fun (I1 : Nat → Int32) (A2 : Nat → Nat → Int32) =>
    some (z, I1, A2)) = some (r, I1, A1) := hf
  refine lv_aload_n hx hb dX14_mark_0 rfl (lv_at hl 1 rfl) ?_
  refine lv_bipush (v := 20) hx hb dX14_mark_1 (by decide) ?_
  obtain ⟨I1, A2, h2, hf⟩ := ob2_e hf
  refine x_vW (ov := none) (D := D) (s0 := s0) (Sc := tS) (adc := ad) (Ic := I) (Ac := A) (Rc := R) (Gc := G) (Xc := X) (base := base) (As := [.int 20]) (rest := []) (Ic1 := I1) (Ac1 := A2) (Rc1 := R) (Gc1 := G) (Xc1 := X) (b := ad 199) (C := RX2) ⟨hx, hb, hml, hown, hts⟩ (t_begins_met l D s0 h0 ad X base hAP I A R G 20 I1 A2 h2) (g_cwV 1 hts (lw_V q1144 q1118 q1119 q81 q1120) rfl rfl t_begins_ds ⟨Nat.le_trans (Nat.le_of_ble_eq_true rfl) hRf, Nat.le_trans (Nat.le_of_ble_eq_true rfl) hRl⟩) (x_recv hK hW tO199 rfl) hK hY (Nat.le_trans hB0 hS.1) hW hS hcs rfl hl.1 rfl (Nat.le_of_ble_eq_true rfl) dX14_mark_3 (fun H locs hW hS => ?_)
  refine lv_aload_n hx hb dX14_mark_6 rfl (lv_at hl 0 rfl) ?_
  refine x_fR (x := ⟨"PromisePounds$Marked", "number", "()I"⟩) (ov := some (.int z)) (D := D) (s0 := s0) (Sc := nS) (adc := ad) (Ic := fun _ => 0) (Ac := fun _ _ => 0) (Rc := nR) (Gc := nG) (Xc := (wl D tS ad I1 A2 R G ++ X)) (base := base) (b := b) (As := []) (rest := []) (C := RX11) (cC := D.1.1 10) (x_cls hK rfl) ⟨hx, hb, hml, hown, hts⟩ (n11_number_met l D s0 h0 ad (wl D tS ad I1 A2 R G ++ X) base z b (List.mem_append_right _ hm) z rfl) (va_cwF 0 hts (lw_F q1146 q1163 q1099 q97 q1106) rfl rfl rfl (va_Fw.moved (by decide) hY.alike (va_Fw.of (A := #[]) (h0 _ q1148) (h0 _ q1147) (h0 _ q1152) (h0 _ q1164) (h0 _ q1162))) (by decide +kernel) ⟨Nat.le_trans (Nat.le_of_ble_eq_true rfl) hRf, Nat.le_trans (Nat.le_of_ble_eq_true rfl) hRl⟩) (x_recvD (ci := 10) hK hW hm rfl) hK hY (Nat.le_trans hB0 hS.1) hW hcs rfl hl.1 rfl (Nat.le_of_ble_eq_true rfl) dX14_mark_7 ?_
  obtain ⟨rfl, rfl, rfl⟩ := so3 hf
  exact W.iret hx hb hr (fun t ht _ => ⟨rfl, by rw [ht]; exact hW, hS.F ht⟩) hS.2.2 dX14_mark_12
theorem t11m_mark_ds : yX14_mark.cls = RX14 ∧ yX14_mark.cls ≠ "java/lang/invoke/MethodHandle" ∧ yX14_mark.cls ≠ "java/lang/invoke/VarHandle" ∧ (parseMethodDescriptor yX14_mark.desc).map (fun d => d.parameters.length) = some 2 := by decide +kernel
def t12m_mark (I : Nat → Int32) (A : Nat → Nat → Int32) (R : Nat → Option Nat) (G : Nat → Nat → Option Nat) (pl n : Nat) (ks : Nat → Nat) (z : Int32) : Option (Int32 × (Nat → Int32) × (Nat → Nat → Int32)) :=
  ob2 (t_begins I A R G 20) fun (I1 : Nat → Int32) (A2 : Nat → Nat → Int32) =>
  some (z, I1, A2)
set_option maxRecDepth 100000 in
set_option maxHeartbeats 4000000 in
theorem t12m_mark_met (l : Launch) (D : dd_) (s0 : State) (h0 : ∀ w ∈ lw_tbl, va_Nw w s0) (ad : Nat → Nat) (X : va_W) (base : Nat) (hAP : AP tS ad X base) (I : Nat → Int32) (A : Nat → Nat → Int32) (R : Nat → Option Nat) (G : Nat → Nat → Option Nat) (pl n : Nat) (ks : Nat → Nat) (z : Int32) (hR : RegX D X pl n ks) (hDW : DW s0) (b : Nat) (hm : (b, Sum.inr (11, [.int z])) ∈ X) (r : Int32) (I1 : (Nat → Int32)) (A1 : (Nat → Nat → Int32)) (hf : t12m_mark I A R G pl n ks z  = some (r, I1, A1)) : MetN l yX14_mark (ws_ yX14_mark cX14_mark 3 (some .int)) ({ frames := 2, cells := 0, slots := 0, locals := 53 }) (PcX D s0 tS ad I A R G X base [.ref b, .ref (ad 199), .ref (ad 299)]) (QcX D tS ad I1 A1 R G X base (some (.int r))) 0 0 (upB base) := by
  refine MetN.ofW (cc := cX14_mark) (maxL := 3) (ret := (some .int)) (by decide) rfl ?_
  intro p e s m args below meth c B hml hv
  obtain ⟨rfl, hK, hY, hB0, hW⟩ := hv
  have hx := B.exec
  have hb := B.bytes
  have hr := B.returns
  have hts := atoms_spec (ws := (ws_ yX14_mark cX14_mark 3 (some .int))) B.pre
  have hts : ∀ w ∈ lw_all, w.before _ s = true := fun w h => hts w (List.mem_cons_of_mem _ h)
  have hown : s.vm.findClass RX14 = some m.cls := findClass_of_methodNamed B.named
  have hlocks := B.notSynchronized
  have hRf : 2 ≤ (headSpec (ws_ yX14_mark cX14_mark 3 (some .int)) ({ frames := 2, cells := 0, slots := 0, locals := 53 })).room.frames := Nat.le_refl _
  have hRl : 53 ≤ (headSpec (ws_ yX14_mark cX14_mark 3 (some .int)) ({ frames := 2, cells := 0, slots := 0, locals := 53 })).room.locals := Nat.le_refl _
  have hcs : 0 ≤ (headSpec (ws_ yX14_mark cX14_mark 3 (some .int)) ({ frames := 2, cells := 0, slots := 0, locals := 53 })).room.cells ∧ 0 ≤ (headSpec (ws_ yX14_mark cX14_mark 3 (some .int)) ({ frames := 2, cells := 0, slots := 0, locals := 53 })).room.slots := ⟨Nat.zero_le _, Nat.zero_le _⟩
  have hS : va_S (upB base) s.heap s.heap [] := va_S.rf
  have hl := lv_entry ([.ref b, .ref (ad 199), .ref (ad 299)]) (n := 3) (Nat.le_of_ble_eq_true rfl)
  rw [lg_entry_eq]
  generalize (lg_sl ([.ref b, .ref (ad 199), .ref (ad 299)]) ++ List.replicate (3 - (lg_sl ([.ref b, .ref (ad 199), .ref (ad 299)])).length) Slot.unset).toArray = ls at hl ⊢
  have hl : lv_has ls 3 [(0, .ref b), (1, .ref (ad 199)), (2, .ref (ad 299))] := hl
  have hf : (ob2 (t_begins I A R G 20) fun (I1 : Nat → Int32) (A2 : Nat → Nat → Int32) =>
    some (z, I1, A2)) = some (r, I1, A1) := hf
  refine lv_aload_n hx hb dX14_mark_0 rfl (lv_at hl 1 rfl) ?_
  refine lv_bipush (v := 20) hx hb dX14_mark_1 (by decide) ?_
  obtain ⟨I1, A2, h2, hf⟩ := ob2_e hf
  refine x_vW (ov := none) (D := D) (s0 := s0) (Sc := tS) (adc := ad) (Ic := I) (Ac := A) (Rc := R) (Gc := G) (Xc := X) (base := base) (As := [.int 20]) (rest := []) (Ic1 := I1) (Ac1 := A2) (Rc1 := R) (Gc1 := G) (Xc1 := X) (b := ad 199) (C := RX2) ⟨hx, hb, hml, hown, hts⟩ (t_begins_met l D s0 h0 ad X base hAP I A R G 20 I1 A2 h2) (g_cwV 1 hts (lw_V q1144 q1118 q1119 q81 q1120) rfl rfl t_begins_ds ⟨Nat.le_trans (Nat.le_of_ble_eq_true rfl) hRf, Nat.le_trans (Nat.le_of_ble_eq_true rfl) hRl⟩) (x_recv hK hW tO199 rfl) hK hY (Nat.le_trans hB0 hS.1) hW hS hcs rfl hl.1 rfl (Nat.le_of_ble_eq_true rfl) dX14_mark_3 (fun H locs hW hS => ?_)
  refine lv_aload_n hx hb dX14_mark_6 rfl (lv_at hl 0 rfl) ?_
  refine x_fR (x := ⟨"PromisePounds$Marked", "number", "()I"⟩) (ov := some (.int z)) (D := D) (s0 := s0) (Sc := nS) (adc := ad) (Ic := fun _ => 0) (Ac := fun _ _ => 0) (Rc := nR) (Gc := nG) (Xc := (wl D tS ad I1 A2 R G ++ X)) (base := base) (b := b) (As := []) (rest := []) (C := RX12) (cC := D.1.1 11) (x_cls hK rfl) ⟨hx, hb, hml, hown, hts⟩ (n12_number_met l D s0 h0 ad (wl D tS ad I1 A2 R G ++ X) base z b (List.mem_append_right _ hm) z rfl) (va_cwF 0 hts (lw_F q1146 q1154 q1099 q97 q1106) rfl rfl rfl (va_Fw.moved (by decide) hY.alike (va_Fw.of (A := #[]) (h0 _ q1148) (h0 _ q1147) (h0 _ q1152) (h0 _ q1155) (h0 _ q1153))) (by decide +kernel) ⟨Nat.le_trans (Nat.le_of_ble_eq_true rfl) hRf, Nat.le_trans (Nat.le_of_ble_eq_true rfl) hRl⟩) (x_recvD (ci := 11) hK hW hm rfl) hK hY (Nat.le_trans hB0 hS.1) hW hcs rfl hl.1 rfl (Nat.le_of_ble_eq_true rfl) dX14_mark_7 ?_
  obtain ⟨rfl, rfl, rfl⟩ := so3 hf
  exact W.iret hx hb hr (fun t ht _ => ⟨rfl, by rw [ht]; exact hW, hS.F ht⟩) hS.2.2 dX14_mark_12
theorem t12m_mark_ds : yX14_mark.cls = RX14 ∧ yX14_mark.cls ≠ "java/lang/invoke/MethodHandle" ∧ yX14_mark.cls ≠ "java/lang/invoke/VarHandle" ∧ (parseMethodDescriptor yX14_mark.desc).map (fun d => d.parameters.length) = some 2 := by decide +kernel
def t13m_mark (I : Nat → Int32) (A : Nat → Nat → Int32) (R : Nat → Option Nat) (G : Nat → Nat → Option Nat) (pl n : Nat) (ks : Nat → Nat) (z : Int32) : Option (Int32 × (Nat → Int32) × (Nat → Nat → Int32)) :=
  ob2 (t_begins I A R G 20) fun (I1 : Nat → Int32) (A2 : Nat → Nat → Int32) =>
  some (z, I1, A2)
set_option maxRecDepth 100000 in
set_option maxHeartbeats 4000000 in
theorem t13m_mark_met (l : Launch) (D : dd_) (s0 : State) (h0 : ∀ w ∈ lw_tbl, va_Nw w s0) (ad : Nat → Nat) (X : va_W) (base : Nat) (hAP : AP tS ad X base) (I : Nat → Int32) (A : Nat → Nat → Int32) (R : Nat → Option Nat) (G : Nat → Nat → Option Nat) (pl n : Nat) (ks : Nat → Nat) (z : Int32) (hR : RegX D X pl n ks) (hDW : DW s0) (b : Nat) (hm : (b, Sum.inr (12, [.int z])) ∈ X) (r : Int32) (I1 : (Nat → Int32)) (A1 : (Nat → Nat → Int32)) (hf : t13m_mark I A R G pl n ks z  = some (r, I1, A1)) : MetN l yX14_mark (ws_ yX14_mark cX14_mark 3 (some .int)) ({ frames := 2, cells := 0, slots := 0, locals := 53 }) (PcX D s0 tS ad I A R G X base [.ref b, .ref (ad 199), .ref (ad 299)]) (QcX D tS ad I1 A1 R G X base (some (.int r))) 0 0 (upB base) := by
  refine MetN.ofW (cc := cX14_mark) (maxL := 3) (ret := (some .int)) (by decide) rfl ?_
  intro p e s m args below meth c B hml hv
  obtain ⟨rfl, hK, hY, hB0, hW⟩ := hv
  have hx := B.exec
  have hb := B.bytes
  have hr := B.returns
  have hts := atoms_spec (ws := (ws_ yX14_mark cX14_mark 3 (some .int))) B.pre
  have hts : ∀ w ∈ lw_all, w.before _ s = true := fun w h => hts w (List.mem_cons_of_mem _ h)
  have hown : s.vm.findClass RX14 = some m.cls := findClass_of_methodNamed B.named
  have hlocks := B.notSynchronized
  have hRf : 2 ≤ (headSpec (ws_ yX14_mark cX14_mark 3 (some .int)) ({ frames := 2, cells := 0, slots := 0, locals := 53 })).room.frames := Nat.le_refl _
  have hRl : 53 ≤ (headSpec (ws_ yX14_mark cX14_mark 3 (some .int)) ({ frames := 2, cells := 0, slots := 0, locals := 53 })).room.locals := Nat.le_refl _
  have hcs : 0 ≤ (headSpec (ws_ yX14_mark cX14_mark 3 (some .int)) ({ frames := 2, cells := 0, slots := 0, locals := 53 })).room.cells ∧ 0 ≤ (headSpec (ws_ yX14_mark cX14_mark 3 (some .int)) ({ frames := 2, cells := 0, slots := 0, locals := 53 })).room.slots := ⟨Nat.zero_le _, Nat.zero_le _⟩
  have hS : va_S (upB base) s.heap s.heap [] := va_S.rf
  have hl := lv_entry ([.ref b, .ref (ad 199), .ref (ad 299)]) (n := 3) (Nat.le_of_ble_eq_true rfl)
  rw [lg_entry_eq]
  generalize (lg_sl ([.ref b, .ref (ad 199), .ref (ad 299)]) ++ List.replicate (3 - (lg_sl ([.ref b, .ref (ad 199), .ref (ad 299)])).length) Slot.unset).toArray = ls at hl ⊢
  have hl : lv_has ls 3 [(0, .ref b), (1, .ref (ad 199)), (2, .ref (ad 299))] := hl
  have hf : (ob2 (t_begins I A R G 20) fun (I1 : Nat → Int32) (A2 : Nat → Nat → Int32) =>
    some (z, I1, A2)) = some (r, I1, A1) := hf
  refine lv_aload_n hx hb dX14_mark_0 rfl (lv_at hl 1 rfl) ?_
  refine lv_bipush (v := 20) hx hb dX14_mark_1 (by decide) ?_
  obtain ⟨I1, A2, h2, hf⟩ := ob2_e hf
  refine x_vW (ov := none) (D := D) (s0 := s0) (Sc := tS) (adc := ad) (Ic := I) (Ac := A) (Rc := R) (Gc := G) (Xc := X) (base := base) (As := [.int 20]) (rest := []) (Ic1 := I1) (Ac1 := A2) (Rc1 := R) (Gc1 := G) (Xc1 := X) (b := ad 199) (C := RX2) ⟨hx, hb, hml, hown, hts⟩ (t_begins_met l D s0 h0 ad X base hAP I A R G 20 I1 A2 h2) (g_cwV 1 hts (lw_V q1144 q1118 q1119 q81 q1120) rfl rfl t_begins_ds ⟨Nat.le_trans (Nat.le_of_ble_eq_true rfl) hRf, Nat.le_trans (Nat.le_of_ble_eq_true rfl) hRl⟩) (x_recv hK hW tO199 rfl) hK hY (Nat.le_trans hB0 hS.1) hW hS hcs rfl hl.1 rfl (Nat.le_of_ble_eq_true rfl) dX14_mark_3 (fun H locs hW hS => ?_)
  refine lv_aload_n hx hb dX14_mark_6 rfl (lv_at hl 0 rfl) ?_
  refine x_fR (x := ⟨"PromisePounds$Marked", "number", "()I"⟩) (ov := some (.int z)) (D := D) (s0 := s0) (Sc := nS) (adc := ad) (Ic := fun _ => 0) (Ac := fun _ _ => 0) (Rc := nR) (Gc := nG) (Xc := (wl D tS ad I1 A2 R G ++ X)) (base := base) (b := b) (As := []) (rest := []) (C := RX13) (cC := D.1.1 12) (x_cls hK rfl) ⟨hx, hb, hml, hown, hts⟩ (n13_number_met l D s0 h0 ad (wl D tS ad I1 A2 R G ++ X) base z b (List.mem_append_right _ hm) z rfl) (va_cwF 0 hts (lw_F q1146 q1160 q1099 q97 q1106) rfl rfl rfl (va_Fw.moved (by decide) hY.alike (va_Fw.of (A := #[]) (h0 _ q1148) (h0 _ q1147) (h0 _ q1152) (h0 _ q1161) (h0 _ q1159))) (by decide +kernel) ⟨Nat.le_trans (Nat.le_of_ble_eq_true rfl) hRf, Nat.le_trans (Nat.le_of_ble_eq_true rfl) hRl⟩) (x_recvD (ci := 12) hK hW hm rfl) hK hY (Nat.le_trans hB0 hS.1) hW hcs rfl hl.1 rfl (Nat.le_of_ble_eq_true rfl) dX14_mark_7 ?_
  obtain ⟨rfl, rfl, rfl⟩ := so3 hf
  exact W.iret hx hb hr (fun t ht _ => ⟨rfl, by rw [ht]; exact hW, hS.F ht⟩) hS.2.2 dX14_mark_12
theorem t13m_mark_ds : yX14_mark.cls = RX14 ∧ yX14_mark.cls ≠ "java/lang/invoke/MethodHandle" ∧ yX14_mark.cls ≠ "java/lang/invoke/VarHandle" ∧ (parseMethodDescriptor yX14_mark.desc).map (fun d => d.parameters.length) = some 2 := by decide +kernel
def t9g_mark (I : Nat → Int32) (A : Nat → Nat → Int32) (R : Nat → Option Nat) (G : Nat → Nat → Option Nat) (pl n : Nat) (ks : Nat → Nat) (z : Int32) : Option (Int32 × (Nat → Int32) × (Nat → Nat → Int32)) :=
  ob2 (t_begins I A R G 21) fun (I1 : Nat → Int32) (A2 : Nat → Nat → Int32) =>
  ob3 (t9m_mark I1 A2 R G pl n ks z) fun (v3 : Int32) (I4 : Nat → Int32) (A5 : Nat → Nat → Int32) =>
  ob1 (ldO (A5 202) 5 z) fun (v6 : Int32) =>
  some (v3 + v6, I4, A5)
set_option maxRecDepth 100000 in
set_option maxHeartbeats 4000000 in
theorem t9g_mark_met (l : Launch) (D : dd_) (s0 : State) (h0 : ∀ w ∈ lw_tbl, va_Nw w s0) (ad : Nat → Nat) (X : va_W) (base : Nat) (hAP : AP tS ad X base) (I : Nat → Int32) (A : Nat → Nat → Int32) (R : Nat → Option Nat) (G : Nat → Nat → Option Nat) (pl n : Nat) (ks : Nat → Nat) (z : Int32) (hR : RegX D X pl n ks) (hDW : DW s0) (b : Nat) (hm : (b, Sum.inr (8, [.int z])) ∈ X) (r : Int32) (I1 : (Nat → Int32)) (A1 : (Nat → Nat → Int32)) (hf : t9g_mark I A R G pl n ks z  = some (r, I1, A1)) : Met l yX9_mark (ws_ yX9_mark cX9_mark 3 (some .int)) ({ frames := 3, cells := 0, slots := 0, locals := 75 }) (PcX D s0 tS ad I A R G X base [.ref b, .ref (ad 199), .ref (ad 299)]) (QcX D tS ad I1 A1 R G X base (some (.int r))) 0 0 (upB base) := by
  refine Met.ofW (cc := cX9_mark) (maxL := 3) (ret := (some .int)) (by decide) rfl ?_
  intro p e s m args below meth c s₁ B hml hv
  obtain ⟨rfl, hK, hY, hB0, hW⟩ := hv
  have hx := B.exec
  have hb := B.bytes
  have hr := B.returns
  have hts := atoms_spec (ws := (ws_ yX9_mark cX9_mark 3 (some .int))) B.pre
  have hts : ∀ w ∈ lw_all, w.before _ s = true := fun w h => hts w (List.mem_cons_of_mem _ h)
  have hown : s.vm.findClass RX9 = some m.cls := findClass_of_methodNamed B.named
  have hlocks := B.notSynchronized
  have hRf : 3 ≤ (headSpec (ws_ yX9_mark cX9_mark 3 (some .int)) ({ frames := 3, cells := 0, slots := 0, locals := 75 })).room.frames := Nat.le_refl _
  have hRl : 75 ≤ (headSpec (ws_ yX9_mark cX9_mark 3 (some .int)) ({ frames := 3, cells := 0, slots := 0, locals := 75 })).room.locals := Nat.le_refl _
  have hcs : 0 ≤ (headSpec (ws_ yX9_mark cX9_mark 3 (some .int)) ({ frames := 3, cells := 0, slots := 0, locals := 75 })).room.cells ∧ 0 ≤ (headSpec (ws_ yX9_mark cX9_mark 3 (some .int)) ({ frames := 3, cells := 0, slots := 0, locals := 75 })).room.slots := ⟨Nat.zero_le _, Nat.zero_le _⟩
  have hS : va_S (upB base) s.heap s.heap [] := va_S.rf
  have hl := lv_entry ([.ref b, .ref (ad 199), .ref (ad 299)]) (n := 3) (Nat.le_of_ble_eq_true rfl)
  rw [lg_entry_eq]
  generalize (lg_sl ([.ref b, .ref (ad 199), .ref (ad 299)]) ++ List.replicate (3 - (lg_sl ([.ref b, .ref (ad 199), .ref (ad 299)])).length) Slot.unset).toArray = ls at hl ⊢
  have hl : lv_has ls 3 [(0, .ref b), (1, .ref (ad 199)), (2, .ref (ad 299))] := hl
  have hf : (ob2 (t_begins I A R G 21) fun (I1 : Nat → Int32) (A2 : Nat → Nat → Int32) =>
    ob3 (t9m_mark I1 A2 R G pl n ks z) fun (v3 : Int32) (I4 : Nat → Int32) (A5 : Nat → Nat → Int32) =>
    ob1 (ldO (A5 202) 5 z) fun (v6 : Int32) =>
    some (v3 + v6, I4, A5)) = some (r, I1, A1) := hf
  refine lv_aload_n hx hb dX9_mark_0 rfl (lv_at hl 1 rfl) ?_
  refine lv_bipush (v := 21) hx hb dX9_mark_1 (by decide) ?_
  obtain ⟨I1, A2, h2, hf⟩ := ob2_e hf
  refine x_vW (ov := none) (D := D) (s0 := s0) (Sc := tS) (adc := ad) (Ic := I) (Ac := A) (Rc := R) (Gc := G) (Xc := X) (base := base) (As := [.int 21]) (rest := []) (Ic1 := I1) (Ac1 := A2) (Rc1 := R) (Gc1 := G) (Xc1 := X) (b := ad 199) (C := RX2) ⟨hx, hb, hml, hown, hts⟩ (t_begins_met l D s0 h0 ad X base hAP I A R G 21 I1 A2 h2) (g_cwV 1 hts (lw_V q1124 q1118 q1119 q81 q1120) rfl rfl t_begins_ds ⟨Nat.le_trans (Nat.le_of_ble_eq_true rfl) hRf, Nat.le_trans (Nat.le_of_ble_eq_true rfl) hRl⟩) (x_recv hK hW tO199 rfl) hK hY (Nat.le_trans hB0 hS.1) hW hS hcs rfl hl.1 rfl (Nat.le_of_ble_eq_true rfl) dX9_mark_3 (fun H locs hW hS => ?_)
  refine lv_aload_n hx hb dX9_mark_6 rfl (lv_at hl 0 rfl) ?_
  refine lv_aload_n hx hb dX9_mark_7 rfl (lv_at hl 1 rfl) ?_
  refine lv_aload_n hx hb dX9_mark_8 rfl (lv_at hl 2 rfl) ?_
  obtain ⟨v3, I4, A5, h5, hf⟩ := ob3_e hf
  refine x_sdW (owner := "PromisePounds$Marked") (x := mkP) (ov := some (.int v3)) (D := D) (s0 := s0) (Sc := tS) (adc := ad) (Ic := I1) (Ac := A2) (Rc := R) (Gc := G) (Xc := X) (base := base) (As := [.ref (ad 199), .ref (ad 299)]) (rest := []) (Ic1 := I4) (Ac1 := A5) (Rc1 := R) (Gc1 := G) (Xc1 := X) (b := b) (C := RX9) (x_cls hK (ci := 8) rfl) ⟨hx, hb, hml, hown, hts⟩ (t9m_mark_met l D s0 h0 ad X base hAP I1 A2 R G pl n ks z hR hDW b hm v3 I4 A5 h5) (va_cwD (owner := "PromisePounds$Marked") (x := mkP) 2 hts (lw_meth q1143) rfl rfl rfl (hDW.at hY).1 (hDW.at hY).2.2.2.1 (hDW.at hY).2.2.2.2 q634 q1142 (by decide +kernel) ⟨Nat.le_trans (Nat.le_of_ble_eq_true rfl) hRf, Nat.le_trans (Nat.le_of_ble_eq_true rfl) hRl⟩) (x_recvD (ci := 8) hK hW hm rfl) hK hY (Nat.le_trans hB0 hS.1) hW hS hcs rfl hl.1 rfl (Nat.le_of_ble_eq_true rfl) dX9_mark_9 (fun H locs hW hS => ?_)
  refine lv_aload_n hx hb dX9_mark_12 rfl (lv_at hl 2 rfl) ?_
  refine x_get (v := .ref (ad 202)) hx hb hts hown hK hW tO299 in_X1 rfl 2 (by decide) q160 rfl rfl dX9_mark_13 ?_
  refine lv_aload_n hx hb dX9_mark_16 rfl (lv_at hl 0 rfl) ?_
  refine x_uR (ov := some (.int z)) (D := D) (s0 := s0) (Sc := nS) (adc := ad) (Ic := fun _ => 0) (Ac := fun _ _ => 0) (Rc := nR) (Gc := nG) (Xc := (wl D tS ad I4 A5 R G ++ X)) (base := base) (b := b) (As := []) (rest := [.ref (ad 202), .int v3]) (C := RX9) ⟨hx, hb, hml, hown, hts⟩ (n9_number_met l D s0 h0 ad (wl D tS ad I4 A5 R G ++ X) base z b (List.mem_append_right _ hm) z rfl) (va_cwU (owner := RX8) 0 hts (lw_U q1165 q1166 q1169 q1099 q97 q1106) rfl rfl rfl rfl (by decide +kernel) ⟨Nat.le_trans (Nat.le_of_ble_eq_true rfl) hRf, Nat.le_trans (Nat.le_of_ble_eq_true rfl) hRl⟩) (x_recvD (ci := 8) hK hW hm rfl) hK hY (Nat.le_trans hB0 hS.1) hW hcs rfl hl.1 rfl (Nat.le_of_ble_eq_true rfl) dX9_mark_17 ?_
  obtain ⟨v6, hv6, hf⟩ := ob1_e hf
  refine x_iald hx hb hK hW tA202 hv6 dX9_mark_20 ?_
  refine lv_iadd hx hb dX9_mark_21 ?_
  obtain ⟨rfl, rfl, rfl⟩ := so3 hf
  exact W.iret hx hb hr (fun t ht _ => ⟨rfl, by rw [ht]; exact hW, hS.F ht⟩) hS.2.2 dX9_mark_22
theorem t9g_mark_ds : yX9_mark.cls = RX9 ∧ yX9_mark.cls ≠ "java/lang/invoke/MethodHandle" ∧ yX9_mark.cls ≠ "java/lang/invoke/VarHandle" ∧ (parseMethodDescriptor yX9_mark.desc).map (fun d => d.parameters.length) = some 2 := by decide +kernel
def t10g_mark (I : Nat → Int32) (A : Nat → Nat → Int32) (R : Nat → Option Nat) (G : Nat → Nat → Option Nat) (pl n : Nat) (ks : Nat → Nat) (z : Int32) : Option (Int32 × (Nat → Int32) × (Nat → Nat → Int32)) :=
  ob2 (t_begins I A R G 21) fun (I1 : Nat → Int32) (A2 : Nat → Nat → Int32) =>
  ob3 (t10m_mark I1 A2 R G pl n ks z) fun (v3 : Int32) (I4 : Nat → Int32) (A5 : Nat → Nat → Int32) =>
  ob1 (ldO (A5 202) 5 z) fun (v6 : Int32) =>
  some (v3 + v6, I4, A5)
set_option maxRecDepth 100000 in
set_option maxHeartbeats 4000000 in
theorem t10g_mark_met (l : Launch) (D : dd_) (s0 : State) (h0 : ∀ w ∈ lw_tbl, va_Nw w s0) (ad : Nat → Nat) (X : va_W) (base : Nat) (hAP : AP tS ad X base) (I : Nat → Int32) (A : Nat → Nat → Int32) (R : Nat → Option Nat) (G : Nat → Nat → Option Nat) (pl n : Nat) (ks : Nat → Nat) (z : Int32) (hR : RegX D X pl n ks) (hDW : DW s0) (b : Nat) (hm : (b, Sum.inr (9, [.int z])) ∈ X) (r : Int32) (I1 : (Nat → Int32)) (A1 : (Nat → Nat → Int32)) (hf : t10g_mark I A R G pl n ks z  = some (r, I1, A1)) : Met l yX9_mark (ws_ yX9_mark cX9_mark 3 (some .int)) ({ frames := 3, cells := 0, slots := 0, locals := 75 }) (PcX D s0 tS ad I A R G X base [.ref b, .ref (ad 199), .ref (ad 299)]) (QcX D tS ad I1 A1 R G X base (some (.int r))) 0 0 (upB base) := by
  refine Met.ofW (cc := cX9_mark) (maxL := 3) (ret := (some .int)) (by decide) rfl ?_
  intro p e s m args below meth c s₁ B hml hv
  obtain ⟨rfl, hK, hY, hB0, hW⟩ := hv
  have hx := B.exec
  have hb := B.bytes
  have hr := B.returns
  have hts := atoms_spec (ws := (ws_ yX9_mark cX9_mark 3 (some .int))) B.pre
  have hts : ∀ w ∈ lw_all, w.before _ s = true := fun w h => hts w (List.mem_cons_of_mem _ h)
  have hown : s.vm.findClass RX9 = some m.cls := findClass_of_methodNamed B.named
  have hlocks := B.notSynchronized
  have hRf : 3 ≤ (headSpec (ws_ yX9_mark cX9_mark 3 (some .int)) ({ frames := 3, cells := 0, slots := 0, locals := 75 })).room.frames := Nat.le_refl _
  have hRl : 75 ≤ (headSpec (ws_ yX9_mark cX9_mark 3 (some .int)) ({ frames := 3, cells := 0, slots := 0, locals := 75 })).room.locals := Nat.le_refl _
  have hcs : 0 ≤ (headSpec (ws_ yX9_mark cX9_mark 3 (some .int)) ({ frames := 3, cells := 0, slots := 0, locals := 75 })).room.cells ∧ 0 ≤ (headSpec (ws_ yX9_mark cX9_mark 3 (some .int)) ({ frames := 3, cells := 0, slots := 0, locals := 75 })).room.slots := ⟨Nat.zero_le _, Nat.zero_le _⟩
  have hS : va_S (upB base) s.heap s.heap [] := va_S.rf
  have hl := lv_entry ([.ref b, .ref (ad 199), .ref (ad 299)]) (n := 3) (Nat.le_of_ble_eq_true rfl)
  rw [lg_entry_eq]
  generalize (lg_sl ([.ref b, .ref (ad 199), .ref (ad 299)]) ++ List.replicate (3 - (lg_sl ([.ref b, .ref (ad 199), .ref (ad 299)])).length) Slot.unset).toArray = ls at hl ⊢
  have hl : lv_has ls 3 [(0, .ref b), (1, .ref (ad 199)), (2, .ref (ad 299))] := hl
  have hf : (ob2 (t_begins I A R G 21) fun (I1 : Nat → Int32) (A2 : Nat → Nat → Int32) =>
    ob3 (t10m_mark I1 A2 R G pl n ks z) fun (v3 : Int32) (I4 : Nat → Int32) (A5 : Nat → Nat → Int32) =>
    ob1 (ldO (A5 202) 5 z) fun (v6 : Int32) =>
    some (v3 + v6, I4, A5)) = some (r, I1, A1) := hf
  refine lv_aload_n hx hb dX9_mark_0 rfl (lv_at hl 1 rfl) ?_
  refine lv_bipush (v := 21) hx hb dX9_mark_1 (by decide) ?_
  obtain ⟨I1, A2, h2, hf⟩ := ob2_e hf
  refine x_vW (ov := none) (D := D) (s0 := s0) (Sc := tS) (adc := ad) (Ic := I) (Ac := A) (Rc := R) (Gc := G) (Xc := X) (base := base) (As := [.int 21]) (rest := []) (Ic1 := I1) (Ac1 := A2) (Rc1 := R) (Gc1 := G) (Xc1 := X) (b := ad 199) (C := RX2) ⟨hx, hb, hml, hown, hts⟩ (t_begins_met l D s0 h0 ad X base hAP I A R G 21 I1 A2 h2) (g_cwV 1 hts (lw_V q1124 q1118 q1119 q81 q1120) rfl rfl t_begins_ds ⟨Nat.le_trans (Nat.le_of_ble_eq_true rfl) hRf, Nat.le_trans (Nat.le_of_ble_eq_true rfl) hRl⟩) (x_recv hK hW tO199 rfl) hK hY (Nat.le_trans hB0 hS.1) hW hS hcs rfl hl.1 rfl (Nat.le_of_ble_eq_true rfl) dX9_mark_3 (fun H locs hW hS => ?_)
  refine lv_aload_n hx hb dX9_mark_6 rfl (lv_at hl 0 rfl) ?_
  refine lv_aload_n hx hb dX9_mark_7 rfl (lv_at hl 1 rfl) ?_
  refine lv_aload_n hx hb dX9_mark_8 rfl (lv_at hl 2 rfl) ?_
  obtain ⟨v3, I4, A5, h5, hf⟩ := ob3_e hf
  refine x_sdW (owner := "PromisePounds$Marked") (x := mkP) (ov := some (.int v3)) (D := D) (s0 := s0) (Sc := tS) (adc := ad) (Ic := I1) (Ac := A2) (Rc := R) (Gc := G) (Xc := X) (base := base) (As := [.ref (ad 199), .ref (ad 299)]) (rest := []) (Ic1 := I4) (Ac1 := A5) (Rc1 := R) (Gc1 := G) (Xc1 := X) (b := b) (C := RX10) (x_cls hK (ci := 9) rfl) ⟨hx, hb, hml, hown, hts⟩ (t10m_mark_met l D s0 h0 ad X base hAP I1 A2 R G pl n ks z hR hDW b hm v3 I4 A5 h5) (va_cwD (owner := "PromisePounds$Marked") (x := mkP) 2 hts (lw_meth q1143) rfl rfl rfl (hDW.at hY).1 (hDW.at hY).2.2.2.1 (hDW.at hY).2.2.2.2 q634 q1142 (by decide +kernel) ⟨Nat.le_trans (Nat.le_of_ble_eq_true rfl) hRf, Nat.le_trans (Nat.le_of_ble_eq_true rfl) hRl⟩) (x_recvD (ci := 9) hK hW hm rfl) hK hY (Nat.le_trans hB0 hS.1) hW hS hcs rfl hl.1 rfl (Nat.le_of_ble_eq_true rfl) dX9_mark_9 (fun H locs hW hS => ?_)
  refine lv_aload_n hx hb dX9_mark_12 rfl (lv_at hl 2 rfl) ?_
  refine x_get (v := .ref (ad 202)) hx hb hts hown hK hW tO299 in_X1 rfl 2 (by decide) q160 rfl rfl dX9_mark_13 ?_
  refine lv_aload_n hx hb dX9_mark_16 rfl (lv_at hl 0 rfl) ?_
  refine x_uR (ov := some (.int z)) (D := D) (s0 := s0) (Sc := nS) (adc := ad) (Ic := fun _ => 0) (Ac := fun _ _ => 0) (Rc := nR) (Gc := nG) (Xc := (wl D tS ad I4 A5 R G ++ X)) (base := base) (b := b) (As := []) (rest := [.ref (ad 202), .int v3]) (C := RX10) ⟨hx, hb, hml, hown, hts⟩ (n10_number_met l D s0 h0 ad (wl D tS ad I4 A5 R G ++ X) base z b (List.mem_append_right _ hm) z rfl) (va_cwU (owner := RX8) 0 hts (lw_U q1165 q1166 q1168 q1099 q97 q1106) rfl rfl rfl rfl (by decide +kernel) ⟨Nat.le_trans (Nat.le_of_ble_eq_true rfl) hRf, Nat.le_trans (Nat.le_of_ble_eq_true rfl) hRl⟩) (x_recvD (ci := 9) hK hW hm rfl) hK hY (Nat.le_trans hB0 hS.1) hW hcs rfl hl.1 rfl (Nat.le_of_ble_eq_true rfl) dX9_mark_17 ?_
  obtain ⟨v6, hv6, hf⟩ := ob1_e hf
  refine x_iald hx hb hK hW tA202 hv6 dX9_mark_20 ?_
  refine lv_iadd hx hb dX9_mark_21 ?_
  obtain ⟨rfl, rfl, rfl⟩ := so3 hf
  exact W.iret hx hb hr (fun t ht _ => ⟨rfl, by rw [ht]; exact hW, hS.F ht⟩) hS.2.2 dX9_mark_22
theorem t10g_mark_ds : yX9_mark.cls = RX9 ∧ yX9_mark.cls ≠ "java/lang/invoke/MethodHandle" ∧ yX9_mark.cls ≠ "java/lang/invoke/VarHandle" ∧ (parseMethodDescriptor yX9_mark.desc).map (fun d => d.parameters.length) = some 2 := by decide +kernel
def t11g_mark (I : Nat → Int32) (A : Nat → Nat → Int32) (R : Nat → Option Nat) (G : Nat → Nat → Option Nat) (pl n : Nat) (ks : Nat → Nat) (z : Int32) : Option (Int32 × (Nat → Int32) × (Nat → Nat → Int32)) :=
  ob2 (t_begins I A R G 21) fun (I1 : Nat → Int32) (A2 : Nat → Nat → Int32) =>
  ob3 (t11m_mark I1 A2 R G pl n ks z) fun (v3 : Int32) (I4 : Nat → Int32) (A5 : Nat → Nat → Int32) =>
  ob1 (ldO (A5 202) 5 z) fun (v6 : Int32) =>
  some (v3 + v6, I4, A5)
set_option maxRecDepth 100000 in
set_option maxHeartbeats 4000000 in
theorem t11g_mark_met (l : Launch) (D : dd_) (s0 : State) (h0 : ∀ w ∈ lw_tbl, va_Nw w s0) (ad : Nat → Nat) (X : va_W) (base : Nat) (hAP : AP tS ad X base) (I : Nat → Int32) (A : Nat → Nat → Int32) (R : Nat → Option Nat) (G : Nat → Nat → Option Nat) (pl n : Nat) (ks : Nat → Nat) (z : Int32) (hR : RegX D X pl n ks) (hDW : DW s0) (b : Nat) (hm : (b, Sum.inr (10, [.int z])) ∈ X) (r : Int32) (I1 : (Nat → Int32)) (A1 : (Nat → Nat → Int32)) (hf : t11g_mark I A R G pl n ks z  = some (r, I1, A1)) : Met l yX9_mark (ws_ yX9_mark cX9_mark 3 (some .int)) ({ frames := 3, cells := 0, slots := 0, locals := 75 }) (PcX D s0 tS ad I A R G X base [.ref b, .ref (ad 199), .ref (ad 299)]) (QcX D tS ad I1 A1 R G X base (some (.int r))) 0 0 (upB base) := by
  refine Met.ofW (cc := cX9_mark) (maxL := 3) (ret := (some .int)) (by decide) rfl ?_
  intro p e s m args below meth c s₁ B hml hv
  obtain ⟨rfl, hK, hY, hB0, hW⟩ := hv
  have hx := B.exec
  have hb := B.bytes
  have hr := B.returns
  have hts := atoms_spec (ws := (ws_ yX9_mark cX9_mark 3 (some .int))) B.pre
  have hts : ∀ w ∈ lw_all, w.before _ s = true := fun w h => hts w (List.mem_cons_of_mem _ h)
  have hown : s.vm.findClass RX9 = some m.cls := findClass_of_methodNamed B.named
  have hlocks := B.notSynchronized
  have hRf : 3 ≤ (headSpec (ws_ yX9_mark cX9_mark 3 (some .int)) ({ frames := 3, cells := 0, slots := 0, locals := 75 })).room.frames := Nat.le_refl _
  have hRl : 75 ≤ (headSpec (ws_ yX9_mark cX9_mark 3 (some .int)) ({ frames := 3, cells := 0, slots := 0, locals := 75 })).room.locals := Nat.le_refl _
  have hcs : 0 ≤ (headSpec (ws_ yX9_mark cX9_mark 3 (some .int)) ({ frames := 3, cells := 0, slots := 0, locals := 75 })).room.cells ∧ 0 ≤ (headSpec (ws_ yX9_mark cX9_mark 3 (some .int)) ({ frames := 3, cells := 0, slots := 0, locals := 75 })).room.slots := ⟨Nat.zero_le _, Nat.zero_le _⟩
  have hS : va_S (upB base) s.heap s.heap [] := va_S.rf
  have hl := lv_entry ([.ref b, .ref (ad 199), .ref (ad 299)]) (n := 3) (Nat.le_of_ble_eq_true rfl)
  rw [lg_entry_eq]
  generalize (lg_sl ([.ref b, .ref (ad 199), .ref (ad 299)]) ++ List.replicate (3 - (lg_sl ([.ref b, .ref (ad 199), .ref (ad 299)])).length) Slot.unset).toArray = ls at hl ⊢
  have hl : lv_has ls 3 [(0, .ref b), (1, .ref (ad 199)), (2, .ref (ad 299))] := hl
  have hf : (ob2 (t_begins I A R G 21) fun (I1 : Nat → Int32) (A2 : Nat → Nat → Int32) =>
    ob3 (t11m_mark I1 A2 R G pl n ks z) fun (v3 : Int32) (I4 : Nat → Int32) (A5 : Nat → Nat → Int32) =>
    ob1 (ldO (A5 202) 5 z) fun (v6 : Int32) =>
    some (v3 + v6, I4, A5)) = some (r, I1, A1) := hf
  refine lv_aload_n hx hb dX9_mark_0 rfl (lv_at hl 1 rfl) ?_
  refine lv_bipush (v := 21) hx hb dX9_mark_1 (by decide) ?_
  obtain ⟨I1, A2, h2, hf⟩ := ob2_e hf
  refine x_vW (ov := none) (D := D) (s0 := s0) (Sc := tS) (adc := ad) (Ic := I) (Ac := A) (Rc := R) (Gc := G) (Xc := X) (base := base) (As := [.int 21]) (rest := []) (Ic1 := I1) (Ac1 := A2) (Rc1 := R) (Gc1 := G) (Xc1 := X) (b := ad 199) (C := RX2) ⟨hx, hb, hml, hown, hts⟩ (t_begins_met l D s0 h0 ad X base hAP I A R G 21 I1 A2 h2) (g_cwV 1 hts (lw_V q1124 q1118 q1119 q81 q1120) rfl rfl t_begins_ds ⟨Nat.le_trans (Nat.le_of_ble_eq_true rfl) hRf, Nat.le_trans (Nat.le_of_ble_eq_true rfl) hRl⟩) (x_recv hK hW tO199 rfl) hK hY (Nat.le_trans hB0 hS.1) hW hS hcs rfl hl.1 rfl (Nat.le_of_ble_eq_true rfl) dX9_mark_3 (fun H locs hW hS => ?_)
  refine lv_aload_n hx hb dX9_mark_6 rfl (lv_at hl 0 rfl) ?_
  refine lv_aload_n hx hb dX9_mark_7 rfl (lv_at hl 1 rfl) ?_
  refine lv_aload_n hx hb dX9_mark_8 rfl (lv_at hl 2 rfl) ?_
  obtain ⟨v3, I4, A5, h5, hf⟩ := ob3_e hf
  refine x_sdW (owner := "PromisePounds$Marked") (x := mkP) (ov := some (.int v3)) (D := D) (s0 := s0) (Sc := tS) (adc := ad) (Ic := I1) (Ac := A2) (Rc := R) (Gc := G) (Xc := X) (base := base) (As := [.ref (ad 199), .ref (ad 299)]) (rest := []) (Ic1 := I4) (Ac1 := A5) (Rc1 := R) (Gc1 := G) (Xc1 := X) (b := b) (C := RX11) (x_cls hK (ci := 10) rfl) ⟨hx, hb, hml, hown, hts⟩ (t11m_mark_met l D s0 h0 ad X base hAP I1 A2 R G pl n ks z hR hDW b hm v3 I4 A5 h5) (va_cwD (owner := "PromisePounds$Marked") (x := mkP) 2 hts (lw_meth q1143) rfl rfl rfl (hDW.at hY).1 (hDW.at hY).2.2.2.1 (hDW.at hY).2.2.2.2 q634 q1142 (by decide +kernel) ⟨Nat.le_trans (Nat.le_of_ble_eq_true rfl) hRf, Nat.le_trans (Nat.le_of_ble_eq_true rfl) hRl⟩) (x_recvD (ci := 10) hK hW hm rfl) hK hY (Nat.le_trans hB0 hS.1) hW hS hcs rfl hl.1 rfl (Nat.le_of_ble_eq_true rfl) dX9_mark_9 (fun H locs hW hS => ?_)
  refine lv_aload_n hx hb dX9_mark_12 rfl (lv_at hl 2 rfl) ?_
  refine x_get (v := .ref (ad 202)) hx hb hts hown hK hW tO299 in_X1 rfl 2 (by decide) q160 rfl rfl dX9_mark_13 ?_
  refine lv_aload_n hx hb dX9_mark_16 rfl (lv_at hl 0 rfl) ?_
  refine x_uR (ov := some (.int z)) (D := D) (s0 := s0) (Sc := nS) (adc := ad) (Ic := fun _ => 0) (Ac := fun _ _ => 0) (Rc := nR) (Gc := nG) (Xc := (wl D tS ad I4 A5 R G ++ X)) (base := base) (b := b) (As := []) (rest := [.ref (ad 202), .int v3]) (C := RX11) ⟨hx, hb, hml, hown, hts⟩ (n11_number_met l D s0 h0 ad (wl D tS ad I4 A5 R G ++ X) base z b (List.mem_append_right _ hm) z rfl) (va_cwU (owner := RX8) 0 hts (lw_U q1165 q1166 q1170 q1099 q97 q1106) rfl rfl rfl rfl (by decide +kernel) ⟨Nat.le_trans (Nat.le_of_ble_eq_true rfl) hRf, Nat.le_trans (Nat.le_of_ble_eq_true rfl) hRl⟩) (x_recvD (ci := 10) hK hW hm rfl) hK hY (Nat.le_trans hB0 hS.1) hW hcs rfl hl.1 rfl (Nat.le_of_ble_eq_true rfl) dX9_mark_17 ?_
  obtain ⟨v6, hv6, hf⟩ := ob1_e hf
  refine x_iald hx hb hK hW tA202 hv6 dX9_mark_20 ?_
  refine lv_iadd hx hb dX9_mark_21 ?_
  obtain ⟨rfl, rfl, rfl⟩ := so3 hf
  exact W.iret hx hb hr (fun t ht _ => ⟨rfl, by rw [ht]; exact hW, hS.F ht⟩) hS.2.2 dX9_mark_22
theorem t11g_mark_ds : yX9_mark.cls = RX9 ∧ yX9_mark.cls ≠ "java/lang/invoke/MethodHandle" ∧ yX9_mark.cls ≠ "java/lang/invoke/VarHandle" ∧ (parseMethodDescriptor yX9_mark.desc).map (fun d => d.parameters.length) = some 2 := by decide +kernel
def t10c_mark (I : Nat → Int32) (A : Nat → Nat → Int32) (R : Nat → Option Nat) (G : Nat → Nat → Option Nat) (pl n : Nat) (ks : Nat → Nat) (z : Int32) : Option (Int32 × (Nat → Int32) × (Nat → Nat → Int32)) :=
  ob2 (t_begins I A R G 24) fun (I1 : Nat → Int32) (A2 : Nat → Nat → Int32) =>
  ob3 (t10g_mark I1 A2 R G pl n ks z) fun (v3 : Int32) (I4 : Nat → Int32) (A5 : Nat → Nat → Int32) =>
  some (2 * v3, I4, A5)
set_option maxRecDepth 100000 in
set_option maxHeartbeats 4000000 in
theorem t10c_mark_met (l : Launch) (D : dd_) (s0 : State) (h0 : ∀ w ∈ lw_tbl, va_Nw w s0) (ad : Nat → Nat) (X : va_W) (base : Nat) (hAP : AP tS ad X base) (I : Nat → Int32) (A : Nat → Nat → Int32) (R : Nat → Option Nat) (G : Nat → Nat → Option Nat) (pl n : Nat) (ks : Nat → Nat) (z : Int32) (hR : RegX D X pl n ks) (hDW : DW s0) (b : Nat) (hm : (b, Sum.inr (9, [.int z])) ∈ X) (r : Int32) (I1 : (Nat → Int32)) (A1 : (Nat → Nat → Int32)) (hf : t10c_mark I A R G pl n ks z  = some (r, I1, A1)) : Met l yX10_mark (ws_ yX10_mark cX10_mark 3 (some .int)) ({ frames := 4, cells := 0, slots := 0, locals := 97 }) (PcX D s0 tS ad I A R G X base [.ref b, .ref (ad 199), .ref (ad 299)]) (QcX D tS ad I1 A1 R G X base (some (.int r))) 0 0 (upB base) := by
  refine Met.ofW (cc := cX10_mark) (maxL := 3) (ret := (some .int)) (by decide) rfl ?_
  intro p e s m args below meth c s₁ B hml hv
  obtain ⟨rfl, hK, hY, hB0, hW⟩ := hv
  have hx := B.exec
  have hb := B.bytes
  have hr := B.returns
  have hts := atoms_spec (ws := (ws_ yX10_mark cX10_mark 3 (some .int))) B.pre
  have hts : ∀ w ∈ lw_all, w.before _ s = true := fun w h => hts w (List.mem_cons_of_mem _ h)
  have hown : s.vm.findClass RX10 = some m.cls := findClass_of_methodNamed B.named
  have hlocks := B.notSynchronized
  have hRf : 4 ≤ (headSpec (ws_ yX10_mark cX10_mark 3 (some .int)) ({ frames := 4, cells := 0, slots := 0, locals := 97 })).room.frames := Nat.le_refl _
  have hRl : 97 ≤ (headSpec (ws_ yX10_mark cX10_mark 3 (some .int)) ({ frames := 4, cells := 0, slots := 0, locals := 97 })).room.locals := Nat.le_refl _
  have hcs : 0 ≤ (headSpec (ws_ yX10_mark cX10_mark 3 (some .int)) ({ frames := 4, cells := 0, slots := 0, locals := 97 })).room.cells ∧ 0 ≤ (headSpec (ws_ yX10_mark cX10_mark 3 (some .int)) ({ frames := 4, cells := 0, slots := 0, locals := 97 })).room.slots := ⟨Nat.zero_le _, Nat.zero_le _⟩
  have hS : va_S (upB base) s.heap s.heap [] := va_S.rf
  have hl := lv_entry ([.ref b, .ref (ad 199), .ref (ad 299)]) (n := 3) (Nat.le_of_ble_eq_true rfl)
  rw [lg_entry_eq]
  generalize (lg_sl ([.ref b, .ref (ad 199), .ref (ad 299)]) ++ List.replicate (3 - (lg_sl ([.ref b, .ref (ad 199), .ref (ad 299)])).length) Slot.unset).toArray = ls at hl ⊢
  have hl : lv_has ls 3 [(0, .ref b), (1, .ref (ad 199)), (2, .ref (ad 299))] := hl
  have hf : (ob2 (t_begins I A R G 24) fun (I1 : Nat → Int32) (A2 : Nat → Nat → Int32) =>
    ob3 (t10g_mark I1 A2 R G pl n ks z) fun (v3 : Int32) (I4 : Nat → Int32) (A5 : Nat → Nat → Int32) =>
    some (2 * v3, I4, A5)) = some (r, I1, A1) := hf
  refine lv_aload_n hx hb dX10_mark_0 rfl (lv_at hl 1 rfl) ?_
  refine lv_bipush (v := 24) hx hb dX10_mark_1 (by decide) ?_
  obtain ⟨I1, A2, h2, hf⟩ := ob2_e hf
  refine x_vW (ov := none) (D := D) (s0 := s0) (Sc := tS) (adc := ad) (Ic := I) (Ac := A) (Rc := R) (Gc := G) (Xc := X) (base := base) (As := [.int 24]) (rest := []) (Ic1 := I1) (Ac1 := A2) (Rc1 := R) (Gc1 := G) (Xc1 := X) (b := ad 199) (C := RX2) ⟨hx, hb, hml, hown, hts⟩ (t_begins_met l D s0 h0 ad X base hAP I A R G 24 I1 A2 h2) (g_cwV 1 hts (lw_V q1117 q1118 q1119 q81 q1120) rfl rfl t_begins_ds ⟨Nat.le_trans (Nat.le_of_ble_eq_true rfl) hRf, Nat.le_trans (Nat.le_of_ble_eq_true rfl) hRl⟩) (x_recv hK hW tO199 rfl) hK hY (Nat.le_trans hB0 hS.1) hW hS hcs rfl hl.1 rfl (Nat.le_of_ble_eq_true rfl) dX10_mark_3 (fun H locs hW hS => ?_)
  refine lv_iconst (v := 2) hx hb dX10_mark_6 (by decide) ?_
  refine lv_aload_n hx hb dX10_mark_7 rfl (lv_at hl 0 rfl) ?_
  refine lv_aload_n hx hb dX10_mark_8 rfl (lv_at hl 1 rfl) ?_
  refine lv_aload_n hx hb dX10_mark_9 rfl (lv_at hl 2 rfl) ?_
  obtain ⟨v3, I4, A5, h5, hf⟩ := ob3_e hf
  refine x_suW (ov := some (.int v3)) (D := D) (s0 := s0) (Sc := tS) (adc := ad) (Ic := I1) (Ac := A2) (Rc := R) (Gc := G) (Xc := X) (base := base) (As := [.ref (ad 199), .ref (ad 299)]) (rest := [.int 2]) (Ic1 := I4) (Ac1 := A5) (Rc1 := R) (Gc1 := G) (Xc1 := X) (b := b) (C := RX10) (x_cls hK (ci := 9) rfl) ⟨hx, hb, hml, hown, hts⟩ (t10g_mark_met l D s0 h0 ad X base hAP I1 A2 R G pl n ks z hR hDW b hm v3 I4 A5 h5) (va_cwSU 2 hts (lw_SU q1133 q1129 q642 q1127 q98 q1139) rfl rfl rfl (by decide +kernel) ⟨Nat.le_trans (Nat.le_of_ble_eq_true rfl) hRf, Nat.le_trans (Nat.le_of_ble_eq_true rfl) hRl⟩) (x_recvD (ci := 9) hK hW hm rfl) hK hY (Nat.le_trans hB0 hS.1) hW hS hcs rfl hl.1 rfl (Nat.le_of_ble_eq_true rfl) dX10_mark_10 (fun H locs hW hS => ?_)
  refine lv_imul hx hb dX10_mark_13 ?_
  obtain ⟨rfl, rfl, rfl⟩ := so3 hf
  exact W.iret hx hb hr (fun t ht _ => ⟨rfl, by rw [ht]; exact hW, hS.F ht⟩) hS.2.2 dX10_mark_14
theorem t10c_mark_ds : yX10_mark.cls = RX10 ∧ yX10_mark.cls ≠ "java/lang/invoke/MethodHandle" ∧ yX10_mark.cls ≠ "java/lang/invoke/VarHandle" ∧ (parseMethodDescriptor yX10_mark.desc).map (fun d => d.parameters.length) = some 2 := by decide +kernel
def t11l_mark (I : Nat → Int32) (A : Nat → Nat → Int32) (R : Nat → Option Nat) (G : Nat → Nat → Option Nat) (pl n : Nat) (ks : Nat → Nat) (z : Int32) : Option (Int32 × (Nat → Int32) × (Nat → Nat → Int32)) :=
  ob2 (t_begins I A R G 22) fun (I1 : Nat → Int32) (A2 : Nat → Nat → Int32) =>
  ob3 (t11g_mark I1 A2 R G pl n ks z) fun (v3 : Int32) (I4 : Nat → Int32) (A5 : Nat → Nat → Int32) =>
  some (v3 - 1000, I4, A5)
set_option maxRecDepth 100000 in
set_option maxHeartbeats 4000000 in
theorem t11l_mark_met (l : Launch) (D : dd_) (s0 : State) (h0 : ∀ w ∈ lw_tbl, va_Nw w s0) (ad : Nat → Nat) (X : va_W) (base : Nat) (hAP : AP tS ad X base) (I : Nat → Int32) (A : Nat → Nat → Int32) (R : Nat → Option Nat) (G : Nat → Nat → Option Nat) (pl n : Nat) (ks : Nat → Nat) (z : Int32) (hR : RegX D X pl n ks) (hDW : DW s0) (b : Nat) (hm : (b, Sum.inr (10, [.int z])) ∈ X) (r : Int32) (I1 : (Nat → Int32)) (A1 : (Nat → Nat → Int32)) (hf : t11l_mark I A R G pl n ks z  = some (r, I1, A1)) : Met l yX11_mark (ws_ yX11_mark cX11_mark 3 (some .int)) ({ frames := 4, cells := 0, slots := 0, locals := 97 }) (PcX D s0 tS ad I A R G X base [.ref b, .ref (ad 199), .ref (ad 299)]) (QcX D tS ad I1 A1 R G X base (some (.int r))) 0 0 (upB base) := by
  refine Met.ofW (cc := cX11_mark) (maxL := 3) (ret := (some .int)) (by decide) rfl ?_
  intro p e s m args below meth c s₁ B hml hv
  obtain ⟨rfl, hK, hY, hB0, hW⟩ := hv
  have hx := B.exec
  have hb := B.bytes
  have hr := B.returns
  have hts := atoms_spec (ws := (ws_ yX11_mark cX11_mark 3 (some .int))) B.pre
  have hts : ∀ w ∈ lw_all, w.before _ s = true := fun w h => hts w (List.mem_cons_of_mem _ h)
  have hown : s.vm.findClass RX11 = some m.cls := findClass_of_methodNamed B.named
  have hlocks := B.notSynchronized
  have hRf : 4 ≤ (headSpec (ws_ yX11_mark cX11_mark 3 (some .int)) ({ frames := 4, cells := 0, slots := 0, locals := 97 })).room.frames := Nat.le_refl _
  have hRl : 97 ≤ (headSpec (ws_ yX11_mark cX11_mark 3 (some .int)) ({ frames := 4, cells := 0, slots := 0, locals := 97 })).room.locals := Nat.le_refl _
  have hcs : 0 ≤ (headSpec (ws_ yX11_mark cX11_mark 3 (some .int)) ({ frames := 4, cells := 0, slots := 0, locals := 97 })).room.cells ∧ 0 ≤ (headSpec (ws_ yX11_mark cX11_mark 3 (some .int)) ({ frames := 4, cells := 0, slots := 0, locals := 97 })).room.slots := ⟨Nat.zero_le _, Nat.zero_le _⟩
  have hS : va_S (upB base) s.heap s.heap [] := va_S.rf
  have hl := lv_entry ([.ref b, .ref (ad 199), .ref (ad 299)]) (n := 3) (Nat.le_of_ble_eq_true rfl)
  rw [lg_entry_eq]
  generalize (lg_sl ([.ref b, .ref (ad 199), .ref (ad 299)]) ++ List.replicate (3 - (lg_sl ([.ref b, .ref (ad 199), .ref (ad 299)])).length) Slot.unset).toArray = ls at hl ⊢
  have hl : lv_has ls 3 [(0, .ref b), (1, .ref (ad 199)), (2, .ref (ad 299))] := hl
  have hf : (ob2 (t_begins I A R G 22) fun (I1 : Nat → Int32) (A2 : Nat → Nat → Int32) =>
    ob3 (t11g_mark I1 A2 R G pl n ks z) fun (v3 : Int32) (I4 : Nat → Int32) (A5 : Nat → Nat → Int32) =>
    some (v3 - 1000, I4, A5)) = some (r, I1, A1) := hf
  refine lv_aload_n hx hb dX11_mark_0 rfl (lv_at hl 1 rfl) ?_
  refine lv_bipush (v := 22) hx hb dX11_mark_1 (by decide) ?_
  obtain ⟨I1, A2, h2, hf⟩ := ob2_e hf
  refine x_vW (ov := none) (D := D) (s0 := s0) (Sc := tS) (adc := ad) (Ic := I) (Ac := A) (Rc := R) (Gc := G) (Xc := X) (base := base) (As := [.int 22]) (rest := []) (Ic1 := I1) (Ac1 := A2) (Rc1 := R) (Gc1 := G) (Xc1 := X) (b := ad 199) (C := RX2) ⟨hx, hb, hml, hown, hts⟩ (t_begins_met l D s0 h0 ad X base hAP I A R G 22 I1 A2 h2) (g_cwV 1 hts (lw_V q1137 q1118 q1119 q81 q1120) rfl rfl t_begins_ds ⟨Nat.le_trans (Nat.le_of_ble_eq_true rfl) hRf, Nat.le_trans (Nat.le_of_ble_eq_true rfl) hRl⟩) (x_recv hK hW tO199 rfl) hK hY (Nat.le_trans hB0 hS.1) hW hS hcs rfl hl.1 rfl (Nat.le_of_ble_eq_true rfl) dX11_mark_3 (fun H locs hW hS => ?_)
  refine lv_aload_n hx hb dX11_mark_6 rfl (lv_at hl 0 rfl) ?_
  refine lv_aload_n hx hb dX11_mark_7 rfl (lv_at hl 1 rfl) ?_
  refine lv_aload_n hx hb dX11_mark_8 rfl (lv_at hl 2 rfl) ?_
  obtain ⟨v3, I4, A5, h5, hf⟩ := ob3_e hf
  refine x_suW (ov := some (.int v3)) (D := D) (s0 := s0) (Sc := tS) (adc := ad) (Ic := I1) (Ac := A2) (Rc := R) (Gc := G) (Xc := X) (base := base) (As := [.ref (ad 199), .ref (ad 299)]) (rest := []) (Ic1 := I4) (Ac1 := A5) (Rc1 := R) (Gc1 := G) (Xc1 := X) (b := b) (C := RX11) (x_cls hK (ci := 10) rfl) ⟨hx, hb, hml, hown, hts⟩ (t11g_mark_met l D s0 h0 ad X base hAP I1 A2 R G pl n ks z hR hDW b hm v3 I4 A5 h5) (va_cwSU 2 hts (lw_SU q1138 q1129 q650 q1127 q98 q1139) rfl rfl rfl (by decide +kernel) ⟨Nat.le_trans (Nat.le_of_ble_eq_true rfl) hRf, Nat.le_trans (Nat.le_of_ble_eq_true rfl) hRl⟩) (x_recvD (ci := 10) hK hW hm rfl) hK hY (Nat.le_trans hB0 hS.1) hW hS hcs rfl hl.1 rfl (Nat.le_of_ble_eq_true rfl) dX11_mark_9 (fun H locs hW hS => ?_)
  refine lv_sipush (v := 1000) hx hb dX11_mark_12 (by decide) ?_
  refine lv_isub hx hb dX11_mark_15 ?_
  obtain ⟨rfl, rfl, rfl⟩ := so3 hf
  exact W.iret hx hb hr (fun t ht _ => ⟨rfl, by rw [ht]; exact hW, hS.F ht⟩) hS.2.2 dX11_mark_16
theorem t11l_mark_ds : yX11_mark.cls = RX11 ∧ yX11_mark.cls ≠ "java/lang/invoke/MethodHandle" ∧ yX11_mark.cls ≠ "java/lang/invoke/VarHandle" ∧ (parseMethodDescriptor yX11_mark.desc).map (fun d => d.parameters.length) = some 2 := by decide +kernel
def t9g_size (I : Nat → Int32) (A : Nat → Nat → Int32) (R : Nat → Option Nat) (G : Nat → Nat → Option Nat) (pl n : Nat) (ks : Nat → Nat) (z : Int32) : Option (Int32 × (Nat → Int32) × (Nat → Nat → Int32)) :=
  ob2 (t_begins I A R G 11) fun (I1 : Nat → Int32) (A2 : Nat → Nat → Int32) =>
  ob3 (t9p_size I1 A2 R G pl n ks z) fun (v3 : Int32) (I4 : Nat → Int32) (A5 : Nat → Nat → Int32) =>
  ob3 (t9g_mark I4 A5 R G pl n ks z) fun (v6 : Int32) (I7 : Nat → Int32) (A8 : Nat → Nat → Int32) =>
  some (v3 + v6, I7, A8)
set_option maxRecDepth 100000 in
set_option maxHeartbeats 4000000 in
theorem t9g_size_met (l : Launch) (D : dd_) (s0 : State) (h0 : ∀ w ∈ lw_tbl, va_Nw w s0) (ad : Nat → Nat) (X : va_W) (base : Nat) (hAP : AP tS ad X base) (I : Nat → Int32) (A : Nat → Nat → Int32) (R : Nat → Option Nat) (G : Nat → Nat → Option Nat) (pl n : Nat) (ks : Nat → Nat) (z : Int32) (hR : RegX D X pl n ks) (hDW : DW s0) (b : Nat) (hm : (b, Sum.inr (8, [.int z])) ∈ X) (r : Int32) (I1 : (Nat → Int32)) (A1 : (Nat → Nat → Int32)) (hf : t9g_size I A R G pl n ks z  = some (r, I1, A1)) : Met l yX9_size (ws_ yX9_size cX9_size 3 (some .int)) ({ frames := 8, cells := 0, slots := 0, locals := 184 }) (PcX D s0 tS ad I A R G X base [.ref b, .ref (ad 199), .ref (ad 299)]) (QcX D tS ad I1 A1 R G X base (some (.int r))) 0 0 (upB base) := by
  refine Met.ofW (cc := cX9_size) (maxL := 3) (ret := (some .int)) (by decide) rfl ?_
  intro p e s m args below meth c s₁ B hml hv
  obtain ⟨rfl, hK, hY, hB0, hW⟩ := hv
  have hx := B.exec
  have hb := B.bytes
  have hr := B.returns
  have hts := atoms_spec (ws := (ws_ yX9_size cX9_size 3 (some .int))) B.pre
  have hts : ∀ w ∈ lw_all, w.before _ s = true := fun w h => hts w (List.mem_cons_of_mem _ h)
  have hown : s.vm.findClass RX9 = some m.cls := findClass_of_methodNamed B.named
  have hlocks := B.notSynchronized
  have hRf : 8 ≤ (headSpec (ws_ yX9_size cX9_size 3 (some .int)) ({ frames := 8, cells := 0, slots := 0, locals := 184 })).room.frames := Nat.le_refl _
  have hRl : 184 ≤ (headSpec (ws_ yX9_size cX9_size 3 (some .int)) ({ frames := 8, cells := 0, slots := 0, locals := 184 })).room.locals := Nat.le_refl _
  have hcs : 0 ≤ (headSpec (ws_ yX9_size cX9_size 3 (some .int)) ({ frames := 8, cells := 0, slots := 0, locals := 184 })).room.cells ∧ 0 ≤ (headSpec (ws_ yX9_size cX9_size 3 (some .int)) ({ frames := 8, cells := 0, slots := 0, locals := 184 })).room.slots := ⟨Nat.zero_le _, Nat.zero_le _⟩
  have hS : va_S (upB base) s.heap s.heap [] := va_S.rf
  have hl := lv_entry ([.ref b, .ref (ad 199), .ref (ad 299)]) (n := 3) (Nat.le_of_ble_eq_true rfl)
  rw [lg_entry_eq]
  generalize (lg_sl ([.ref b, .ref (ad 199), .ref (ad 299)]) ++ List.replicate (3 - (lg_sl ([.ref b, .ref (ad 199), .ref (ad 299)])).length) Slot.unset).toArray = ls at hl ⊢
  have hl : lv_has ls 3 [(0, .ref b), (1, .ref (ad 199)), (2, .ref (ad 299))] := hl
  have hf : (ob2 (t_begins I A R G 11) fun (I1 : Nat → Int32) (A2 : Nat → Nat → Int32) =>
    ob3 (t9p_size I1 A2 R G pl n ks z) fun (v3 : Int32) (I4 : Nat → Int32) (A5 : Nat → Nat → Int32) =>
    ob3 (t9g_mark I4 A5 R G pl n ks z) fun (v6 : Int32) (I7 : Nat → Int32) (A8 : Nat → Nat → Int32) =>
    some (v3 + v6, I7, A8)) = some (r, I1, A1) := hf
  refine lv_aload_n hx hb dX9_size_0 rfl (lv_at hl 1 rfl) ?_
  refine lv_bipush (v := 11) hx hb dX9_size_1 (by decide) ?_
  obtain ⟨I1, A2, h2, hf⟩ := ob2_e hf
  refine x_vW (ov := none) (D := D) (s0 := s0) (Sc := tS) (adc := ad) (Ic := I) (Ac := A) (Rc := R) (Gc := G) (Xc := X) (base := base) (As := [.int 11]) (rest := []) (Ic1 := I1) (Ac1 := A2) (Rc1 := R) (Gc1 := G) (Xc1 := X) (b := ad 199) (C := RX2) ⟨hx, hb, hml, hown, hts⟩ (t_begins_met l D s0 h0 ad X base hAP I A R G 11 I1 A2 h2) (g_cwV 1 hts (lw_V q1124 q1118 q1119 q81 q1120) rfl rfl t_begins_ds ⟨Nat.le_trans (Nat.le_of_ble_eq_true rfl) hRf, Nat.le_trans (Nat.le_of_ble_eq_true rfl) hRl⟩) (x_recv hK hW tO199 rfl) hK hY (Nat.le_trans hB0 hS.1) hW hS hcs rfl hl.1 rfl (Nat.le_of_ble_eq_true rfl) dX9_size_3 (fun H locs hW hS => ?_)
  refine lv_aload_n hx hb dX9_size_6 rfl (lv_at hl 0 rfl) ?_
  refine lv_aload_n hx hb dX9_size_7 rfl (lv_at hl 1 rfl) ?_
  refine lv_aload_n hx hb dX9_size_8 rfl (lv_at hl 2 rfl) ?_
  obtain ⟨v3, I4, A5, h5, hf⟩ := ob3_e hf
  refine x_suW (ov := some (.int v3)) (D := D) (s0 := s0) (Sc := tS) (adc := ad) (Ic := I1) (Ac := A2) (Rc := R) (Gc := G) (Xc := X) (base := base) (As := [.ref (ad 199), .ref (ad 299)]) (rest := []) (Ic1 := I4) (Ac1 := A5) (Rc1 := R) (Gc1 := G) (Xc1 := X) (b := b) (C := RX9) (x_cls hK (ci := 8) rfl) ⟨hx, hb, hml, hown, hts⟩ (t9p_size_met l D s0 h0 ad X base hAP I1 A2 R G pl n ks z hR b hm v3 I4 A5 h5) (va_cwSU 2 hts (lw_SU q1125 q1113 q634 q1112 q97 q1183) rfl rfl rfl (by decide +kernel) ⟨Nat.le_trans (Nat.le_of_ble_eq_true rfl) hRf, Nat.le_trans (Nat.le_of_ble_eq_true rfl) hRl⟩) (x_recvD (ci := 8) hK hW hm rfl) hK hY (Nat.le_trans hB0 hS.1) hW hS hcs rfl hl.1 rfl (Nat.le_of_ble_eq_true rfl) dX9_size_9 (fun H locs hW hS => ?_)
  refine lv_aload_n hx hb dX9_size_12 rfl (lv_at hl 0 rfl) ?_
  refine lv_aload_n hx hb dX9_size_13 rfl (lv_at hl 1 rfl) ?_
  refine lv_aload_n hx hb dX9_size_14 rfl (lv_at hl 2 rfl) ?_
  obtain ⟨v6, I7, A8, h8, hf⟩ := ob3_e hf
  refine x_uW (ov := some (.int v6)) (D := D) (s0 := s0) (Sc := tS) (adc := ad) (Ic := I4) (Ac := A5) (Rc := R) (Gc := G) (Xc := X) (base := base) (As := [.ref (ad 199), .ref (ad 299)]) (rest := [.int v3]) (Ic1 := I7) (Ac1 := A8) (Rc1 := R) (Gc1 := G) (Xc1 := X) (b := b) (C := RX9) ⟨hx, hb, hml, hown, hts⟩ (t9g_mark_met l D s0 h0 ad X base hAP I4 A5 R G pl n ks z hR hDW b hm v6 I7 A8 h8) (va_cwU (owner := RX9) 2 hts (lw_U q1126 q1129 q1128 q1127 q98 q1139) rfl rfl rfl rfl (by decide +kernel) ⟨Nat.le_trans (Nat.le_of_ble_eq_true rfl) hRf, Nat.le_trans (Nat.le_of_ble_eq_true rfl) hRl⟩) (x_recvD (ci := 8) hK hW hm rfl) hK hY (Nat.le_trans hB0 hS.1) hW hS hcs rfl hl.1 rfl (Nat.le_of_ble_eq_true rfl) dX9_size_15 (fun H locs hW hS => ?_)
  refine lv_iadd hx hb dX9_size_18 ?_
  obtain ⟨rfl, rfl, rfl⟩ := so3 hf
  exact W.iret hx hb hr (fun t ht _ => ⟨rfl, by rw [ht]; exact hW, hS.F ht⟩) hS.2.2 dX9_size_19
theorem t9g_size_ds : yX9_size.cls = RX9 ∧ yX9_size.cls ≠ "java/lang/invoke/MethodHandle" ∧ yX9_size.cls ≠ "java/lang/invoke/VarHandle" ∧ (parseMethodDescriptor yX9_size.desc).map (fun d => d.parameters.length) = some 2 := by decide +kernel
def t10g_size (I : Nat → Int32) (A : Nat → Nat → Int32) (R : Nat → Option Nat) (G : Nat → Nat → Option Nat) (pl n : Nat) (ks : Nat → Nat) (z : Int32) : Option (Int32 × (Nat → Int32) × (Nat → Nat → Int32)) :=
  ob2 (t_begins I A R G 11) fun (I1 : Nat → Int32) (A2 : Nat → Nat → Int32) =>
  ob3 (t10p_size I1 A2 R G pl n ks z) fun (v3 : Int32) (I4 : Nat → Int32) (A5 : Nat → Nat → Int32) =>
  ob3 (t10c_mark I4 A5 R G pl n ks z) fun (v6 : Int32) (I7 : Nat → Int32) (A8 : Nat → Nat → Int32) =>
  some (v3 + v6, I7, A8)
set_option maxRecDepth 100000 in
set_option maxHeartbeats 4000000 in
theorem t10g_size_met (l : Launch) (D : dd_) (s0 : State) (h0 : ∀ w ∈ lw_tbl, va_Nw w s0) (ad : Nat → Nat) (X : va_W) (base : Nat) (hAP : AP tS ad X base) (I : Nat → Int32) (A : Nat → Nat → Int32) (R : Nat → Option Nat) (G : Nat → Nat → Option Nat) (pl n : Nat) (ks : Nat → Nat) (z : Int32) (hR : RegX D X pl n ks) (hDW : DW s0) (b : Nat) (hm : (b, Sum.inr (9, [.int z])) ∈ X) (r : Int32) (I1 : (Nat → Int32)) (A1 : (Nat → Nat → Int32)) (hf : t10g_size I A R G pl n ks z  = some (r, I1, A1)) : Met l yX9_size (ws_ yX9_size cX9_size 3 (some .int)) ({ frames := 8, cells := 0, slots := 0, locals := 184 }) (PcX D s0 tS ad I A R G X base [.ref b, .ref (ad 199), .ref (ad 299)]) (QcX D tS ad I1 A1 R G X base (some (.int r))) 0 0 (upB base) := by
  refine Met.ofW (cc := cX9_size) (maxL := 3) (ret := (some .int)) (by decide) rfl ?_
  intro p e s m args below meth c s₁ B hml hv
  obtain ⟨rfl, hK, hY, hB0, hW⟩ := hv
  have hx := B.exec
  have hb := B.bytes
  have hr := B.returns
  have hts := atoms_spec (ws := (ws_ yX9_size cX9_size 3 (some .int))) B.pre
  have hts : ∀ w ∈ lw_all, w.before _ s = true := fun w h => hts w (List.mem_cons_of_mem _ h)
  have hown : s.vm.findClass RX9 = some m.cls := findClass_of_methodNamed B.named
  have hlocks := B.notSynchronized
  have hRf : 8 ≤ (headSpec (ws_ yX9_size cX9_size 3 (some .int)) ({ frames := 8, cells := 0, slots := 0, locals := 184 })).room.frames := Nat.le_refl _
  have hRl : 184 ≤ (headSpec (ws_ yX9_size cX9_size 3 (some .int)) ({ frames := 8, cells := 0, slots := 0, locals := 184 })).room.locals := Nat.le_refl _
  have hcs : 0 ≤ (headSpec (ws_ yX9_size cX9_size 3 (some .int)) ({ frames := 8, cells := 0, slots := 0, locals := 184 })).room.cells ∧ 0 ≤ (headSpec (ws_ yX9_size cX9_size 3 (some .int)) ({ frames := 8, cells := 0, slots := 0, locals := 184 })).room.slots := ⟨Nat.zero_le _, Nat.zero_le _⟩
  have hS : va_S (upB base) s.heap s.heap [] := va_S.rf
  have hl := lv_entry ([.ref b, .ref (ad 199), .ref (ad 299)]) (n := 3) (Nat.le_of_ble_eq_true rfl)
  rw [lg_entry_eq]
  generalize (lg_sl ([.ref b, .ref (ad 199), .ref (ad 299)]) ++ List.replicate (3 - (lg_sl ([.ref b, .ref (ad 199), .ref (ad 299)])).length) Slot.unset).toArray = ls at hl ⊢
  have hl : lv_has ls 3 [(0, .ref b), (1, .ref (ad 199)), (2, .ref (ad 299))] := hl
  have hf : (ob2 (t_begins I A R G 11) fun (I1 : Nat → Int32) (A2 : Nat → Nat → Int32) =>
    ob3 (t10p_size I1 A2 R G pl n ks z) fun (v3 : Int32) (I4 : Nat → Int32) (A5 : Nat → Nat → Int32) =>
    ob3 (t10c_mark I4 A5 R G pl n ks z) fun (v6 : Int32) (I7 : Nat → Int32) (A8 : Nat → Nat → Int32) =>
    some (v3 + v6, I7, A8)) = some (r, I1, A1) := hf
  refine lv_aload_n hx hb dX9_size_0 rfl (lv_at hl 1 rfl) ?_
  refine lv_bipush (v := 11) hx hb dX9_size_1 (by decide) ?_
  obtain ⟨I1, A2, h2, hf⟩ := ob2_e hf
  refine x_vW (ov := none) (D := D) (s0 := s0) (Sc := tS) (adc := ad) (Ic := I) (Ac := A) (Rc := R) (Gc := G) (Xc := X) (base := base) (As := [.int 11]) (rest := []) (Ic1 := I1) (Ac1 := A2) (Rc1 := R) (Gc1 := G) (Xc1 := X) (b := ad 199) (C := RX2) ⟨hx, hb, hml, hown, hts⟩ (t_begins_met l D s0 h0 ad X base hAP I A R G 11 I1 A2 h2) (g_cwV 1 hts (lw_V q1124 q1118 q1119 q81 q1120) rfl rfl t_begins_ds ⟨Nat.le_trans (Nat.le_of_ble_eq_true rfl) hRf, Nat.le_trans (Nat.le_of_ble_eq_true rfl) hRl⟩) (x_recv hK hW tO199 rfl) hK hY (Nat.le_trans hB0 hS.1) hW hS hcs rfl hl.1 rfl (Nat.le_of_ble_eq_true rfl) dX9_size_3 (fun H locs hW hS => ?_)
  refine lv_aload_n hx hb dX9_size_6 rfl (lv_at hl 0 rfl) ?_
  refine lv_aload_n hx hb dX9_size_7 rfl (lv_at hl 1 rfl) ?_
  refine lv_aload_n hx hb dX9_size_8 rfl (lv_at hl 2 rfl) ?_
  obtain ⟨v3, I4, A5, h5, hf⟩ := ob3_e hf
  refine x_suW (ov := some (.int v3)) (D := D) (s0 := s0) (Sc := tS) (adc := ad) (Ic := I1) (Ac := A2) (Rc := R) (Gc := G) (Xc := X) (base := base) (As := [.ref (ad 199), .ref (ad 299)]) (rest := []) (Ic1 := I4) (Ac1 := A5) (Rc1 := R) (Gc1 := G) (Xc1 := X) (b := b) (C := RX10) (x_cls hK (ci := 9) rfl) ⟨hx, hb, hml, hown, hts⟩ (t10p_size_met l D s0 h0 ad X base hAP I1 A2 R G pl n ks z hR b hm v3 I4 A5 h5) (va_cwSU 2 hts (lw_SU q1125 q1113 q634 q1112 q97 q1183) rfl rfl rfl (by decide +kernel) ⟨Nat.le_trans (Nat.le_of_ble_eq_true rfl) hRf, Nat.le_trans (Nat.le_of_ble_eq_true rfl) hRl⟩) (x_recvD (ci := 9) hK hW hm rfl) hK hY (Nat.le_trans hB0 hS.1) hW hS hcs rfl hl.1 rfl (Nat.le_of_ble_eq_true rfl) dX9_size_9 (fun H locs hW hS => ?_)
  refine lv_aload_n hx hb dX9_size_12 rfl (lv_at hl 0 rfl) ?_
  refine lv_aload_n hx hb dX9_size_13 rfl (lv_at hl 1 rfl) ?_
  refine lv_aload_n hx hb dX9_size_14 rfl (lv_at hl 2 rfl) ?_
  obtain ⟨v6, I7, A8, h8, hf⟩ := ob3_e hf
  refine x_uW (ov := some (.int v6)) (D := D) (s0 := s0) (Sc := tS) (adc := ad) (Ic := I4) (Ac := A5) (Rc := R) (Gc := G) (Xc := X) (base := base) (As := [.ref (ad 199), .ref (ad 299)]) (rest := [.int v3]) (Ic1 := I7) (Ac1 := A8) (Rc1 := R) (Gc1 := G) (Xc1 := X) (b := b) (C := RX10) ⟨hx, hb, hml, hown, hts⟩ (t10c_mark_met l D s0 h0 ad X base hAP I4 A5 R G pl n ks z hR hDW b hm v6 I7 A8 h8) (va_cwO (owner := RX9) 2 hts (lw_O q1126 q1129 q1127 q1130 q1131 q99 q1132) rfl rfl rfl q1139 (by decide +kernel) ⟨Nat.le_trans (Nat.le_of_ble_eq_true rfl) hRf, Nat.le_trans (Nat.le_of_ble_eq_true rfl) hRl⟩) (x_recvD (ci := 9) hK hW hm rfl) hK hY (Nat.le_trans hB0 hS.1) hW hS hcs rfl hl.1 rfl (Nat.le_of_ble_eq_true rfl) dX9_size_15 (fun H locs hW hS => ?_)
  refine lv_iadd hx hb dX9_size_18 ?_
  obtain ⟨rfl, rfl, rfl⟩ := so3 hf
  exact W.iret hx hb hr (fun t ht _ => ⟨rfl, by rw [ht]; exact hW, hS.F ht⟩) hS.2.2 dX9_size_19
theorem t10g_size_ds : yX9_size.cls = RX9 ∧ yX9_size.cls ≠ "java/lang/invoke/MethodHandle" ∧ yX9_size.cls ≠ "java/lang/invoke/VarHandle" ∧ (parseMethodDescriptor yX9_size.desc).map (fun d => d.parameters.length) = some 2 := by decide +kernel
def t11g_size (I : Nat → Int32) (A : Nat → Nat → Int32) (R : Nat → Option Nat) (G : Nat → Nat → Option Nat) (pl n : Nat) (ks : Nat → Nat) (z : Int32) : Option (Int32 × (Nat → Int32) × (Nat → Nat → Int32)) :=
  ob2 (t_begins I A R G 11) fun (I1 : Nat → Int32) (A2 : Nat → Nat → Int32) =>
  ob3 (t11p_size I1 A2 R G pl n ks z) fun (v3 : Int32) (I4 : Nat → Int32) (A5 : Nat → Nat → Int32) =>
  ob3 (t11l_mark I4 A5 R G pl n ks z) fun (v6 : Int32) (I7 : Nat → Int32) (A8 : Nat → Nat → Int32) =>
  some (v3 + v6, I7, A8)
set_option maxRecDepth 100000 in
set_option maxHeartbeats 4000000 in
theorem t11g_size_met (l : Launch) (D : dd_) (s0 : State) (h0 : ∀ w ∈ lw_tbl, va_Nw w s0) (ad : Nat → Nat) (X : va_W) (base : Nat) (hAP : AP tS ad X base) (I : Nat → Int32) (A : Nat → Nat → Int32) (R : Nat → Option Nat) (G : Nat → Nat → Option Nat) (pl n : Nat) (ks : Nat → Nat) (z : Int32) (hR : RegX D X pl n ks) (hDW : DW s0) (b : Nat) (hm : (b, Sum.inr (10, [.int z])) ∈ X) (r : Int32) (I1 : (Nat → Int32)) (A1 : (Nat → Nat → Int32)) (hf : t11g_size I A R G pl n ks z  = some (r, I1, A1)) : Met l yX9_size (ws_ yX9_size cX9_size 3 (some .int)) ({ frames := 8, cells := 0, slots := 0, locals := 184 }) (PcX D s0 tS ad I A R G X base [.ref b, .ref (ad 199), .ref (ad 299)]) (QcX D tS ad I1 A1 R G X base (some (.int r))) 0 0 (upB base) := by
  refine Met.ofW (cc := cX9_size) (maxL := 3) (ret := (some .int)) (by decide) rfl ?_
  intro p e s m args below meth c s₁ B hml hv
  obtain ⟨rfl, hK, hY, hB0, hW⟩ := hv
  have hx := B.exec
  have hb := B.bytes
  have hr := B.returns
  have hts := atoms_spec (ws := (ws_ yX9_size cX9_size 3 (some .int))) B.pre
  have hts : ∀ w ∈ lw_all, w.before _ s = true := fun w h => hts w (List.mem_cons_of_mem _ h)
  have hown : s.vm.findClass RX9 = some m.cls := findClass_of_methodNamed B.named
  have hlocks := B.notSynchronized
  have hRf : 8 ≤ (headSpec (ws_ yX9_size cX9_size 3 (some .int)) ({ frames := 8, cells := 0, slots := 0, locals := 184 })).room.frames := Nat.le_refl _
  have hRl : 184 ≤ (headSpec (ws_ yX9_size cX9_size 3 (some .int)) ({ frames := 8, cells := 0, slots := 0, locals := 184 })).room.locals := Nat.le_refl _
  have hcs : 0 ≤ (headSpec (ws_ yX9_size cX9_size 3 (some .int)) ({ frames := 8, cells := 0, slots := 0, locals := 184 })).room.cells ∧ 0 ≤ (headSpec (ws_ yX9_size cX9_size 3 (some .int)) ({ frames := 8, cells := 0, slots := 0, locals := 184 })).room.slots := ⟨Nat.zero_le _, Nat.zero_le _⟩
  have hS : va_S (upB base) s.heap s.heap [] := va_S.rf
  have hl := lv_entry ([.ref b, .ref (ad 199), .ref (ad 299)]) (n := 3) (Nat.le_of_ble_eq_true rfl)
  rw [lg_entry_eq]
  generalize (lg_sl ([.ref b, .ref (ad 199), .ref (ad 299)]) ++ List.replicate (3 - (lg_sl ([.ref b, .ref (ad 199), .ref (ad 299)])).length) Slot.unset).toArray = ls at hl ⊢
  have hl : lv_has ls 3 [(0, .ref b), (1, .ref (ad 199)), (2, .ref (ad 299))] := hl
  have hf : (ob2 (t_begins I A R G 11) fun (I1 : Nat → Int32) (A2 : Nat → Nat → Int32) =>
    ob3 (t11p_size I1 A2 R G pl n ks z) fun (v3 : Int32) (I4 : Nat → Int32) (A5 : Nat → Nat → Int32) =>
    ob3 (t11l_mark I4 A5 R G pl n ks z) fun (v6 : Int32) (I7 : Nat → Int32) (A8 : Nat → Nat → Int32) =>
    some (v3 + v6, I7, A8)) = some (r, I1, A1) := hf
  refine lv_aload_n hx hb dX9_size_0 rfl (lv_at hl 1 rfl) ?_
  refine lv_bipush (v := 11) hx hb dX9_size_1 (by decide) ?_
  obtain ⟨I1, A2, h2, hf⟩ := ob2_e hf
  refine x_vW (ov := none) (D := D) (s0 := s0) (Sc := tS) (adc := ad) (Ic := I) (Ac := A) (Rc := R) (Gc := G) (Xc := X) (base := base) (As := [.int 11]) (rest := []) (Ic1 := I1) (Ac1 := A2) (Rc1 := R) (Gc1 := G) (Xc1 := X) (b := ad 199) (C := RX2) ⟨hx, hb, hml, hown, hts⟩ (t_begins_met l D s0 h0 ad X base hAP I A R G 11 I1 A2 h2) (g_cwV 1 hts (lw_V q1124 q1118 q1119 q81 q1120) rfl rfl t_begins_ds ⟨Nat.le_trans (Nat.le_of_ble_eq_true rfl) hRf, Nat.le_trans (Nat.le_of_ble_eq_true rfl) hRl⟩) (x_recv hK hW tO199 rfl) hK hY (Nat.le_trans hB0 hS.1) hW hS hcs rfl hl.1 rfl (Nat.le_of_ble_eq_true rfl) dX9_size_3 (fun H locs hW hS => ?_)
  refine lv_aload_n hx hb dX9_size_6 rfl (lv_at hl 0 rfl) ?_
  refine lv_aload_n hx hb dX9_size_7 rfl (lv_at hl 1 rfl) ?_
  refine lv_aload_n hx hb dX9_size_8 rfl (lv_at hl 2 rfl) ?_
  obtain ⟨v3, I4, A5, h5, hf⟩ := ob3_e hf
  refine x_suW (ov := some (.int v3)) (D := D) (s0 := s0) (Sc := tS) (adc := ad) (Ic := I1) (Ac := A2) (Rc := R) (Gc := G) (Xc := X) (base := base) (As := [.ref (ad 199), .ref (ad 299)]) (rest := []) (Ic1 := I4) (Ac1 := A5) (Rc1 := R) (Gc1 := G) (Xc1 := X) (b := b) (C := RX11) (x_cls hK (ci := 10) rfl) ⟨hx, hb, hml, hown, hts⟩ (t11p_size_met l D s0 h0 ad X base hAP I1 A2 R G pl n ks z hR b hm v3 I4 A5 h5) (va_cwSU 2 hts (lw_SU q1125 q1113 q634 q1112 q97 q1183) rfl rfl rfl (by decide +kernel) ⟨Nat.le_trans (Nat.le_of_ble_eq_true rfl) hRf, Nat.le_trans (Nat.le_of_ble_eq_true rfl) hRl⟩) (x_recvD (ci := 10) hK hW hm rfl) hK hY (Nat.le_trans hB0 hS.1) hW hS hcs rfl hl.1 rfl (Nat.le_of_ble_eq_true rfl) dX9_size_9 (fun H locs hW hS => ?_)
  refine lv_aload_n hx hb dX9_size_12 rfl (lv_at hl 0 rfl) ?_
  refine lv_aload_n hx hb dX9_size_13 rfl (lv_at hl 1 rfl) ?_
  refine lv_aload_n hx hb dX9_size_14 rfl (lv_at hl 2 rfl) ?_
  obtain ⟨v6, I7, A8, h8, hf⟩ := ob3_e hf
  refine x_uW (ov := some (.int v6)) (D := D) (s0 := s0) (Sc := tS) (adc := ad) (Ic := I4) (Ac := A5) (Rc := R) (Gc := G) (Xc := X) (base := base) (As := [.ref (ad 199), .ref (ad 299)]) (rest := [.int v3]) (Ic1 := I7) (Ac1 := A8) (Rc1 := R) (Gc1 := G) (Xc1 := X) (b := b) (C := RX11) ⟨hx, hb, hml, hown, hts⟩ (t11l_mark_met l D s0 h0 ad X base hAP I4 A5 R G pl n ks z hR hDW b hm v6 I7 A8 h8) (va_cwO (owner := RX9) 2 hts (lw_O q1126 q1129 q1127 q1134 q1135 q100 q1136) rfl rfl rfl q1139 (by decide +kernel) ⟨Nat.le_trans (Nat.le_of_ble_eq_true rfl) hRf, Nat.le_trans (Nat.le_of_ble_eq_true rfl) hRl⟩) (x_recvD (ci := 10) hK hW hm rfl) hK hY (Nat.le_trans hB0 hS.1) hW hS hcs rfl hl.1 rfl (Nat.le_of_ble_eq_true rfl) dX9_size_15 (fun H locs hW hS => ?_)
  refine lv_iadd hx hb dX9_size_18 ?_
  obtain ⟨rfl, rfl, rfl⟩ := so3 hf
  exact W.iret hx hb hr (fun t ht _ => ⟨rfl, by rw [ht]; exact hW, hS.F ht⟩) hS.2.2 dX9_size_19
theorem t11g_size_ds : yX9_size.cls = RX9 ∧ yX9_size.cls ≠ "java/lang/invoke/MethodHandle" ∧ yX9_size.cls ≠ "java/lang/invoke/VarHandle" ∧ (parseMethodDescriptor yX9_size.desc).map (fun d => d.parameters.length) = some 2 := by decide +kernel
def t10c_size (I : Nat → Int32) (A : Nat → Nat → Int32) (R : Nat → Option Nat) (G : Nat → Nat → Option Nat) (pl n : Nat) (ks : Nat → Nat) (z : Int32) : Option (Int32 × (Nat → Int32) × (Nat → Nat → Int32)) :=
  ob2 (t_begins I A R G 12) fun (I1 : Nat → Int32) (A2 : Nat → Nat → Int32) =>
  ob3 (t10g_size I1 A2 R G pl n ks z) fun (v3 : Int32) (I4 : Nat → Int32) (A5 : Nat → Nat → Int32) =>
  some (-v3, I4, A5)
set_option maxRecDepth 100000 in
set_option maxHeartbeats 4000000 in
theorem t10c_size_met (l : Launch) (D : dd_) (s0 : State) (h0 : ∀ w ∈ lw_tbl, va_Nw w s0) (ad : Nat → Nat) (X : va_W) (base : Nat) (hAP : AP tS ad X base) (I : Nat → Int32) (A : Nat → Nat → Int32) (R : Nat → Option Nat) (G : Nat → Nat → Option Nat) (pl n : Nat) (ks : Nat → Nat) (z : Int32) (hR : RegX D X pl n ks) (hDW : DW s0) (b : Nat) (hm : (b, Sum.inr (9, [.int z])) ∈ X) (r : Int32) (I1 : (Nat → Int32)) (A1 : (Nat → Nat → Int32)) (hf : t10c_size I A R G pl n ks z  = some (r, I1, A1)) : Met l yX10_size (ws_ yX10_size cX10_size 3 (some .int)) ({ frames := 9, cells := 0, slots := 0, locals := 206 }) (PcX D s0 tS ad I A R G X base [.ref b, .ref (ad 199), .ref (ad 299)]) (QcX D tS ad I1 A1 R G X base (some (.int r))) 0 0 (upB base) := by
  refine Met.ofW (cc := cX10_size) (maxL := 3) (ret := (some .int)) (by decide) rfl ?_
  intro p e s m args below meth c s₁ B hml hv
  obtain ⟨rfl, hK, hY, hB0, hW⟩ := hv
  have hx := B.exec
  have hb := B.bytes
  have hr := B.returns
  have hts := atoms_spec (ws := (ws_ yX10_size cX10_size 3 (some .int))) B.pre
  have hts : ∀ w ∈ lw_all, w.before _ s = true := fun w h => hts w (List.mem_cons_of_mem _ h)
  have hown : s.vm.findClass RX10 = some m.cls := findClass_of_methodNamed B.named
  have hlocks := B.notSynchronized
  have hRf : 9 ≤ (headSpec (ws_ yX10_size cX10_size 3 (some .int)) ({ frames := 9, cells := 0, slots := 0, locals := 206 })).room.frames := Nat.le_refl _
  have hRl : 206 ≤ (headSpec (ws_ yX10_size cX10_size 3 (some .int)) ({ frames := 9, cells := 0, slots := 0, locals := 206 })).room.locals := Nat.le_refl _
  have hcs : 0 ≤ (headSpec (ws_ yX10_size cX10_size 3 (some .int)) ({ frames := 9, cells := 0, slots := 0, locals := 206 })).room.cells ∧ 0 ≤ (headSpec (ws_ yX10_size cX10_size 3 (some .int)) ({ frames := 9, cells := 0, slots := 0, locals := 206 })).room.slots := ⟨Nat.zero_le _, Nat.zero_le _⟩
  have hS : va_S (upB base) s.heap s.heap [] := va_S.rf
  have hl := lv_entry ([.ref b, .ref (ad 199), .ref (ad 299)]) (n := 3) (Nat.le_of_ble_eq_true rfl)
  rw [lg_entry_eq]
  generalize (lg_sl ([.ref b, .ref (ad 199), .ref (ad 299)]) ++ List.replicate (3 - (lg_sl ([.ref b, .ref (ad 199), .ref (ad 299)])).length) Slot.unset).toArray = ls at hl ⊢
  have hl : lv_has ls 3 [(0, .ref b), (1, .ref (ad 199)), (2, .ref (ad 299))] := hl
  have hf : (ob2 (t_begins I A R G 12) fun (I1 : Nat → Int32) (A2 : Nat → Nat → Int32) =>
    ob3 (t10g_size I1 A2 R G pl n ks z) fun (v3 : Int32) (I4 : Nat → Int32) (A5 : Nat → Nat → Int32) =>
    some (-v3, I4, A5)) = some (r, I1, A1) := hf
  refine lv_aload_n hx hb dX10_size_0 rfl (lv_at hl 1 rfl) ?_
  refine lv_bipush (v := 12) hx hb dX10_size_1 (by decide) ?_
  obtain ⟨I1, A2, h2, hf⟩ := ob2_e hf
  refine x_vW (ov := none) (D := D) (s0 := s0) (Sc := tS) (adc := ad) (Ic := I) (Ac := A) (Rc := R) (Gc := G) (Xc := X) (base := base) (As := [.int 12]) (rest := []) (Ic1 := I1) (Ac1 := A2) (Rc1 := R) (Gc1 := G) (Xc1 := X) (b := ad 199) (C := RX2) ⟨hx, hb, hml, hown, hts⟩ (t_begins_met l D s0 h0 ad X base hAP I A R G 12 I1 A2 h2) (g_cwV 1 hts (lw_V q1117 q1118 q1119 q81 q1120) rfl rfl t_begins_ds ⟨Nat.le_trans (Nat.le_of_ble_eq_true rfl) hRf, Nat.le_trans (Nat.le_of_ble_eq_true rfl) hRl⟩) (x_recv hK hW tO199 rfl) hK hY (Nat.le_trans hB0 hS.1) hW hS hcs rfl hl.1 rfl (Nat.le_of_ble_eq_true rfl) dX10_size_3 (fun H locs hW hS => ?_)
  refine lv_aload_n hx hb dX10_size_6 rfl (lv_at hl 0 rfl) ?_
  refine lv_aload_n hx hb dX10_size_7 rfl (lv_at hl 1 rfl) ?_
  refine lv_aload_n hx hb dX10_size_8 rfl (lv_at hl 2 rfl) ?_
  obtain ⟨v3, I4, A5, h5, hf⟩ := ob3_e hf
  refine x_suW (ov := some (.int v3)) (D := D) (s0 := s0) (Sc := tS) (adc := ad) (Ic := I1) (Ac := A2) (Rc := R) (Gc := G) (Xc := X) (base := base) (As := [.ref (ad 199), .ref (ad 299)]) (rest := []) (Ic1 := I4) (Ac1 := A5) (Rc1 := R) (Gc1 := G) (Xc1 := X) (b := b) (C := RX10) (x_cls hK (ci := 9) rfl) ⟨hx, hb, hml, hown, hts⟩ (t10g_size_met l D s0 h0 ad X base hAP I1 A2 R G pl n ks z hR hDW b hm v3 I4 A5 h5) (va_cwSU 2 hts (lw_SU q1121 q1649 q642 q1122 q98 q1123) rfl rfl rfl (by decide +kernel) ⟨Nat.le_trans (Nat.le_of_ble_eq_true rfl) hRf, Nat.le_trans (Nat.le_of_ble_eq_true rfl) hRl⟩) (x_recvD (ci := 9) hK hW hm rfl) hK hY (Nat.le_trans hB0 hS.1) hW hS hcs rfl hl.1 rfl (Nat.le_of_ble_eq_true rfl) dX10_size_9 (fun H locs hW hS => ?_)
  refine lv_ineg hx hb dX10_size_12 ?_
  obtain ⟨rfl, rfl, rfl⟩ := so3 hf
  exact W.iret hx hb hr (fun t ht _ => ⟨rfl, by rw [ht]; exact hW, hS.F ht⟩) hS.2.2 dX10_size_13
theorem t10c_size_ds : yX10_size.cls = RX10 ∧ yX10_size.cls ≠ "java/lang/invoke/MethodHandle" ∧ yX10_size.cls ≠ "java/lang/invoke/VarHandle" ∧ (parseMethodDescriptor yX10_size.desc).map (fun d => d.parameters.length) = some 2 := by decide +kernel
def t12h_size (I : Nat → Int32) (A : Nat → Nat → Int32) (R : Nat → Option Nat) (G : Nat → Nat → Option Nat) (pl n : Nat) (ks : Nat → Nat) (z : Int32) : Option (Int32 × (Nat → Int32) × (Nat → Nat → Int32)) :=
  ob2 (t_begins I A R G 13) fun (I1 : Nat → Int32) (A2 : Nat → Nat → Int32) =>
  ob3 (t12p_size I1 A2 R G pl n ks z) fun (v3 : Int32) (I4 : Nat → Int32) (A5 : Nat → Nat → Int32) =>
  some (v3 - 100, I4, A5)
set_option maxRecDepth 100000 in
set_option maxHeartbeats 4000000 in
theorem t12h_size_met (l : Launch) (D : dd_) (s0 : State) (h0 : ∀ w ∈ lw_tbl, va_Nw w s0) (ad : Nat → Nat) (X : va_W) (base : Nat) (hAP : AP tS ad X base) (I : Nat → Int32) (A : Nat → Nat → Int32) (R : Nat → Option Nat) (G : Nat → Nat → Option Nat) (pl n : Nat) (ks : Nat → Nat) (z : Int32) (hR : RegX D X pl n ks) (hDW : DW s0) (b : Nat) (hm : (b, Sum.inr (11, [.int z])) ∈ X) (r : Int32) (I1 : (Nat → Int32)) (A1 : (Nat → Nat → Int32)) (hf : t12h_size I A R G pl n ks z  = some (r, I1, A1)) : Met l yX12_size (ws_ yX12_size cX12_size 3 (some .int)) ({ frames := 8, cells := 0, slots := 0, locals := 184 }) (PcX D s0 tS ad I A R G X base [.ref b, .ref (ad 199), .ref (ad 299)]) (QcX D tS ad I1 A1 R G X base (some (.int r))) 0 0 (upB base) := by
  refine Met.ofW (cc := cX12_size) (maxL := 3) (ret := (some .int)) (by decide) rfl ?_
  intro p e s m args below meth c s₁ B hml hv
  obtain ⟨rfl, hK, hY, hB0, hW⟩ := hv
  have hx := B.exec
  have hb := B.bytes
  have hr := B.returns
  have hts := atoms_spec (ws := (ws_ yX12_size cX12_size 3 (some .int))) B.pre
  have hts : ∀ w ∈ lw_all, w.before _ s = true := fun w h => hts w (List.mem_cons_of_mem _ h)
  have hown : s.vm.findClass RX12 = some m.cls := findClass_of_methodNamed B.named
  have hlocks := B.notSynchronized
  have hRf : 8 ≤ (headSpec (ws_ yX12_size cX12_size 3 (some .int)) ({ frames := 8, cells := 0, slots := 0, locals := 184 })).room.frames := Nat.le_refl _
  have hRl : 184 ≤ (headSpec (ws_ yX12_size cX12_size 3 (some .int)) ({ frames := 8, cells := 0, slots := 0, locals := 184 })).room.locals := Nat.le_refl _
  have hcs : 0 ≤ (headSpec (ws_ yX12_size cX12_size 3 (some .int)) ({ frames := 8, cells := 0, slots := 0, locals := 184 })).room.cells ∧ 0 ≤ (headSpec (ws_ yX12_size cX12_size 3 (some .int)) ({ frames := 8, cells := 0, slots := 0, locals := 184 })).room.slots := ⟨Nat.zero_le _, Nat.zero_le _⟩
  have hS : va_S (upB base) s.heap s.heap [] := va_S.rf
  have hl := lv_entry ([.ref b, .ref (ad 199), .ref (ad 299)]) (n := 3) (Nat.le_of_ble_eq_true rfl)
  rw [lg_entry_eq]
  generalize (lg_sl ([.ref b, .ref (ad 199), .ref (ad 299)]) ++ List.replicate (3 - (lg_sl ([.ref b, .ref (ad 199), .ref (ad 299)])).length) Slot.unset).toArray = ls at hl ⊢
  have hl : lv_has ls 3 [(0, .ref b), (1, .ref (ad 199)), (2, .ref (ad 299))] := hl
  have hf : (ob2 (t_begins I A R G 13) fun (I1 : Nat → Int32) (A2 : Nat → Nat → Int32) =>
    ob3 (t12p_size I1 A2 R G pl n ks z) fun (v3 : Int32) (I4 : Nat → Int32) (A5 : Nat → Nat → Int32) =>
    some (v3 - 100, I4, A5)) = some (r, I1, A1) := hf
  refine lv_aload_n hx hb dX12_size_0 rfl (lv_at hl 1 rfl) ?_
  refine lv_bipush (v := 13) hx hb dX12_size_1 (by decide) ?_
  obtain ⟨I1, A2, h2, hf⟩ := ob2_e hf
  refine x_vW (ov := none) (D := D) (s0 := s0) (Sc := tS) (adc := ad) (Ic := I) (Ac := A) (Rc := R) (Gc := G) (Xc := X) (base := base) (As := [.int 13]) (rest := []) (Ic1 := I1) (Ac1 := A2) (Rc1 := R) (Gc1 := G) (Xc1 := X) (b := ad 199) (C := RX2) ⟨hx, hb, hml, hown, hts⟩ (t_begins_met l D s0 h0 ad X base hAP I A R G 13 I1 A2 h2) (g_cwV 1 hts (lw_V q1174 q1118 q1119 q81 q1120) rfl rfl t_begins_ds ⟨Nat.le_trans (Nat.le_of_ble_eq_true rfl) hRf, Nat.le_trans (Nat.le_of_ble_eq_true rfl) hRl⟩) (x_recv hK hW tO199 rfl) hK hY (Nat.le_trans hB0 hS.1) hW hS hcs rfl hl.1 rfl (Nat.le_of_ble_eq_true rfl) dX12_size_3 (fun H locs hW hS => ?_)
  refine lv_aload_n hx hb dX12_size_6 rfl (lv_at hl 0 rfl) ?_
  refine lv_aload_n hx hb dX12_size_7 rfl (lv_at hl 1 rfl) ?_
  refine lv_aload_n hx hb dX12_size_8 rfl (lv_at hl 2 rfl) ?_
  obtain ⟨v3, I4, A5, h5, hf⟩ := ob3_e hf
  refine x_suW (ov := some (.int v3)) (D := D) (s0 := s0) (Sc := tS) (adc := ad) (Ic := I1) (Ac := A2) (Rc := R) (Gc := G) (Xc := X) (base := base) (As := [.ref (ad 199), .ref (ad 299)]) (rest := []) (Ic1 := I4) (Ac1 := A5) (Rc1 := R) (Gc1 := G) (Xc1 := X) (b := b) (C := RX12) (x_cls hK (ci := 11) rfl) ⟨hx, hb, hml, hown, hts⟩ (t12p_size_met l D s0 h0 ad X base hAP I1 A2 R G pl n ks z hR b hm v3 I4 A5 h5) (va_cwSU 2 hts (lw_SU q1175 q1113 q658 q1112 q97 q1183) rfl rfl rfl (by decide +kernel) ⟨Nat.le_trans (Nat.le_of_ble_eq_true rfl) hRf, Nat.le_trans (Nat.le_of_ble_eq_true rfl) hRl⟩) (x_recvD (ci := 11) hK hW hm rfl) hK hY (Nat.le_trans hB0 hS.1) hW hS hcs rfl hl.1 rfl (Nat.le_of_ble_eq_true rfl) dX12_size_9 (fun H locs hW hS => ?_)
  refine lv_bipush (v := 100) hx hb dX12_size_12 (by decide) ?_
  refine lv_isub hx hb dX12_size_14 ?_
  obtain ⟨rfl, rfl, rfl⟩ := so3 hf
  exact W.iret hx hb hr (fun t ht _ => ⟨rfl, by rw [ht]; exact hW, hS.F ht⟩) hS.2.2 dX12_size_15
theorem t12h_size_ds : yX12_size.cls = RX12 ∧ yX12_size.cls ≠ "java/lang/invoke/MethodHandle" ∧ yX12_size.cls ≠ "java/lang/invoke/VarHandle" ∧ (parseMethodDescriptor yX12_size.desc).map (fun d => d.parameters.length) = some 2 := by decide +kernel
def t13h_size (I : Nat → Int32) (A : Nat → Nat → Int32) (R : Nat → Option Nat) (G : Nat → Nat → Option Nat) (pl n : Nat) (ks : Nat → Nat) (z : Int32) : Option (Int32 × (Nat → Int32) × (Nat → Nat → Int32)) :=
  ob2 (t_begins I A R G 13) fun (I1 : Nat → Int32) (A2 : Nat → Nat → Int32) =>
  ob3 (t13p_size I1 A2 R G pl n ks z) fun (v3 : Int32) (I4 : Nat → Int32) (A5 : Nat → Nat → Int32) =>
  some (v3 - 100, I4, A5)
set_option maxRecDepth 100000 in
set_option maxHeartbeats 4000000 in
theorem t13h_size_met (l : Launch) (D : dd_) (s0 : State) (h0 : ∀ w ∈ lw_tbl, va_Nw w s0) (ad : Nat → Nat) (X : va_W) (base : Nat) (hAP : AP tS ad X base) (I : Nat → Int32) (A : Nat → Nat → Int32) (R : Nat → Option Nat) (G : Nat → Nat → Option Nat) (pl n : Nat) (ks : Nat → Nat) (z : Int32) (hR : RegX D X pl n ks) (hDW : DW s0) (b : Nat) (hm : (b, Sum.inr (12, [.int z])) ∈ X) (r : Int32) (I1 : (Nat → Int32)) (A1 : (Nat → Nat → Int32)) (hf : t13h_size I A R G pl n ks z  = some (r, I1, A1)) : Met l yX12_size (ws_ yX12_size cX12_size 3 (some .int)) ({ frames := 8, cells := 0, slots := 0, locals := 184 }) (PcX D s0 tS ad I A R G X base [.ref b, .ref (ad 199), .ref (ad 299)]) (QcX D tS ad I1 A1 R G X base (some (.int r))) 0 0 (upB base) := by
  refine Met.ofW (cc := cX12_size) (maxL := 3) (ret := (some .int)) (by decide) rfl ?_
  intro p e s m args below meth c s₁ B hml hv
  obtain ⟨rfl, hK, hY, hB0, hW⟩ := hv
  have hx := B.exec
  have hb := B.bytes
  have hr := B.returns
  have hts := atoms_spec (ws := (ws_ yX12_size cX12_size 3 (some .int))) B.pre
  have hts : ∀ w ∈ lw_all, w.before _ s = true := fun w h => hts w (List.mem_cons_of_mem _ h)
  have hown : s.vm.findClass RX12 = some m.cls := findClass_of_methodNamed B.named
  have hlocks := B.notSynchronized
  have hRf : 8 ≤ (headSpec (ws_ yX12_size cX12_size 3 (some .int)) ({ frames := 8, cells := 0, slots := 0, locals := 184 })).room.frames := Nat.le_refl _
  have hRl : 184 ≤ (headSpec (ws_ yX12_size cX12_size 3 (some .int)) ({ frames := 8, cells := 0, slots := 0, locals := 184 })).room.locals := Nat.le_refl _
  have hcs : 0 ≤ (headSpec (ws_ yX12_size cX12_size 3 (some .int)) ({ frames := 8, cells := 0, slots := 0, locals := 184 })).room.cells ∧ 0 ≤ (headSpec (ws_ yX12_size cX12_size 3 (some .int)) ({ frames := 8, cells := 0, slots := 0, locals := 184 })).room.slots := ⟨Nat.zero_le _, Nat.zero_le _⟩
  have hS : va_S (upB base) s.heap s.heap [] := va_S.rf
  have hl := lv_entry ([.ref b, .ref (ad 199), .ref (ad 299)]) (n := 3) (Nat.le_of_ble_eq_true rfl)
  rw [lg_entry_eq]
  generalize (lg_sl ([.ref b, .ref (ad 199), .ref (ad 299)]) ++ List.replicate (3 - (lg_sl ([.ref b, .ref (ad 199), .ref (ad 299)])).length) Slot.unset).toArray = ls at hl ⊢
  have hl : lv_has ls 3 [(0, .ref b), (1, .ref (ad 199)), (2, .ref (ad 299))] := hl
  have hf : (ob2 (t_begins I A R G 13) fun (I1 : Nat → Int32) (A2 : Nat → Nat → Int32) =>
    ob3 (t13p_size I1 A2 R G pl n ks z) fun (v3 : Int32) (I4 : Nat → Int32) (A5 : Nat → Nat → Int32) =>
    some (v3 - 100, I4, A5)) = some (r, I1, A1) := hf
  refine lv_aload_n hx hb dX12_size_0 rfl (lv_at hl 1 rfl) ?_
  refine lv_bipush (v := 13) hx hb dX12_size_1 (by decide) ?_
  obtain ⟨I1, A2, h2, hf⟩ := ob2_e hf
  refine x_vW (ov := none) (D := D) (s0 := s0) (Sc := tS) (adc := ad) (Ic := I) (Ac := A) (Rc := R) (Gc := G) (Xc := X) (base := base) (As := [.int 13]) (rest := []) (Ic1 := I1) (Ac1 := A2) (Rc1 := R) (Gc1 := G) (Xc1 := X) (b := ad 199) (C := RX2) ⟨hx, hb, hml, hown, hts⟩ (t_begins_met l D s0 h0 ad X base hAP I A R G 13 I1 A2 h2) (g_cwV 1 hts (lw_V q1174 q1118 q1119 q81 q1120) rfl rfl t_begins_ds ⟨Nat.le_trans (Nat.le_of_ble_eq_true rfl) hRf, Nat.le_trans (Nat.le_of_ble_eq_true rfl) hRl⟩) (x_recv hK hW tO199 rfl) hK hY (Nat.le_trans hB0 hS.1) hW hS hcs rfl hl.1 rfl (Nat.le_of_ble_eq_true rfl) dX12_size_3 (fun H locs hW hS => ?_)
  refine lv_aload_n hx hb dX12_size_6 rfl (lv_at hl 0 rfl) ?_
  refine lv_aload_n hx hb dX12_size_7 rfl (lv_at hl 1 rfl) ?_
  refine lv_aload_n hx hb dX12_size_8 rfl (lv_at hl 2 rfl) ?_
  obtain ⟨v3, I4, A5, h5, hf⟩ := ob3_e hf
  refine x_suW (ov := some (.int v3)) (D := D) (s0 := s0) (Sc := tS) (adc := ad) (Ic := I1) (Ac := A2) (Rc := R) (Gc := G) (Xc := X) (base := base) (As := [.ref (ad 199), .ref (ad 299)]) (rest := []) (Ic1 := I4) (Ac1 := A5) (Rc1 := R) (Gc1 := G) (Xc1 := X) (b := b) (C := RX13) (x_cls hK (ci := 12) rfl) ⟨hx, hb, hml, hown, hts⟩ (t13p_size_met l D s0 h0 ad X base hAP I1 A2 R G pl n ks z hR b hm v3 I4 A5 h5) (va_cwSU 2 hts (lw_SU q1175 q1113 q658 q1112 q97 q1183) rfl rfl rfl (by decide +kernel) ⟨Nat.le_trans (Nat.le_of_ble_eq_true rfl) hRf, Nat.le_trans (Nat.le_of_ble_eq_true rfl) hRl⟩) (x_recvD (ci := 12) hK hW hm rfl) hK hY (Nat.le_trans hB0 hS.1) hW hS hcs rfl hl.1 rfl (Nat.le_of_ble_eq_true rfl) dX12_size_9 (fun H locs hW hS => ?_)
  refine lv_bipush (v := 100) hx hb dX12_size_12 (by decide) ?_
  refine lv_isub hx hb dX12_size_14 ?_
  obtain ⟨rfl, rfl, rfl⟩ := so3 hf
  exact W.iret hx hb hr (fun t ht _ => ⟨rfl, by rw [ht]; exact hW, hS.F ht⟩) hS.2.2 dX12_size_15
theorem t13h_size_ds : yX12_size.cls = RX12 ∧ yX12_size.cls ≠ "java/lang/invoke/MethodHandle" ∧ yX12_size.cls ≠ "java/lang/invoke/VarHandle" ∧ (parseMethodDescriptor yX12_size.desc).map (fun d => d.parameters.length) = some 2 := by decide +kernel
def t13i_size (I : Nat → Int32) (A : Nat → Nat → Int32) (R : Nat → Option Nat) (G : Nat → Nat → Option Nat) (pl n : Nat) (ks : Nat → Nat) (z : Int32) : Option (Int32 × (Nat → Int32) × (Nat → Nat → Int32)) :=
  ob2 (t_begins I A R G 14) fun (I1 : Nat → Int32) (A2 : Nat → Nat → Int32) =>
  ob3 (t13h_size I1 A2 R G pl n ks z) fun (v3 : Int32) (I4 : Nat → Int32) (A5 : Nat → Nat → Int32) =>
  some (2 * v3, I4, A5)
set_option maxRecDepth 100000 in
set_option maxHeartbeats 4000000 in
theorem t13i_size_met (l : Launch) (D : dd_) (s0 : State) (h0 : ∀ w ∈ lw_tbl, va_Nw w s0) (ad : Nat → Nat) (X : va_W) (base : Nat) (hAP : AP tS ad X base) (I : Nat → Int32) (A : Nat → Nat → Int32) (R : Nat → Option Nat) (G : Nat → Nat → Option Nat) (pl n : Nat) (ks : Nat → Nat) (z : Int32) (hR : RegX D X pl n ks) (hDW : DW s0) (b : Nat) (hm : (b, Sum.inr (12, [.int z])) ∈ X) (r : Int32) (I1 : (Nat → Int32)) (A1 : (Nat → Nat → Int32)) (hf : t13i_size I A R G pl n ks z  = some (r, I1, A1)) : Met l yX13_size (ws_ yX13_size cX13_size 3 (some .int)) ({ frames := 9, cells := 0, slots := 0, locals := 206 }) (PcX D s0 tS ad I A R G X base [.ref b, .ref (ad 199), .ref (ad 299)]) (QcX D tS ad I1 A1 R G X base (some (.int r))) 0 0 (upB base) := by
  refine Met.ofW (cc := cX13_size) (maxL := 3) (ret := (some .int)) (by decide) rfl ?_
  intro p e s m args below meth c s₁ B hml hv
  obtain ⟨rfl, hK, hY, hB0, hW⟩ := hv
  have hx := B.exec
  have hb := B.bytes
  have hr := B.returns
  have hts := atoms_spec (ws := (ws_ yX13_size cX13_size 3 (some .int))) B.pre
  have hts : ∀ w ∈ lw_all, w.before _ s = true := fun w h => hts w (List.mem_cons_of_mem _ h)
  have hown : s.vm.findClass RX13 = some m.cls := findClass_of_methodNamed B.named
  have hlocks := B.notSynchronized
  have hRf : 9 ≤ (headSpec (ws_ yX13_size cX13_size 3 (some .int)) ({ frames := 9, cells := 0, slots := 0, locals := 206 })).room.frames := Nat.le_refl _
  have hRl : 206 ≤ (headSpec (ws_ yX13_size cX13_size 3 (some .int)) ({ frames := 9, cells := 0, slots := 0, locals := 206 })).room.locals := Nat.le_refl _
  have hcs : 0 ≤ (headSpec (ws_ yX13_size cX13_size 3 (some .int)) ({ frames := 9, cells := 0, slots := 0, locals := 206 })).room.cells ∧ 0 ≤ (headSpec (ws_ yX13_size cX13_size 3 (some .int)) ({ frames := 9, cells := 0, slots := 0, locals := 206 })).room.slots := ⟨Nat.zero_le _, Nat.zero_le _⟩
  have hS : va_S (upB base) s.heap s.heap [] := va_S.rf
  have hl := lv_entry ([.ref b, .ref (ad 199), .ref (ad 299)]) (n := 3) (Nat.le_of_ble_eq_true rfl)
  rw [lg_entry_eq]
  generalize (lg_sl ([.ref b, .ref (ad 199), .ref (ad 299)]) ++ List.replicate (3 - (lg_sl ([.ref b, .ref (ad 199), .ref (ad 299)])).length) Slot.unset).toArray = ls at hl ⊢
  have hl : lv_has ls 3 [(0, .ref b), (1, .ref (ad 199)), (2, .ref (ad 299))] := hl
  have hf : (ob2 (t_begins I A R G 14) fun (I1 : Nat → Int32) (A2 : Nat → Nat → Int32) =>
    ob3 (t13h_size I1 A2 R G pl n ks z) fun (v3 : Int32) (I4 : Nat → Int32) (A5 : Nat → Nat → Int32) =>
    some (2 * v3, I4, A5)) = some (r, I1, A1) := hf
  refine lv_aload_n hx hb dX13_size_0 rfl (lv_at hl 1 rfl) ?_
  refine lv_bipush (v := 14) hx hb dX13_size_1 (by decide) ?_
  obtain ⟨I1, A2, h2, hf⟩ := ob2_e hf
  refine x_vW (ov := none) (D := D) (s0 := s0) (Sc := tS) (adc := ad) (Ic := I) (Ac := A) (Rc := R) (Gc := G) (Xc := X) (base := base) (As := [.int 14]) (rest := []) (Ic1 := I1) (Ac1 := A2) (Rc1 := R) (Gc1 := G) (Xc1 := X) (b := ad 199) (C := RX2) ⟨hx, hb, hml, hown, hts⟩ (t_begins_met l D s0 h0 ad X base hAP I A R G 14 I1 A2 h2) (g_cwV 1 hts (lw_V q1180 q1118 q1119 q81 q1120) rfl rfl t_begins_ds ⟨Nat.le_trans (Nat.le_of_ble_eq_true rfl) hRf, Nat.le_trans (Nat.le_of_ble_eq_true rfl) hRl⟩) (x_recv hK hW tO199 rfl) hK hY (Nat.le_trans hB0 hS.1) hW hS hcs rfl hl.1 rfl (Nat.le_of_ble_eq_true rfl) dX13_size_3 (fun H locs hW hS => ?_)
  refine lv_iconst (v := 2) hx hb dX13_size_6 (by decide) ?_
  refine lv_aload_n hx hb dX13_size_7 rfl (lv_at hl 0 rfl) ?_
  refine lv_aload_n hx hb dX13_size_8 rfl (lv_at hl 1 rfl) ?_
  refine lv_aload_n hx hb dX13_size_9 rfl (lv_at hl 2 rfl) ?_
  obtain ⟨v3, I4, A5, h5, hf⟩ := ob3_e hf
  refine x_suW (ov := some (.int v3)) (D := D) (s0 := s0) (Sc := tS) (adc := ad) (Ic := I1) (Ac := A2) (Rc := R) (Gc := G) (Xc := X) (base := base) (As := [.ref (ad 199), .ref (ad 299)]) (rest := [.int 2]) (Ic1 := I4) (Ac1 := A5) (Rc1 := R) (Gc1 := G) (Xc1 := X) (b := b) (C := RX13) (x_cls hK (ci := 12) rfl) ⟨hx, hb, hml, hown, hts⟩ (t13h_size_met l D s0 h0 ad X base hAP I1 A2 R G pl n ks z hR hDW b hm v3 I4 A5 h5) (va_cwSU 2 hts (lw_SU q1181 q1650 q666 q1172 q101 q1173) rfl rfl rfl (by decide +kernel) ⟨Nat.le_trans (Nat.le_of_ble_eq_true rfl) hRf, Nat.le_trans (Nat.le_of_ble_eq_true rfl) hRl⟩) (x_recvD (ci := 12) hK hW hm rfl) hK hY (Nat.le_trans hB0 hS.1) hW hS hcs rfl hl.1 rfl (Nat.le_of_ble_eq_true rfl) dX13_size_10 (fun H locs hW hS => ?_)
  refine lv_imul hx hb dX13_size_13 ?_
  obtain ⟨rfl, rfl, rfl⟩ := so3 hf
  exact W.iret hx hb hr (fun t ht _ => ⟨rfl, by rw [ht]; exact hW, hS.F ht⟩) hS.2.2 dX13_size_14
theorem t13i_size_ds : yX13_size.cls = RX13 ∧ yX13_size.cls ≠ "java/lang/invoke/MethodHandle" ∧ yX13_size.cls ≠ "java/lang/invoke/VarHandle" ∧ (parseMethodDescriptor yX13_size.desc).map (fun d => d.parameters.length) = some 2 := by decide +kernel
def t12h_mark (I : Nat → Int32) (A : Nat → Nat → Int32) (R : Nat → Option Nat) (G : Nat → Nat → Option Nat) (pl n : Nat) (ks : Nat → Nat) (z : Int32) : Option (Int32 × (Nat → Int32) × (Nat → Nat → Int32)) :=
  ob2 (t_begins I A R G 23) fun (I1 : Nat → Int32) (A2 : Nat → Nat → Int32) =>
  ob3 (t12m_mark I1 A2 R G pl n ks z) fun (v3 : Int32) (I4 : Nat → Int32) (A5 : Nat → Nat → Int32) =>
  ob3 (t12h_size I4 A5 R G pl n ks z) fun (v6 : Int32) (I7 : Nat → Int32) (A8 : Nat → Nat → Int32) =>
  some (v3 - v6, I7, A8)
set_option maxRecDepth 100000 in
set_option maxHeartbeats 4000000 in
theorem t12h_mark_met (l : Launch) (D : dd_) (s0 : State) (h0 : ∀ w ∈ lw_tbl, va_Nw w s0) (ad : Nat → Nat) (X : va_W) (base : Nat) (hAP : AP tS ad X base) (I : Nat → Int32) (A : Nat → Nat → Int32) (R : Nat → Option Nat) (G : Nat → Nat → Option Nat) (pl n : Nat) (ks : Nat → Nat) (z : Int32) (hR : RegX D X pl n ks) (hDW : DW s0) (b : Nat) (hm : (b, Sum.inr (11, [.int z])) ∈ X) (r : Int32) (I1 : (Nat → Int32)) (A1 : (Nat → Nat → Int32)) (hf : t12h_mark I A R G pl n ks z  = some (r, I1, A1)) : Met l yX12_mark (ws_ yX12_mark cX12_mark 3 (some .int)) ({ frames := 9, cells := 0, slots := 0, locals := 206 }) (PcX D s0 tS ad I A R G X base [.ref b, .ref (ad 199), .ref (ad 299)]) (QcX D tS ad I1 A1 R G X base (some (.int r))) 0 0 (upB base) := by
  refine Met.ofW (cc := cX12_mark) (maxL := 3) (ret := (some .int)) (by decide) rfl ?_
  intro p e s m args below meth c s₁ B hml hv
  obtain ⟨rfl, hK, hY, hB0, hW⟩ := hv
  have hx := B.exec
  have hb := B.bytes
  have hr := B.returns
  have hts := atoms_spec (ws := (ws_ yX12_mark cX12_mark 3 (some .int))) B.pre
  have hts : ∀ w ∈ lw_all, w.before _ s = true := fun w h => hts w (List.mem_cons_of_mem _ h)
  have hown : s.vm.findClass RX12 = some m.cls := findClass_of_methodNamed B.named
  have hlocks := B.notSynchronized
  have hRf : 9 ≤ (headSpec (ws_ yX12_mark cX12_mark 3 (some .int)) ({ frames := 9, cells := 0, slots := 0, locals := 206 })).room.frames := Nat.le_refl _
  have hRl : 206 ≤ (headSpec (ws_ yX12_mark cX12_mark 3 (some .int)) ({ frames := 9, cells := 0, slots := 0, locals := 206 })).room.locals := Nat.le_refl _
  have hcs : 0 ≤ (headSpec (ws_ yX12_mark cX12_mark 3 (some .int)) ({ frames := 9, cells := 0, slots := 0, locals := 206 })).room.cells ∧ 0 ≤ (headSpec (ws_ yX12_mark cX12_mark 3 (some .int)) ({ frames := 9, cells := 0, slots := 0, locals := 206 })).room.slots := ⟨Nat.zero_le _, Nat.zero_le _⟩
  have hS : va_S (upB base) s.heap s.heap [] := va_S.rf
  have hl := lv_entry ([.ref b, .ref (ad 199), .ref (ad 299)]) (n := 3) (Nat.le_of_ble_eq_true rfl)
  rw [lg_entry_eq]
  generalize (lg_sl ([.ref b, .ref (ad 199), .ref (ad 299)]) ++ List.replicate (3 - (lg_sl ([.ref b, .ref (ad 199), .ref (ad 299)])).length) Slot.unset).toArray = ls at hl ⊢
  have hl : lv_has ls 3 [(0, .ref b), (1, .ref (ad 199)), (2, .ref (ad 299))] := hl
  have hf : (ob2 (t_begins I A R G 23) fun (I1 : Nat → Int32) (A2 : Nat → Nat → Int32) =>
    ob3 (t12m_mark I1 A2 R G pl n ks z) fun (v3 : Int32) (I4 : Nat → Int32) (A5 : Nat → Nat → Int32) =>
    ob3 (t12h_size I4 A5 R G pl n ks z) fun (v6 : Int32) (I7 : Nat → Int32) (A8 : Nat → Nat → Int32) =>
    some (v3 - v6, I7, A8)) = some (r, I1, A1) := hf
  refine lv_aload_n hx hb dX12_mark_0 rfl (lv_at hl 1 rfl) ?_
  refine lv_bipush (v := 23) hx hb dX12_mark_1 (by decide) ?_
  obtain ⟨I1, A2, h2, hf⟩ := ob2_e hf
  refine x_vW (ov := none) (D := D) (s0 := s0) (Sc := tS) (adc := ad) (Ic := I) (Ac := A) (Rc := R) (Gc := G) (Xc := X) (base := base) (As := [.int 23]) (rest := []) (Ic1 := I1) (Ac1 := A2) (Rc1 := R) (Gc1 := G) (Xc1 := X) (b := ad 199) (C := RX2) ⟨hx, hb, hml, hown, hts⟩ (t_begins_met l D s0 h0 ad X base hAP I A R G 23 I1 A2 h2) (g_cwV 1 hts (lw_V q1174 q1118 q1119 q81 q1120) rfl rfl t_begins_ds ⟨Nat.le_trans (Nat.le_of_ble_eq_true rfl) hRf, Nat.le_trans (Nat.le_of_ble_eq_true rfl) hRl⟩) (x_recv hK hW tO199 rfl) hK hY (Nat.le_trans hB0 hS.1) hW hS hcs rfl hl.1 rfl (Nat.le_of_ble_eq_true rfl) dX12_mark_3 (fun H locs hW hS => ?_)
  refine lv_aload_n hx hb dX12_mark_6 rfl (lv_at hl 0 rfl) ?_
  refine lv_aload_n hx hb dX12_mark_7 rfl (lv_at hl 1 rfl) ?_
  refine lv_aload_n hx hb dX12_mark_8 rfl (lv_at hl 2 rfl) ?_
  obtain ⟨v3, I4, A5, h5, hf⟩ := ob3_e hf
  refine x_sdW (owner := "PromisePounds$Marked") (x := mkP) (ov := some (.int v3)) (D := D) (s0 := s0) (Sc := tS) (adc := ad) (Ic := I1) (Ac := A2) (Rc := R) (Gc := G) (Xc := X) (base := base) (As := [.ref (ad 199), .ref (ad 299)]) (rest := []) (Ic1 := I4) (Ac1 := A5) (Rc1 := R) (Gc1 := G) (Xc1 := X) (b := b) (C := RX12) (x_cls hK (ci := 11) rfl) ⟨hx, hb, hml, hown, hts⟩ (t12m_mark_met l D s0 h0 ad X base hAP I1 A2 R G pl n ks z hR hDW b hm v3 I4 A5 h5) (va_cwD (owner := "PromisePounds$Marked") (x := mkP) 2 hts (lw_meth q1143) rfl rfl rfl (hDW.at hY).2.1 (hDW.at hY).2.2.2.1 (hDW.at hY).2.2.2.2 q658 q1142 (by decide +kernel) ⟨Nat.le_trans (Nat.le_of_ble_eq_true rfl) hRf, Nat.le_trans (Nat.le_of_ble_eq_true rfl) hRl⟩) (x_recvD (ci := 11) hK hW hm rfl) hK hY (Nat.le_trans hB0 hS.1) hW hS hcs rfl hl.1 rfl (Nat.le_of_ble_eq_true rfl) dX12_mark_9 (fun H locs hW hS => ?_)
  refine lv_aload_n hx hb dX12_mark_12 rfl (lv_at hl 0 rfl) ?_
  refine lv_aload_n hx hb dX12_mark_13 rfl (lv_at hl 1 rfl) ?_
  refine lv_aload_n hx hb dX12_mark_14 rfl (lv_at hl 2 rfl) ?_
  obtain ⟨v6, I7, A8, h8, hf⟩ := ob3_e hf
  refine x_uW (ov := some (.int v6)) (D := D) (s0 := s0) (Sc := tS) (adc := ad) (Ic := I4) (Ac := A5) (Rc := R) (Gc := G) (Xc := X) (base := base) (As := [.ref (ad 199), .ref (ad 299)]) (rest := [.int v3]) (Ic1 := I7) (Ac1 := A8) (Rc1 := R) (Gc1 := G) (Xc1 := X) (b := b) (C := RX12) ⟨hx, hb, hml, hown, hts⟩ (t12h_size_met l D s0 h0 ad X base hAP I4 A5 R G pl n ks z hR hDW b hm v6 I7 A8 h8) (va_cwU (owner := RX12) 2 hts (lw_U q1190 q1650 q1651 q1172 q101 q1173) rfl rfl rfl rfl (by decide +kernel) ⟨Nat.le_trans (Nat.le_of_ble_eq_true rfl) hRf, Nat.le_trans (Nat.le_of_ble_eq_true rfl) hRl⟩) (x_recvD (ci := 11) hK hW hm rfl) hK hY (Nat.le_trans hB0 hS.1) hW hS hcs rfl hl.1 rfl (Nat.le_of_ble_eq_true rfl) dX12_mark_15 (fun H locs hW hS => ?_)
  refine lv_isub hx hb dX12_mark_18 ?_
  obtain ⟨rfl, rfl, rfl⟩ := so3 hf
  exact W.iret hx hb hr (fun t ht _ => ⟨rfl, by rw [ht]; exact hW, hS.F ht⟩) hS.2.2 dX12_mark_19
theorem t12h_mark_ds : yX12_mark.cls = RX12 ∧ yX12_mark.cls ≠ "java/lang/invoke/MethodHandle" ∧ yX12_mark.cls ≠ "java/lang/invoke/VarHandle" ∧ (parseMethodDescriptor yX12_mark.desc).map (fun d => d.parameters.length) = some 2 := by decide +kernel
def t13h_mark (I : Nat → Int32) (A : Nat → Nat → Int32) (R : Nat → Option Nat) (G : Nat → Nat → Option Nat) (pl n : Nat) (ks : Nat → Nat) (z : Int32) : Option (Int32 × (Nat → Int32) × (Nat → Nat → Int32)) :=
  ob2 (t_begins I A R G 23) fun (I1 : Nat → Int32) (A2 : Nat → Nat → Int32) =>
  ob3 (t13m_mark I1 A2 R G pl n ks z) fun (v3 : Int32) (I4 : Nat → Int32) (A5 : Nat → Nat → Int32) =>
  ob3 (t13i_size I4 A5 R G pl n ks z) fun (v6 : Int32) (I7 : Nat → Int32) (A8 : Nat → Nat → Int32) =>
  some (v3 - v6, I7, A8)
set_option maxRecDepth 100000 in
set_option maxHeartbeats 4000000 in
theorem t13h_mark_met (l : Launch) (D : dd_) (s0 : State) (h0 : ∀ w ∈ lw_tbl, va_Nw w s0) (ad : Nat → Nat) (X : va_W) (base : Nat) (hAP : AP tS ad X base) (I : Nat → Int32) (A : Nat → Nat → Int32) (R : Nat → Option Nat) (G : Nat → Nat → Option Nat) (pl n : Nat) (ks : Nat → Nat) (z : Int32) (hR : RegX D X pl n ks) (hDW : DW s0) (b : Nat) (hm : (b, Sum.inr (12, [.int z])) ∈ X) (r : Int32) (I1 : (Nat → Int32)) (A1 : (Nat → Nat → Int32)) (hf : t13h_mark I A R G pl n ks z  = some (r, I1, A1)) : Met l yX12_mark (ws_ yX12_mark cX12_mark 3 (some .int)) ({ frames := 10, cells := 0, slots := 0, locals := 228 }) (PcX D s0 tS ad I A R G X base [.ref b, .ref (ad 199), .ref (ad 299)]) (QcX D tS ad I1 A1 R G X base (some (.int r))) 0 0 (upB base) := by
  refine Met.ofW (cc := cX12_mark) (maxL := 3) (ret := (some .int)) (by decide) rfl ?_
  intro p e s m args below meth c s₁ B hml hv
  obtain ⟨rfl, hK, hY, hB0, hW⟩ := hv
  have hx := B.exec
  have hb := B.bytes
  have hr := B.returns
  have hts := atoms_spec (ws := (ws_ yX12_mark cX12_mark 3 (some .int))) B.pre
  have hts : ∀ w ∈ lw_all, w.before _ s = true := fun w h => hts w (List.mem_cons_of_mem _ h)
  have hown : s.vm.findClass RX12 = some m.cls := findClass_of_methodNamed B.named
  have hlocks := B.notSynchronized
  have hRf : 10 ≤ (headSpec (ws_ yX12_mark cX12_mark 3 (some .int)) ({ frames := 10, cells := 0, slots := 0, locals := 228 })).room.frames := Nat.le_refl _
  have hRl : 228 ≤ (headSpec (ws_ yX12_mark cX12_mark 3 (some .int)) ({ frames := 10, cells := 0, slots := 0, locals := 228 })).room.locals := Nat.le_refl _
  have hcs : 0 ≤ (headSpec (ws_ yX12_mark cX12_mark 3 (some .int)) ({ frames := 10, cells := 0, slots := 0, locals := 228 })).room.cells ∧ 0 ≤ (headSpec (ws_ yX12_mark cX12_mark 3 (some .int)) ({ frames := 10, cells := 0, slots := 0, locals := 228 })).room.slots := ⟨Nat.zero_le _, Nat.zero_le _⟩
  have hS : va_S (upB base) s.heap s.heap [] := va_S.rf
  have hl := lv_entry ([.ref b, .ref (ad 199), .ref (ad 299)]) (n := 3) (Nat.le_of_ble_eq_true rfl)
  rw [lg_entry_eq]
  generalize (lg_sl ([.ref b, .ref (ad 199), .ref (ad 299)]) ++ List.replicate (3 - (lg_sl ([.ref b, .ref (ad 199), .ref (ad 299)])).length) Slot.unset).toArray = ls at hl ⊢
  have hl : lv_has ls 3 [(0, .ref b), (1, .ref (ad 199)), (2, .ref (ad 299))] := hl
  have hf : (ob2 (t_begins I A R G 23) fun (I1 : Nat → Int32) (A2 : Nat → Nat → Int32) =>
    ob3 (t13m_mark I1 A2 R G pl n ks z) fun (v3 : Int32) (I4 : Nat → Int32) (A5 : Nat → Nat → Int32) =>
    ob3 (t13i_size I4 A5 R G pl n ks z) fun (v6 : Int32) (I7 : Nat → Int32) (A8 : Nat → Nat → Int32) =>
    some (v3 - v6, I7, A8)) = some (r, I1, A1) := hf
  refine lv_aload_n hx hb dX12_mark_0 rfl (lv_at hl 1 rfl) ?_
  refine lv_bipush (v := 23) hx hb dX12_mark_1 (by decide) ?_
  obtain ⟨I1, A2, h2, hf⟩ := ob2_e hf
  refine x_vW (ov := none) (D := D) (s0 := s0) (Sc := tS) (adc := ad) (Ic := I) (Ac := A) (Rc := R) (Gc := G) (Xc := X) (base := base) (As := [.int 23]) (rest := []) (Ic1 := I1) (Ac1 := A2) (Rc1 := R) (Gc1 := G) (Xc1 := X) (b := ad 199) (C := RX2) ⟨hx, hb, hml, hown, hts⟩ (t_begins_met l D s0 h0 ad X base hAP I A R G 23 I1 A2 h2) (g_cwV 1 hts (lw_V q1174 q1118 q1119 q81 q1120) rfl rfl t_begins_ds ⟨Nat.le_trans (Nat.le_of_ble_eq_true rfl) hRf, Nat.le_trans (Nat.le_of_ble_eq_true rfl) hRl⟩) (x_recv hK hW tO199 rfl) hK hY (Nat.le_trans hB0 hS.1) hW hS hcs rfl hl.1 rfl (Nat.le_of_ble_eq_true rfl) dX12_mark_3 (fun H locs hW hS => ?_)
  refine lv_aload_n hx hb dX12_mark_6 rfl (lv_at hl 0 rfl) ?_
  refine lv_aload_n hx hb dX12_mark_7 rfl (lv_at hl 1 rfl) ?_
  refine lv_aload_n hx hb dX12_mark_8 rfl (lv_at hl 2 rfl) ?_
  obtain ⟨v3, I4, A5, h5, hf⟩ := ob3_e hf
  refine x_sdW (owner := "PromisePounds$Marked") (x := mkP) (ov := some (.int v3)) (D := D) (s0 := s0) (Sc := tS) (adc := ad) (Ic := I1) (Ac := A2) (Rc := R) (Gc := G) (Xc := X) (base := base) (As := [.ref (ad 199), .ref (ad 299)]) (rest := []) (Ic1 := I4) (Ac1 := A5) (Rc1 := R) (Gc1 := G) (Xc1 := X) (b := b) (C := RX13) (x_cls hK (ci := 12) rfl) ⟨hx, hb, hml, hown, hts⟩ (t13m_mark_met l D s0 h0 ad X base hAP I1 A2 R G pl n ks z hR hDW b hm v3 I4 A5 h5) (va_cwD (owner := "PromisePounds$Marked") (x := mkP) 2 hts (lw_meth q1143) rfl rfl rfl (hDW.at hY).2.1 (hDW.at hY).2.2.2.1 (hDW.at hY).2.2.2.2 q658 q1142 (by decide +kernel) ⟨Nat.le_trans (Nat.le_of_ble_eq_true rfl) hRf, Nat.le_trans (Nat.le_of_ble_eq_true rfl) hRl⟩) (x_recvD (ci := 12) hK hW hm rfl) hK hY (Nat.le_trans hB0 hS.1) hW hS hcs rfl hl.1 rfl (Nat.le_of_ble_eq_true rfl) dX12_mark_9 (fun H locs hW hS => ?_)
  refine lv_aload_n hx hb dX12_mark_12 rfl (lv_at hl 0 rfl) ?_
  refine lv_aload_n hx hb dX12_mark_13 rfl (lv_at hl 1 rfl) ?_
  refine lv_aload_n hx hb dX12_mark_14 rfl (lv_at hl 2 rfl) ?_
  obtain ⟨v6, I7, A8, h8, hf⟩ := ob3_e hf
  refine x_uW (ov := some (.int v6)) (D := D) (s0 := s0) (Sc := tS) (adc := ad) (Ic := I4) (Ac := A5) (Rc := R) (Gc := G) (Xc := X) (base := base) (As := [.ref (ad 199), .ref (ad 299)]) (rest := [.int v3]) (Ic1 := I7) (Ac1 := A8) (Rc1 := R) (Gc1 := G) (Xc1 := X) (b := b) (C := RX13) ⟨hx, hb, hml, hown, hts⟩ (t13i_size_met l D s0 h0 ad X base hAP I4 A5 R G pl n ks z hR hDW b hm v6 I7 A8 h8) (va_cwO (owner := RX12) 2 hts (lw_O q1190 q1650 q1172 q1652 q1178 q102 q1179) rfl rfl rfl q1173 (by decide +kernel) ⟨Nat.le_trans (Nat.le_of_ble_eq_true rfl) hRf, Nat.le_trans (Nat.le_of_ble_eq_true rfl) hRl⟩) (x_recvD (ci := 12) hK hW hm rfl) hK hY (Nat.le_trans hB0 hS.1) hW hS hcs rfl hl.1 rfl (Nat.le_of_ble_eq_true rfl) dX12_mark_15 (fun H locs hW hS => ?_)
  refine lv_isub hx hb dX12_mark_18 ?_
  obtain ⟨rfl, rfl, rfl⟩ := so3 hf
  exact W.iret hx hb hr (fun t ht _ => ⟨rfl, by rw [ht]; exact hW, hS.F ht⟩) hS.2.2 dX12_mark_19
theorem t13h_mark_ds : yX12_mark.cls = RX12 ∧ yX12_mark.cls ≠ "java/lang/invoke/MethodHandle" ∧ yX12_mark.cls ≠ "java/lang/invoke/VarHandle" ∧ (parseMethodDescriptor yX12_mark.desc).map (fun d => d.parameters.length) = some 2 := by decide +kernel
